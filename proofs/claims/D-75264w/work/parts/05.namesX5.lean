set_option maxRecDepth 100000
/-! BatchRenamerModel -/
def RX5 : String := "BatchRenamerModel"
def TX5 : u_T := fun k => match k with
  | 0 => ("BatchRenamerModel", "thrown", "I", false)
  | 1 => ("BatchRenamerModel", "rows", "[J", true)
  | 2 => ("BatchRenamerModel", "at", "I", false)
  | 3 => ("BatchRenamerModel", "edits", "I", false)
  | 4 => ("BatchRenamerModel", "firstEdit", "I", false)
  | 5 => ("BatchRenamerModel", "buffer", "[B", true)
  | 6 => ("BatchRenamerModel", "buffered", "I", false)
  | 7 => ("BatchRenamerModel", "errorOffset", "I", false)
  | 8 => ("BatchRenamerModel", "formatted", "[C", true)
  | 9 => ("BatchRenamerModel", "formattedLength", "I", false)
  | 10 => ("BatchRenamerModel", "textLength", "I", false)
  | 11 => ("BatchRenamerModel", "next", "I", false)
  | 12 => ("BatchRenamerModel", "tokenAt", "I", false)
  | 13 => ("BatchRenamerModel", "token", "I", false)
  | 14 => ("BatchRenamerModel", "wrongAt", "I", false)
  | 15 => ("BatchRenamerModel", "typed", "[J", true)
  | 16 => ("BatchRenamerModel", "capturedAt", "[I", true)
  | 17 => ("BatchRenamerModel", "captured", "[I", true)
  | 18 => ("BatchRenamerModel", "ruleOf", "[I", true)
  | 19 => ("BatchRenamerModel", "groupAt", "[I", true)
  | 20 => ("BatchRenamerModel", "groupLong", "[I", true)
  | 21 => ("BatchRenamerModel", "counters", "[I", true)
  | 22 => ("BatchRenamerModel", "newLong", "[I", true)
  | 23 => ("BatchRenamerModel", "newSigns", "[C", true)
  | 24 => ("BatchRenamerModel", "status", "[I", true)
  | 25 => ("BatchRenamerModel", "then", "[I", true)
  | 26 => ("BatchRenamerModel", "roundMany", "I", false)
  | 27 => ("BatchRenamerModel", "working", "[J", true)
  | 28 => ("BatchRenamerModel", "isThere", "[Z", true)
  | 29 => ("BatchRenamerModel", "isSpare", "[Z", true)
  | 30 => ("BatchRenamerModel", "stepMany", "I", false)
  | 31 => ("BatchRenamerModel", "stepFile", "[I", true)
  | 32 => ("BatchRenamerModel", "stepKind", "[I", true)
  | 33 => ("BatchRenamerModel", "before", "[J", true)
  | 34 => ("BatchRenamerModel", "behind", "[J", true)
  | _ => ("BatchRenamerModel", "spare", "[J", true)
def tyX5 : Nat → FieldType := fun k => match k with
  | 0 => .int
  | 1 => .array .long
  | 2 => .int
  | 3 => .int
  | 4 => .int
  | 5 => .array .byte
  | 6 => .int
  | 7 => .int
  | 8 => .array .char
  | 9 => .int
  | 10 => .int
  | 11 => .int
  | 12 => .int
  | 13 => .int
  | 14 => .int
  | 15 => .array .long
  | 16 => .array .int
  | 17 => .array .int
  | 18 => .array .int
  | 19 => .array .int
  | 20 => .array .int
  | 21 => .array .int
  | 22 => .array .int
  | 23 => .array .char
  | 24 => .array .int
  | 25 => .array .int
  | 26 => .int
  | 27 => .array .long
  | 28 => .array .boolean
  | 29 => .array .boolean
  | 30 => .int
  | 31 => .array .int
  | 32 => .array .int
  | 33 => .array .long
  | 34 => .array .long
  | _ => .array .long
abbrev wsX50 : List Cond := u_ws RX5 TX5 36
theorem nmX5 : ∀ a, a < 36 → ∀ b, b < 36 → a ≠ b → (TX5 a).2.1 ≠ (TX5 b).2.1 := by decide +kernel
theorem tyX5_ok : ∀ k, k < 36 → parseFieldDescriptor (TX5 k).2.2.1 = some (tyX5 k) := by decide +kernel
abbrev cX5_init : ByteArray := prog_17_method_1_code
def yX5_init : MethodName := ⟨RX5, "<init>", "()V"⟩
def dkwX5_init_8 : List UInt8 := [42, 4, 3, 182, 0, 87, 177]
abbrev dktX5_init_8 : List UInt8 := dkwX5_init_8 ++ []
def dkwX5_init_7 : List UInt8 := [42, 16, 90, 188, 11, 181, 0, 74, 42, 6, 188, 11, 181, 0, 77, 42, 2, 181, 0, 80, 42, 182, 0, 84]
abbrev dktX5_init_7 : List UInt8 := dkwX5_init_7 ++ dktX5_init_8
def dkwX5_init_6 : List UInt8 := [42, 16, 30, 188, 10, 181, 0, 65, 42, 16, 30, 188, 10, 181, 0, 68, 42, 16, 90, 188, 11, 181, 0, 71]
abbrev dktX5_init_6 : List UInt8 := dkwX5_init_6 ++ dktX5_init_7
def dkwX5_init_5 : List UInt8 := [42, 16, 60, 188, 11, 181, 0, 55, 42, 16, 20, 188, 4, 181, 0, 58, 42, 16, 20, 188, 4, 181, 0, 62]
abbrev dktX5_init_5 : List UInt8 := dkwX5_init_5 ++ dktX5_init_6
def dkwX5_init_4 : List UInt8 := [17, 15, 160, 188, 5, 181, 0, 46, 42, 16, 20, 188, 10, 181, 0, 49, 42, 16, 20, 188, 10, 181, 0, 52]
abbrev dktX5_init_4 : List UInt8 := dkwX5_init_4 ++ dktX5_init_5
def dkwX5_init_3 : List UInt8 := [188, 10, 181, 0, 37, 42, 16, 20, 188, 10, 181, 0, 40, 42, 16, 20, 188, 10, 181, 0, 43, 42]
abbrev dktX5_init_3 : List UInt8 := dkwX5_init_3 ++ dktX5_init_4
def dkwX5_init_2 : List UInt8 := [188, 10, 181, 0, 28, 42, 16, 20, 188, 10, 181, 0, 31, 42, 16, 20, 188, 10, 181, 0, 34, 42, 16, 20]
abbrev dktX5_init_2 : List UInt8 := dkwX5_init_2 ++ dktX5_init_3
def dkwX5_init_1 : List UInt8 := [17, 0, 250, 188, 5, 181, 0, 17, 42, 6, 188, 11, 181, 0, 21, 42, 7, 188, 10, 181, 0, 24, 42, 7]
abbrev dktX5_init_1 : List UInt8 := dkwX5_init_1 ++ dktX5_init_2
def dkwX5_init_0 : List UInt8 := [42, 183, 0, 1, 42, 17, 55, 92, 188, 11, 181, 0, 7, 42, 17, 2, 88, 188, 8, 181, 0, 13, 42]
abbrev dktX5_init_0 : List UInt8 := dkwX5_init_0 ++ dktX5_init_1
theorem dksX5_init_0 : cX5_init.data.toList.drop 0 = dktX5_init_0 := by decide +kernel
theorem dksX5_init_1 : cX5_init.data.toList.drop 23 = dktX5_init_1 := dk_seg dksX5_init_0 23 rfl rfl
theorem dksX5_init_2 : cX5_init.data.toList.drop 47 = dktX5_init_2 := dk_seg dksX5_init_1 24 rfl rfl
theorem dksX5_init_3 : cX5_init.data.toList.drop 71 = dktX5_init_3 := dk_seg dksX5_init_2 24 rfl rfl
theorem dksX5_init_4 : cX5_init.data.toList.drop 93 = dktX5_init_4 := dk_seg dksX5_init_3 22 rfl rfl
theorem dksX5_init_5 : cX5_init.data.toList.drop 117 = dktX5_init_5 := dk_seg dksX5_init_4 24 rfl rfl
theorem dksX5_init_6 : cX5_init.data.toList.drop 141 = dktX5_init_6 := dk_seg dksX5_init_5 24 rfl rfl
theorem dksX5_init_7 : cX5_init.data.toList.drop 165 = dktX5_init_7 := dk_seg dksX5_init_6 24 rfl rfl
theorem dksX5_init_8 : cX5_init.data.toList.drop 189 = dktX5_init_8 := dk_seg dksX5_init_7 24 rfl rfl
theorem dX5_init_0 : decode cX5_init 0 = .ok (.aload_n 0, 1) := dk_42 (dk_at dksX5_init_0 0 rfl rfl)
theorem dX5_init_1 : decode cX5_init 1 = .ok (.invokespecial 1, 3) := dk_183 0 1 (dk_at dksX5_init_0 1 rfl rfl)
theorem dX5_init_4 : decode cX5_init 4 = .ok (.aload_n 0, 1) := dk_42 (dk_at dksX5_init_0 4 rfl rfl)
theorem dX5_init_5 : decode cX5_init 5 = .ok (.sipush 14172, 3) := dk_17 55 92 (dk_at dksX5_init_0 5 rfl rfl)
theorem dX5_init_8 : decode cX5_init 8 = .ok (.newarray .long, 2) := dk_188_11 (dk_at dksX5_init_0 8 rfl rfl)
theorem dX5_init_10 : decode cX5_init 10 = .ok (.putfield 7, 3) := dk_181 0 7 (dk_at dksX5_init_0 10 rfl rfl)
theorem dX5_init_13 : decode cX5_init 13 = .ok (.aload_n 0, 1) := dk_42 (dk_at dksX5_init_0 13 rfl rfl)
theorem dX5_init_14 : decode cX5_init 14 = .ok (.sipush 600, 3) := dk_17 2 88 (dk_at dksX5_init_0 14 rfl rfl)
theorem dX5_init_17 : decode cX5_init 17 = .ok (.newarray .byte, 2) := dk_188_8 (dk_at dksX5_init_0 17 rfl rfl)
theorem dX5_init_19 : decode cX5_init 19 = .ok (.putfield 13, 3) := dk_181 0 13 (dk_at dksX5_init_0 19 rfl rfl)
theorem dX5_init_22 : decode cX5_init 22 = .ok (.aload_n 0, 1) := dk_42 (dk_at dksX5_init_0 22 rfl rfl)
theorem dX5_init_23 : decode cX5_init 23 = .ok (.sipush 250, 3) := dk_17 0 250 (dk_at dksX5_init_1 0 rfl rfl)
theorem dX5_init_26 : decode cX5_init 26 = .ok (.newarray .char, 2) := dk_188_5 (dk_at dksX5_init_1 3 rfl rfl)
theorem dX5_init_28 : decode cX5_init 28 = .ok (.putfield 17, 3) := dk_181 0 17 (dk_at dksX5_init_1 5 rfl rfl)
theorem dX5_init_31 : decode cX5_init 31 = .ok (.aload_n 0, 1) := dk_42 (dk_at dksX5_init_1 8 rfl rfl)
theorem dX5_init_32 : decode cX5_init 32 = .ok (.iconst 3, 1) := dk_6 (dk_at dksX5_init_1 9 rfl rfl)
theorem dX5_init_33 : decode cX5_init 33 = .ok (.newarray .long, 2) := dk_188_11 (dk_at dksX5_init_1 10 rfl rfl)
theorem dX5_init_35 : decode cX5_init 35 = .ok (.putfield 21, 3) := dk_181 0 21 (dk_at dksX5_init_1 12 rfl rfl)
theorem dX5_init_38 : decode cX5_init 38 = .ok (.aload_n 0, 1) := dk_42 (dk_at dksX5_init_1 15 rfl rfl)
theorem dX5_init_39 : decode cX5_init 39 = .ok (.iconst 4, 1) := dk_7 (dk_at dksX5_init_1 16 rfl rfl)
theorem dX5_init_40 : decode cX5_init 40 = .ok (.newarray .int, 2) := dk_188_10 (dk_at dksX5_init_1 17 rfl rfl)
theorem dX5_init_42 : decode cX5_init 42 = .ok (.putfield 24, 3) := dk_181 0 24 (dk_at dksX5_init_1 19 rfl rfl)
theorem dX5_init_45 : decode cX5_init 45 = .ok (.aload_n 0, 1) := dk_42 (dk_at dksX5_init_1 22 rfl rfl)
theorem dX5_init_46 : decode cX5_init 46 = .ok (.iconst 4, 1) := dk_7 (dk_at dksX5_init_1 23 rfl rfl)
theorem dX5_init_47 : decode cX5_init 47 = .ok (.newarray .int, 2) := dk_188_10 (dk_at dksX5_init_2 0 rfl rfl)
theorem dX5_init_49 : decode cX5_init 49 = .ok (.putfield 28, 3) := dk_181 0 28 (dk_at dksX5_init_2 2 rfl rfl)
theorem dX5_init_52 : decode cX5_init 52 = .ok (.aload_n 0, 1) := dk_42 (dk_at dksX5_init_2 5 rfl rfl)
theorem dX5_init_53 : decode cX5_init 53 = .ok (.bipush 20, 2) := dk_16 20 (dk_at dksX5_init_2 6 rfl rfl)
theorem dX5_init_55 : decode cX5_init 55 = .ok (.newarray .int, 2) := dk_188_10 (dk_at dksX5_init_2 8 rfl rfl)
theorem dX5_init_57 : decode cX5_init 57 = .ok (.putfield 31, 3) := dk_181 0 31 (dk_at dksX5_init_2 10 rfl rfl)
theorem dX5_init_60 : decode cX5_init 60 = .ok (.aload_n 0, 1) := dk_42 (dk_at dksX5_init_2 13 rfl rfl)
theorem dX5_init_61 : decode cX5_init 61 = .ok (.bipush 20, 2) := dk_16 20 (dk_at dksX5_init_2 14 rfl rfl)
theorem dX5_init_63 : decode cX5_init 63 = .ok (.newarray .int, 2) := dk_188_10 (dk_at dksX5_init_2 16 rfl rfl)
theorem dX5_init_65 : decode cX5_init 65 = .ok (.putfield 34, 3) := dk_181 0 34 (dk_at dksX5_init_2 18 rfl rfl)
theorem dX5_init_68 : decode cX5_init 68 = .ok (.aload_n 0, 1) := dk_42 (dk_at dksX5_init_2 21 rfl rfl)
theorem dX5_init_69 : decode cX5_init 69 = .ok (.bipush 20, 2) := dk_16 20 (dk_at dksX5_init_2 22 rfl rfl)
theorem dX5_init_71 : decode cX5_init 71 = .ok (.newarray .int, 2) := dk_188_10 (dk_at dksX5_init_3 0 rfl rfl)
theorem dX5_init_73 : decode cX5_init 73 = .ok (.putfield 37, 3) := dk_181 0 37 (dk_at dksX5_init_3 2 rfl rfl)
theorem dX5_init_76 : decode cX5_init 76 = .ok (.aload_n 0, 1) := dk_42 (dk_at dksX5_init_3 5 rfl rfl)
theorem dX5_init_77 : decode cX5_init 77 = .ok (.bipush 20, 2) := dk_16 20 (dk_at dksX5_init_3 6 rfl rfl)
theorem dX5_init_79 : decode cX5_init 79 = .ok (.newarray .int, 2) := dk_188_10 (dk_at dksX5_init_3 8 rfl rfl)
theorem dX5_init_81 : decode cX5_init 81 = .ok (.putfield 40, 3) := dk_181 0 40 (dk_at dksX5_init_3 10 rfl rfl)
theorem dX5_init_84 : decode cX5_init 84 = .ok (.aload_n 0, 1) := dk_42 (dk_at dksX5_init_3 13 rfl rfl)
theorem dX5_init_85 : decode cX5_init 85 = .ok (.bipush 20, 2) := dk_16 20 (dk_at dksX5_init_3 14 rfl rfl)
theorem dX5_init_87 : decode cX5_init 87 = .ok (.newarray .int, 2) := dk_188_10 (dk_at dksX5_init_3 16 rfl rfl)
theorem dX5_init_89 : decode cX5_init 89 = .ok (.putfield 43, 3) := dk_181 0 43 (dk_at dksX5_init_3 18 rfl rfl)
theorem dX5_init_92 : decode cX5_init 92 = .ok (.aload_n 0, 1) := dk_42 (dk_at dksX5_init_3 21 rfl rfl)
theorem dX5_init_93 : decode cX5_init 93 = .ok (.sipush 4000, 3) := dk_17 15 160 (dk_at dksX5_init_4 0 rfl rfl)
theorem dX5_init_96 : decode cX5_init 96 = .ok (.newarray .char, 2) := dk_188_5 (dk_at dksX5_init_4 3 rfl rfl)
theorem dX5_init_98 : decode cX5_init 98 = .ok (.putfield 46, 3) := dk_181 0 46 (dk_at dksX5_init_4 5 rfl rfl)
theorem dX5_init_101 : decode cX5_init 101 = .ok (.aload_n 0, 1) := dk_42 (dk_at dksX5_init_4 8 rfl rfl)
theorem dX5_init_102 : decode cX5_init 102 = .ok (.bipush 20, 2) := dk_16 20 (dk_at dksX5_init_4 9 rfl rfl)
theorem dX5_init_104 : decode cX5_init 104 = .ok (.newarray .int, 2) := dk_188_10 (dk_at dksX5_init_4 11 rfl rfl)
theorem dX5_init_106 : decode cX5_init 106 = .ok (.putfield 49, 3) := dk_181 0 49 (dk_at dksX5_init_4 13 rfl rfl)
theorem dX5_init_109 : decode cX5_init 109 = .ok (.aload_n 0, 1) := dk_42 (dk_at dksX5_init_4 16 rfl rfl)
theorem dX5_init_110 : decode cX5_init 110 = .ok (.bipush 20, 2) := dk_16 20 (dk_at dksX5_init_4 17 rfl rfl)
theorem dX5_init_112 : decode cX5_init 112 = .ok (.newarray .int, 2) := dk_188_10 (dk_at dksX5_init_4 19 rfl rfl)
theorem dX5_init_114 : decode cX5_init 114 = .ok (.putfield 52, 3) := dk_181 0 52 (dk_at dksX5_init_4 21 rfl rfl)
theorem dX5_init_117 : decode cX5_init 117 = .ok (.aload_n 0, 1) := dk_42 (dk_at dksX5_init_5 0 rfl rfl)
theorem dX5_init_118 : decode cX5_init 118 = .ok (.bipush 60, 2) := dk_16 60 (dk_at dksX5_init_5 1 rfl rfl)
theorem dX5_init_120 : decode cX5_init 120 = .ok (.newarray .long, 2) := dk_188_11 (dk_at dksX5_init_5 3 rfl rfl)
theorem dX5_init_122 : decode cX5_init 122 = .ok (.putfield 55, 3) := dk_181 0 55 (dk_at dksX5_init_5 5 rfl rfl)
theorem dX5_init_125 : decode cX5_init 125 = .ok (.aload_n 0, 1) := dk_42 (dk_at dksX5_init_5 8 rfl rfl)
theorem dX5_init_126 : decode cX5_init 126 = .ok (.bipush 20, 2) := dk_16 20 (dk_at dksX5_init_5 9 rfl rfl)
theorem dX5_init_128 : decode cX5_init 128 = .ok (.newarray .boolean, 2) := dk_188_4 (dk_at dksX5_init_5 11 rfl rfl)
theorem dX5_init_130 : decode cX5_init 130 = .ok (.putfield 58, 3) := dk_181 0 58 (dk_at dksX5_init_5 13 rfl rfl)
theorem dX5_init_133 : decode cX5_init 133 = .ok (.aload_n 0, 1) := dk_42 (dk_at dksX5_init_5 16 rfl rfl)
theorem dX5_init_134 : decode cX5_init 134 = .ok (.bipush 20, 2) := dk_16 20 (dk_at dksX5_init_5 17 rfl rfl)
theorem dX5_init_136 : decode cX5_init 136 = .ok (.newarray .boolean, 2) := dk_188_4 (dk_at dksX5_init_5 19 rfl rfl)
theorem dX5_init_138 : decode cX5_init 138 = .ok (.putfield 62, 3) := dk_181 0 62 (dk_at dksX5_init_5 21 rfl rfl)
theorem dX5_init_141 : decode cX5_init 141 = .ok (.aload_n 0, 1) := dk_42 (dk_at dksX5_init_6 0 rfl rfl)
theorem dX5_init_142 : decode cX5_init 142 = .ok (.bipush 30, 2) := dk_16 30 (dk_at dksX5_init_6 1 rfl rfl)
theorem dX5_init_144 : decode cX5_init 144 = .ok (.newarray .int, 2) := dk_188_10 (dk_at dksX5_init_6 3 rfl rfl)
theorem dX5_init_146 : decode cX5_init 146 = .ok (.putfield 65, 3) := dk_181 0 65 (dk_at dksX5_init_6 5 rfl rfl)
theorem dX5_init_149 : decode cX5_init 149 = .ok (.aload_n 0, 1) := dk_42 (dk_at dksX5_init_6 8 rfl rfl)
theorem dX5_init_150 : decode cX5_init 150 = .ok (.bipush 30, 2) := dk_16 30 (dk_at dksX5_init_6 9 rfl rfl)
theorem dX5_init_152 : decode cX5_init 152 = .ok (.newarray .int, 2) := dk_188_10 (dk_at dksX5_init_6 11 rfl rfl)
theorem dX5_init_154 : decode cX5_init 154 = .ok (.putfield 68, 3) := dk_181 0 68 (dk_at dksX5_init_6 13 rfl rfl)
theorem dX5_init_157 : decode cX5_init 157 = .ok (.aload_n 0, 1) := dk_42 (dk_at dksX5_init_6 16 rfl rfl)
theorem dX5_init_158 : decode cX5_init 158 = .ok (.bipush 90, 2) := dk_16 90 (dk_at dksX5_init_6 17 rfl rfl)
theorem dX5_init_160 : decode cX5_init 160 = .ok (.newarray .long, 2) := dk_188_11 (dk_at dksX5_init_6 19 rfl rfl)
theorem dX5_init_162 : decode cX5_init 162 = .ok (.putfield 71, 3) := dk_181 0 71 (dk_at dksX5_init_6 21 rfl rfl)
theorem dX5_init_165 : decode cX5_init 165 = .ok (.aload_n 0, 1) := dk_42 (dk_at dksX5_init_7 0 rfl rfl)
theorem dX5_init_166 : decode cX5_init 166 = .ok (.bipush 90, 2) := dk_16 90 (dk_at dksX5_init_7 1 rfl rfl)
theorem dX5_init_168 : decode cX5_init 168 = .ok (.newarray .long, 2) := dk_188_11 (dk_at dksX5_init_7 3 rfl rfl)
theorem dX5_init_170 : decode cX5_init 170 = .ok (.putfield 74, 3) := dk_181 0 74 (dk_at dksX5_init_7 5 rfl rfl)
theorem dX5_init_173 : decode cX5_init 173 = .ok (.aload_n 0, 1) := dk_42 (dk_at dksX5_init_7 8 rfl rfl)
theorem dX5_init_174 : decode cX5_init 174 = .ok (.iconst 3, 1) := dk_6 (dk_at dksX5_init_7 9 rfl rfl)
theorem dX5_init_175 : decode cX5_init 175 = .ok (.newarray .long, 2) := dk_188_11 (dk_at dksX5_init_7 10 rfl rfl)
theorem dX5_init_177 : decode cX5_init 177 = .ok (.putfield 77, 3) := dk_181 0 77 (dk_at dksX5_init_7 12 rfl rfl)
theorem dX5_init_180 : decode cX5_init 180 = .ok (.aload_n 0, 1) := dk_42 (dk_at dksX5_init_7 15 rfl rfl)
theorem dX5_init_181 : decode cX5_init 181 = .ok (.iconst (-1), 1) := dk_2 (dk_at dksX5_init_7 16 rfl rfl)
theorem dX5_init_182 : decode cX5_init 182 = .ok (.putfield 80, 3) := dk_181 0 80 (dk_at dksX5_init_7 17 rfl rfl)
theorem dX5_init_185 : decode cX5_init 185 = .ok (.aload_n 0, 1) := dk_42 (dk_at dksX5_init_7 20 rfl rfl)
theorem dX5_init_186 : decode cX5_init 186 = .ok (.invokevirtual 84, 3) := dk_182 0 84 (dk_at dksX5_init_7 21 rfl rfl)
theorem dX5_init_189 : decode cX5_init 189 = .ok (.aload_n 0, 1) := dk_42 (dk_at dksX5_init_8 0 rfl rfl)
theorem dX5_init_190 : decode cX5_init 190 = .ok (.iconst 1, 1) := dk_4 (dk_at dksX5_init_8 1 rfl rfl)
theorem dX5_init_191 : decode cX5_init 191 = .ok (.iconst 0, 1) := dk_3 (dk_at dksX5_init_8 2 rfl rfl)
theorem dX5_init_192 : decode cX5_init 192 = .ok (.invokevirtual 87, 3) := dk_182 0 87 (dk_at dksX5_init_8 3 rfl rfl)
theorem dX5_init_195 : decode cX5_init 195 = .ok (.return_, 1) := dk_177 (dk_at dksX5_init_8 6 rfl rfl)
abbrev cX5_beginReading : ByteArray := prog_17_method_52_code
def yX5_beginReading : MethodName := ⟨RX5, "beginReading", "()V"⟩
def dkwX5_beginReading_2 : List UInt8 := [180, 0, 7, 17, 4, 161, 10, 80, 177]
abbrev dktX5_beginReading_2 : List UInt8 := dkwX5_beginReading_2 ++ []
def dkwX5_beginReading_1 : List UInt8 := [167, 255, 235, 42, 180, 0, 7, 17, 4, 159, 10, 80, 42, 180, 0, 7, 17, 4, 160, 10, 80, 42]
abbrev dktX5_beginReading_1 : List UInt8 := dkwX5_beginReading_1 ++ dktX5_beginReading_2
def dkwX5_beginReading_0 : List UInt8 := [3, 60, 27, 17, 4, 157, 162, 0, 20, 42, 180, 0, 7, 17, 4, 157, 27, 96, 9, 80, 132, 1, 1]
abbrev dktX5_beginReading_0 : List UInt8 := dkwX5_beginReading_0 ++ dktX5_beginReading_1
theorem dksX5_beginReading_0 : cX5_beginReading.data.toList.drop 0 = dktX5_beginReading_0 := by decide +kernel
theorem dksX5_beginReading_1 : cX5_beginReading.data.toList.drop 23 = dktX5_beginReading_1 := dk_seg dksX5_beginReading_0 23 rfl rfl
theorem dksX5_beginReading_2 : cX5_beginReading.data.toList.drop 45 = dktX5_beginReading_2 := dk_seg dksX5_beginReading_1 22 rfl rfl
theorem dX5_beginReading_0 : decode cX5_beginReading 0 = .ok (.iconst 0, 1) := dk_3 (dk_at dksX5_beginReading_0 0 rfl rfl)
theorem dX5_beginReading_1 : decode cX5_beginReading 1 = .ok (.istore_n 1, 1) := dk_60 (dk_at dksX5_beginReading_0 1 rfl rfl)
theorem dX5_beginReading_2 : decode cX5_beginReading 2 = .ok (.iload_n 1, 1) := dk_27 (dk_at dksX5_beginReading_0 2 rfl rfl)
theorem dX5_beginReading_3 : decode cX5_beginReading 3 = .ok (.sipush 1181, 3) := dk_17 4 157 (dk_at dksX5_beginReading_0 3 rfl rfl)
theorem dX5_beginReading_6 : decode cX5_beginReading 6 = .ok (.if_icmp .ge 20, 3) := dk_162 0 20 (dk_at dksX5_beginReading_0 6 rfl rfl)
theorem dX5_beginReading_9 : decode cX5_beginReading 9 = .ok (.aload_n 0, 1) := dk_42 (dk_at dksX5_beginReading_0 9 rfl rfl)
theorem dX5_beginReading_10 : decode cX5_beginReading 10 = .ok (.getfield 7, 3) := dk_180 0 7 (dk_at dksX5_beginReading_0 10 rfl rfl)
theorem dX5_beginReading_13 : decode cX5_beginReading 13 = .ok (.sipush 1181, 3) := dk_17 4 157 (dk_at dksX5_beginReading_0 13 rfl rfl)
theorem dX5_beginReading_16 : decode cX5_beginReading 16 = .ok (.iload_n 1, 1) := dk_27 (dk_at dksX5_beginReading_0 16 rfl rfl)
theorem dX5_beginReading_17 : decode cX5_beginReading 17 = .ok (.iadd, 1) := dk_96 (dk_at dksX5_beginReading_0 17 rfl rfl)
theorem dX5_beginReading_18 : decode cX5_beginReading 18 = .ok (.lconst 0, 1) := dk_9 (dk_at dksX5_beginReading_0 18 rfl rfl)
theorem dX5_beginReading_19 : decode cX5_beginReading 19 = .ok (.lastore, 1) := dk_80 (dk_at dksX5_beginReading_0 19 rfl rfl)
theorem dX5_beginReading_20 : decode cX5_beginReading 20 = .ok (.iinc 1 1, 3) := dk_132 1 1 (dk_at dksX5_beginReading_0 20 rfl rfl)
theorem dX5_beginReading_23 : decode cX5_beginReading 23 = .ok (.goto (-21), 3) := dk_167 255 235 (dk_at dksX5_beginReading_1 0 rfl rfl)
theorem dX5_beginReading_26 : decode cX5_beginReading 26 = .ok (.aload_n 0, 1) := dk_42 (dk_at dksX5_beginReading_1 3 rfl rfl)
theorem dX5_beginReading_27 : decode cX5_beginReading 27 = .ok (.getfield 7, 3) := dk_180 0 7 (dk_at dksX5_beginReading_1 4 rfl rfl)
theorem dX5_beginReading_30 : decode cX5_beginReading 30 = .ok (.sipush 1183, 3) := dk_17 4 159 (dk_at dksX5_beginReading_1 7 rfl rfl)
theorem dX5_beginReading_33 : decode cX5_beginReading 33 = .ok (.lconst 1, 1) := dk_10 (dk_at dksX5_beginReading_1 10 rfl rfl)
theorem dX5_beginReading_34 : decode cX5_beginReading 34 = .ok (.lastore, 1) := dk_80 (dk_at dksX5_beginReading_1 11 rfl rfl)
theorem dX5_beginReading_35 : decode cX5_beginReading 35 = .ok (.aload_n 0, 1) := dk_42 (dk_at dksX5_beginReading_1 12 rfl rfl)
theorem dX5_beginReading_36 : decode cX5_beginReading 36 = .ok (.getfield 7, 3) := dk_180 0 7 (dk_at dksX5_beginReading_1 13 rfl rfl)
theorem dX5_beginReading_39 : decode cX5_beginReading 39 = .ok (.sipush 1184, 3) := dk_17 4 160 (dk_at dksX5_beginReading_1 16 rfl rfl)
theorem dX5_beginReading_42 : decode cX5_beginReading 42 = .ok (.lconst 1, 1) := dk_10 (dk_at dksX5_beginReading_1 19 rfl rfl)
theorem dX5_beginReading_43 : decode cX5_beginReading 43 = .ok (.lastore, 1) := dk_80 (dk_at dksX5_beginReading_1 20 rfl rfl)
theorem dX5_beginReading_44 : decode cX5_beginReading 44 = .ok (.aload_n 0, 1) := dk_42 (dk_at dksX5_beginReading_1 21 rfl rfl)
theorem dX5_beginReading_45 : decode cX5_beginReading 45 = .ok (.getfield 7, 3) := dk_180 0 7 (dk_at dksX5_beginReading_2 0 rfl rfl)
theorem dX5_beginReading_48 : decode cX5_beginReading 48 = .ok (.sipush 1185, 3) := dk_17 4 161 (dk_at dksX5_beginReading_2 3 rfl rfl)
theorem dX5_beginReading_51 : decode cX5_beginReading 51 = .ok (.lconst 1, 1) := dk_10 (dk_at dksX5_beginReading_2 6 rfl rfl)
theorem dX5_beginReading_52 : decode cX5_beginReading 52 = .ok (.lastore, 1) := dk_80 (dk_at dksX5_beginReading_2 7 rfl rfl)
theorem dX5_beginReading_53 : decode cX5_beginReading 53 = .ok (.return_, 1) := dk_177 (dk_at dksX5_beginReading_2 8 rfl rfl)
abbrev cX5_copyRow : ByteArray := prog_17_method_108_code
def yX5_copyRow : MethodName := ⟨RX5, "copyRow", "(II)V"⟩
def dkwX5_copyRow_1 : List UInt8 := [17, 4, 157, 27, 104, 29, 96, 47, 80, 132, 3, 1, 167, 255, 222, 177]
abbrev dktX5_copyRow_1 : List UInt8 := dkwX5_copyRow_1 ++ []
def dkwX5_copyRow_0 : List UInt8 := [3, 62, 29, 17, 4, 157, 162, 0, 33, 42, 180, 0, 7, 17, 4, 157, 28, 104, 29, 96, 42, 180, 0, 7]
abbrev dktX5_copyRow_0 : List UInt8 := dkwX5_copyRow_0 ++ dktX5_copyRow_1
theorem dksX5_copyRow_0 : cX5_copyRow.data.toList.drop 0 = dktX5_copyRow_0 := by decide +kernel
theorem dksX5_copyRow_1 : cX5_copyRow.data.toList.drop 24 = dktX5_copyRow_1 := dk_seg dksX5_copyRow_0 24 rfl rfl
theorem dX5_copyRow_0 : decode cX5_copyRow 0 = .ok (.iconst 0, 1) := dk_3 (dk_at dksX5_copyRow_0 0 rfl rfl)
theorem dX5_copyRow_1 : decode cX5_copyRow 1 = .ok (.istore_n 3, 1) := dk_62 (dk_at dksX5_copyRow_0 1 rfl rfl)
theorem dX5_copyRow_2 : decode cX5_copyRow 2 = .ok (.iload_n 3, 1) := dk_29 (dk_at dksX5_copyRow_0 2 rfl rfl)
theorem dX5_copyRow_3 : decode cX5_copyRow 3 = .ok (.sipush 1181, 3) := dk_17 4 157 (dk_at dksX5_copyRow_0 3 rfl rfl)
theorem dX5_copyRow_6 : decode cX5_copyRow 6 = .ok (.if_icmp .ge 33, 3) := dk_162 0 33 (dk_at dksX5_copyRow_0 6 rfl rfl)
theorem dX5_copyRow_9 : decode cX5_copyRow 9 = .ok (.aload_n 0, 1) := dk_42 (dk_at dksX5_copyRow_0 9 rfl rfl)
theorem dX5_copyRow_10 : decode cX5_copyRow 10 = .ok (.getfield 7, 3) := dk_180 0 7 (dk_at dksX5_copyRow_0 10 rfl rfl)
theorem dX5_copyRow_13 : decode cX5_copyRow 13 = .ok (.sipush 1181, 3) := dk_17 4 157 (dk_at dksX5_copyRow_0 13 rfl rfl)
theorem dX5_copyRow_16 : decode cX5_copyRow 16 = .ok (.iload_n 2, 1) := dk_28 (dk_at dksX5_copyRow_0 16 rfl rfl)
theorem dX5_copyRow_17 : decode cX5_copyRow 17 = .ok (.imul, 1) := dk_104 (dk_at dksX5_copyRow_0 17 rfl rfl)
theorem dX5_copyRow_18 : decode cX5_copyRow 18 = .ok (.iload_n 3, 1) := dk_29 (dk_at dksX5_copyRow_0 18 rfl rfl)
theorem dX5_copyRow_19 : decode cX5_copyRow 19 = .ok (.iadd, 1) := dk_96 (dk_at dksX5_copyRow_0 19 rfl rfl)
theorem dX5_copyRow_20 : decode cX5_copyRow 20 = .ok (.aload_n 0, 1) := dk_42 (dk_at dksX5_copyRow_0 20 rfl rfl)
theorem dX5_copyRow_21 : decode cX5_copyRow 21 = .ok (.getfield 7, 3) := dk_180 0 7 (dk_at dksX5_copyRow_0 21 rfl rfl)
theorem dX5_copyRow_24 : decode cX5_copyRow 24 = .ok (.sipush 1181, 3) := dk_17 4 157 (dk_at dksX5_copyRow_1 0 rfl rfl)
theorem dX5_copyRow_27 : decode cX5_copyRow 27 = .ok (.iload_n 1, 1) := dk_27 (dk_at dksX5_copyRow_1 3 rfl rfl)
theorem dX5_copyRow_28 : decode cX5_copyRow 28 = .ok (.imul, 1) := dk_104 (dk_at dksX5_copyRow_1 4 rfl rfl)
theorem dX5_copyRow_29 : decode cX5_copyRow 29 = .ok (.iload_n 3, 1) := dk_29 (dk_at dksX5_copyRow_1 5 rfl rfl)
theorem dX5_copyRow_30 : decode cX5_copyRow 30 = .ok (.iadd, 1) := dk_96 (dk_at dksX5_copyRow_1 6 rfl rfl)
theorem dX5_copyRow_31 : decode cX5_copyRow 31 = .ok (.laload, 1) := dk_47 (dk_at dksX5_copyRow_1 7 rfl rfl)
theorem dX5_copyRow_32 : decode cX5_copyRow 32 = .ok (.lastore, 1) := dk_80 (dk_at dksX5_copyRow_1 8 rfl rfl)
theorem dX5_copyRow_33 : decode cX5_copyRow 33 = .ok (.iinc 3 1, 3) := dk_132 3 1 (dk_at dksX5_copyRow_1 9 rfl rfl)
theorem dX5_copyRow_36 : decode cX5_copyRow 36 = .ok (.goto (-34), 3) := dk_167 255 222 (dk_at dksX5_copyRow_1 12 rfl rfl)
theorem dX5_copyRow_39 : decode cX5_copyRow 39 = .ok (.return_, 1) := dk_177 (dk_at dksX5_copyRow_1 15 rfl rfl)
abbrev cX5_thrown : ByteArray := prog_17_method_2_code
def yX5_thrown : MethodName := ⟨RX5, "thrown", "()I"⟩
theorem dX5_thrown_0 : decode cX5_thrown 0 = .ok (.aload_n 0, 1) := by decide +kernel
theorem dX5_thrown_1 : decode cX5_thrown 1 = .ok (.getfield 91, 3) := by decide +kernel
theorem dX5_thrown_4 : decode cX5_thrown 4 = .ok (.ireturn, 1) := by decide +kernel
abbrev cX5_append : ByteArray := prog_17_method_23_code
def yX5_append : MethodName := ⟨RX5, "append", "(IIIII)I"⟩
def dkwX5_append_2 : List UInt8 := [182, 0, 133, 42, 180, 0, 127, 172]
abbrev dktX5_append_2 : List UInt8 := dkwX5_append_2 ++ []
def dkwX5_append_1 : List UInt8 := [42, 27, 182, 0, 133, 42, 28, 182, 0, 133, 42, 29, 182, 0, 133, 42, 21, 4, 182, 0, 133, 42, 21, 5]
abbrev dktX5_append_1 : List UInt8 := dkwX5_append_1 ++ dktX5_append_2
def dkwX5_append_0 : List UInt8 := [42, 3, 181, 0, 91, 42, 180, 0, 127, 16, 20, 96, 17, 2, 88, 164, 0, 9, 42, 4, 182, 0, 130, 172]
abbrev dktX5_append_0 : List UInt8 := dkwX5_append_0 ++ dktX5_append_1
theorem dksX5_append_0 : cX5_append.data.toList.drop 0 = dktX5_append_0 := by decide +kernel
theorem dksX5_append_1 : cX5_append.data.toList.drop 24 = dktX5_append_1 := dk_seg dksX5_append_0 24 rfl rfl
theorem dksX5_append_2 : cX5_append.data.toList.drop 48 = dktX5_append_2 := dk_seg dksX5_append_1 24 rfl rfl
theorem dX5_append_0 : decode cX5_append 0 = .ok (.aload_n 0, 1) := dk_42 (dk_at dksX5_append_0 0 rfl rfl)
theorem dX5_append_1 : decode cX5_append 1 = .ok (.iconst 0, 1) := dk_3 (dk_at dksX5_append_0 1 rfl rfl)
theorem dX5_append_2 : decode cX5_append 2 = .ok (.putfield 91, 3) := dk_181 0 91 (dk_at dksX5_append_0 2 rfl rfl)
theorem dX5_append_5 : decode cX5_append 5 = .ok (.aload_n 0, 1) := dk_42 (dk_at dksX5_append_0 5 rfl rfl)
theorem dX5_append_6 : decode cX5_append 6 = .ok (.getfield 127, 3) := dk_180 0 127 (dk_at dksX5_append_0 6 rfl rfl)
theorem dX5_append_9 : decode cX5_append 9 = .ok (.bipush 20, 2) := dk_16 20 (dk_at dksX5_append_0 9 rfl rfl)
theorem dX5_append_11 : decode cX5_append 11 = .ok (.iadd, 1) := dk_96 (dk_at dksX5_append_0 11 rfl rfl)
theorem dX5_append_12 : decode cX5_append 12 = .ok (.sipush 600, 3) := dk_17 2 88 (dk_at dksX5_append_0 12 rfl rfl)
theorem dX5_append_15 : decode cX5_append 15 = .ok (.if_icmp .le 9, 3) := dk_164 0 9 (dk_at dksX5_append_0 15 rfl rfl)
theorem dX5_append_18 : decode cX5_append 18 = .ok (.aload_n 0, 1) := dk_42 (dk_at dksX5_append_0 18 rfl rfl)
theorem dX5_append_19 : decode cX5_append 19 = .ok (.iconst 1, 1) := dk_4 (dk_at dksX5_append_0 19 rfl rfl)
theorem dX5_append_20 : decode cX5_append 20 = .ok (.invokevirtual 130, 3) := dk_182 0 130 (dk_at dksX5_append_0 20 rfl rfl)
theorem dX5_append_23 : decode cX5_append 23 = .ok (.ireturn, 1) := dk_172 (dk_at dksX5_append_0 23 rfl rfl)
theorem dX5_append_24 : decode cX5_append 24 = .ok (.aload_n 0, 1) := dk_42 (dk_at dksX5_append_1 0 rfl rfl)
theorem dX5_append_25 : decode cX5_append 25 = .ok (.iload_n 1, 1) := dk_27 (dk_at dksX5_append_1 1 rfl rfl)
theorem dX5_append_26 : decode cX5_append 26 = .ok (.invokevirtual 133, 3) := dk_182 0 133 (dk_at dksX5_append_1 2 rfl rfl)
theorem dX5_append_29 : decode cX5_append 29 = .ok (.aload_n 0, 1) := dk_42 (dk_at dksX5_append_1 5 rfl rfl)
theorem dX5_append_30 : decode cX5_append 30 = .ok (.iload_n 2, 1) := dk_28 (dk_at dksX5_append_1 6 rfl rfl)
theorem dX5_append_31 : decode cX5_append 31 = .ok (.invokevirtual 133, 3) := dk_182 0 133 (dk_at dksX5_append_1 7 rfl rfl)
theorem dX5_append_34 : decode cX5_append 34 = .ok (.aload_n 0, 1) := dk_42 (dk_at dksX5_append_1 10 rfl rfl)
theorem dX5_append_35 : decode cX5_append 35 = .ok (.iload_n 3, 1) := dk_29 (dk_at dksX5_append_1 11 rfl rfl)
theorem dX5_append_36 : decode cX5_append 36 = .ok (.invokevirtual 133, 3) := dk_182 0 133 (dk_at dksX5_append_1 12 rfl rfl)
theorem dX5_append_39 : decode cX5_append 39 = .ok (.aload_n 0, 1) := dk_42 (dk_at dksX5_append_1 15 rfl rfl)
theorem dX5_append_40 : decode cX5_append 40 = .ok (.iload 4, 2) := dk_21 4 (dk_at dksX5_append_1 16 rfl rfl)
theorem dX5_append_42 : decode cX5_append 42 = .ok (.invokevirtual 133, 3) := dk_182 0 133 (dk_at dksX5_append_1 18 rfl rfl)
theorem dX5_append_45 : decode cX5_append 45 = .ok (.aload_n 0, 1) := dk_42 (dk_at dksX5_append_1 21 rfl rfl)
theorem dX5_append_46 : decode cX5_append 46 = .ok (.iload 5, 2) := dk_21 5 (dk_at dksX5_append_1 22 rfl rfl)
theorem dX5_append_48 : decode cX5_append 48 = .ok (.invokevirtual 133, 3) := dk_182 0 133 (dk_at dksX5_append_2 0 rfl rfl)
theorem dX5_append_51 : decode cX5_append 51 = .ok (.aload_n 0, 1) := dk_42 (dk_at dksX5_append_2 3 rfl rfl)
theorem dX5_append_52 : decode cX5_append 52 = .ok (.getfield 127, 3) := dk_180 0 127 (dk_at dksX5_append_2 4 rfl rfl)
theorem dX5_append_55 : decode cX5_append 55 = .ok (.ireturn, 1) := dk_172 (dk_at dksX5_append_2 7 rfl rfl)
abbrev cX5_fails : ByteArray := prog_17_method_3_code
def yX5_fails : MethodName := ⟨RX5, "fails", "(I)I"⟩
def dkwX5_fails_0 : List UInt8 := [42, 27, 181, 0, 91, 3, 172]
abbrev dktX5_fails_0 : List UInt8 := dkwX5_fails_0 ++ []
theorem dksX5_fails_0 : cX5_fails.data.toList.drop 0 = dktX5_fails_0 := by decide +kernel
theorem dX5_fails_0 : decode cX5_fails 0 = .ok (.aload_n 0, 1) := dk_42 (dk_at dksX5_fails_0 0 rfl rfl)
theorem dX5_fails_1 : decode cX5_fails 1 = .ok (.iload_n 1, 1) := dk_27 (dk_at dksX5_fails_0 1 rfl rfl)
theorem dX5_fails_2 : decode cX5_fails 2 = .ok (.putfield 91, 3) := dk_181 0 91 (dk_at dksX5_fails_0 2 rfl rfl)
theorem dX5_fails_5 : decode cX5_fails 5 = .ok (.iconst 0, 1) := dk_3 (dk_at dksX5_fails_0 5 rfl rfl)
theorem dX5_fails_6 : decode cX5_fails 6 = .ok (.ireturn, 1) := dk_172 (dk_at dksX5_fails_0 6 rfl rfl)
abbrev cX5_put : ByteArray := prog_17_method_22_code
def yX5_put : MethodName := ⟨RX5, "put", "(I)V"⟩
def dkwX5_put_2 : List UInt8 := [180, 0, 13, 42, 180, 0, 127, 6, 96, 27, 145, 84, 42, 89, 180, 0, 127, 7, 96, 181, 0, 127, 177]
abbrev dktX5_put_2 : List UInt8 := dkwX5_put_2 ++ []
def dkwX5_put_1 : List UInt8 := [27, 16, 16, 122, 145, 84, 42, 180, 0, 13, 42, 180, 0, 127, 5, 96, 27, 16, 8, 122, 145, 84, 42]
abbrev dktX5_put_1 : List UInt8 := dkwX5_put_1 ++ dktX5_put_2
def dkwX5_put_0 : List UInt8 := [42, 180, 0, 13, 42, 180, 0, 127, 27, 16, 24, 122, 145, 84, 42, 180, 0, 13, 42, 180, 0, 127, 4, 96]
abbrev dktX5_put_0 : List UInt8 := dkwX5_put_0 ++ dktX5_put_1
theorem dksX5_put_0 : cX5_put.data.toList.drop 0 = dktX5_put_0 := by decide +kernel
theorem dksX5_put_1 : cX5_put.data.toList.drop 24 = dktX5_put_1 := dk_seg dksX5_put_0 24 rfl rfl
theorem dksX5_put_2 : cX5_put.data.toList.drop 47 = dktX5_put_2 := dk_seg dksX5_put_1 23 rfl rfl
theorem dX5_put_0 : decode cX5_put 0 = .ok (.aload_n 0, 1) := dk_42 (dk_at dksX5_put_0 0 rfl rfl)
theorem dX5_put_1 : decode cX5_put 1 = .ok (.getfield 13, 3) := dk_180 0 13 (dk_at dksX5_put_0 1 rfl rfl)
theorem dX5_put_4 : decode cX5_put 4 = .ok (.aload_n 0, 1) := dk_42 (dk_at dksX5_put_0 4 rfl rfl)
theorem dX5_put_5 : decode cX5_put 5 = .ok (.getfield 127, 3) := dk_180 0 127 (dk_at dksX5_put_0 5 rfl rfl)
theorem dX5_put_8 : decode cX5_put 8 = .ok (.iload_n 1, 1) := dk_27 (dk_at dksX5_put_0 8 rfl rfl)
theorem dX5_put_9 : decode cX5_put 9 = .ok (.bipush 24, 2) := dk_16 24 (dk_at dksX5_put_0 9 rfl rfl)
theorem dX5_put_11 : decode cX5_put 11 = .ok (.ishr, 1) := dk_122 (dk_at dksX5_put_0 11 rfl rfl)
theorem dX5_put_12 : decode cX5_put 12 = .ok (.i2b, 1) := dk_145 (dk_at dksX5_put_0 12 rfl rfl)
theorem dX5_put_13 : decode cX5_put 13 = .ok (.bastore, 1) := dk_84 (dk_at dksX5_put_0 13 rfl rfl)
theorem dX5_put_14 : decode cX5_put 14 = .ok (.aload_n 0, 1) := dk_42 (dk_at dksX5_put_0 14 rfl rfl)
theorem dX5_put_15 : decode cX5_put 15 = .ok (.getfield 13, 3) := dk_180 0 13 (dk_at dksX5_put_0 15 rfl rfl)
theorem dX5_put_18 : decode cX5_put 18 = .ok (.aload_n 0, 1) := dk_42 (dk_at dksX5_put_0 18 rfl rfl)
theorem dX5_put_19 : decode cX5_put 19 = .ok (.getfield 127, 3) := dk_180 0 127 (dk_at dksX5_put_0 19 rfl rfl)
theorem dX5_put_22 : decode cX5_put 22 = .ok (.iconst 1, 1) := dk_4 (dk_at dksX5_put_0 22 rfl rfl)
theorem dX5_put_23 : decode cX5_put 23 = .ok (.iadd, 1) := dk_96 (dk_at dksX5_put_0 23 rfl rfl)
theorem dX5_put_24 : decode cX5_put 24 = .ok (.iload_n 1, 1) := dk_27 (dk_at dksX5_put_1 0 rfl rfl)
theorem dX5_put_25 : decode cX5_put 25 = .ok (.bipush 16, 2) := dk_16 16 (dk_at dksX5_put_1 1 rfl rfl)
theorem dX5_put_27 : decode cX5_put 27 = .ok (.ishr, 1) := dk_122 (dk_at dksX5_put_1 3 rfl rfl)
theorem dX5_put_28 : decode cX5_put 28 = .ok (.i2b, 1) := dk_145 (dk_at dksX5_put_1 4 rfl rfl)
theorem dX5_put_29 : decode cX5_put 29 = .ok (.bastore, 1) := dk_84 (dk_at dksX5_put_1 5 rfl rfl)
theorem dX5_put_30 : decode cX5_put 30 = .ok (.aload_n 0, 1) := dk_42 (dk_at dksX5_put_1 6 rfl rfl)
theorem dX5_put_31 : decode cX5_put 31 = .ok (.getfield 13, 3) := dk_180 0 13 (dk_at dksX5_put_1 7 rfl rfl)
theorem dX5_put_34 : decode cX5_put 34 = .ok (.aload_n 0, 1) := dk_42 (dk_at dksX5_put_1 10 rfl rfl)
theorem dX5_put_35 : decode cX5_put 35 = .ok (.getfield 127, 3) := dk_180 0 127 (dk_at dksX5_put_1 11 rfl rfl)
theorem dX5_put_38 : decode cX5_put 38 = .ok (.iconst 2, 1) := dk_5 (dk_at dksX5_put_1 14 rfl rfl)
theorem dX5_put_39 : decode cX5_put 39 = .ok (.iadd, 1) := dk_96 (dk_at dksX5_put_1 15 rfl rfl)
theorem dX5_put_40 : decode cX5_put 40 = .ok (.iload_n 1, 1) := dk_27 (dk_at dksX5_put_1 16 rfl rfl)
theorem dX5_put_41 : decode cX5_put 41 = .ok (.bipush 8, 2) := dk_16 8 (dk_at dksX5_put_1 17 rfl rfl)
theorem dX5_put_43 : decode cX5_put 43 = .ok (.ishr, 1) := dk_122 (dk_at dksX5_put_1 19 rfl rfl)
theorem dX5_put_44 : decode cX5_put 44 = .ok (.i2b, 1) := dk_145 (dk_at dksX5_put_1 20 rfl rfl)
theorem dX5_put_45 : decode cX5_put 45 = .ok (.bastore, 1) := dk_84 (dk_at dksX5_put_1 21 rfl rfl)
theorem dX5_put_46 : decode cX5_put 46 = .ok (.aload_n 0, 1) := dk_42 (dk_at dksX5_put_1 22 rfl rfl)
theorem dX5_put_47 : decode cX5_put 47 = .ok (.getfield 13, 3) := dk_180 0 13 (dk_at dksX5_put_2 0 rfl rfl)
theorem dX5_put_50 : decode cX5_put 50 = .ok (.aload_n 0, 1) := dk_42 (dk_at dksX5_put_2 3 rfl rfl)
theorem dX5_put_51 : decode cX5_put 51 = .ok (.getfield 127, 3) := dk_180 0 127 (dk_at dksX5_put_2 4 rfl rfl)
theorem dX5_put_54 : decode cX5_put 54 = .ok (.iconst 3, 1) := dk_6 (dk_at dksX5_put_2 7 rfl rfl)
theorem dX5_put_55 : decode cX5_put 55 = .ok (.iadd, 1) := dk_96 (dk_at dksX5_put_2 8 rfl rfl)
theorem dX5_put_56 : decode cX5_put 56 = .ok (.iload_n 1, 1) := dk_27 (dk_at dksX5_put_2 9 rfl rfl)
theorem dX5_put_57 : decode cX5_put 57 = .ok (.i2b, 1) := dk_145 (dk_at dksX5_put_2 10 rfl rfl)
theorem dX5_put_58 : decode cX5_put 58 = .ok (.bastore, 1) := dk_84 (dk_at dksX5_put_2 11 rfl rfl)
theorem dX5_put_59 : decode cX5_put 59 = .ok (.aload_n 0, 1) := dk_42 (dk_at dksX5_put_2 12 rfl rfl)
theorem dX5_put_60 : decode cX5_put 60 = .ok (.dup, 1) := dk_89 (dk_at dksX5_put_2 13 rfl rfl)
theorem dX5_put_61 : decode cX5_put 61 = .ok (.getfield 127, 3) := dk_180 0 127 (dk_at dksX5_put_2 14 rfl rfl)
theorem dX5_put_64 : decode cX5_put 64 = .ok (.iconst 4, 1) := dk_7 (dk_at dksX5_put_2 17 rfl rfl)
theorem dX5_put_65 : decode cX5_put 65 = .ok (.iadd, 1) := dk_96 (dk_at dksX5_put_2 18 rfl rfl)
theorem dX5_put_66 : decode cX5_put 66 = .ok (.putfield 127, 3) := dk_181 0 127 (dk_at dksX5_put_2 19 rfl rfl)
theorem dX5_put_69 : decode cX5_put 69 = .ok (.return_, 1) := dk_177 (dk_at dksX5_put_2 22 rfl rfl)
abbrev cX5_truncate : ByteArray := prog_17_method_24_code
def yX5_truncate : MethodName := ⟨RX5, "truncate", "(I)V"⟩
def dkwX5_truncate_1 : List UInt8 := [27, 181, 0, 127, 177]
abbrev dktX5_truncate_1 : List UInt8 := dkwX5_truncate_1 ++ []
def dkwX5_truncate_0 : List UInt8 := [42, 3, 181, 0, 91, 27, 3, 42, 180, 0, 127, 184, 0, 105, 154, 0, 9, 42, 4, 181, 0, 91, 177, 42]
abbrev dktX5_truncate_0 : List UInt8 := dkwX5_truncate_0 ++ dktX5_truncate_1
theorem dksX5_truncate_0 : cX5_truncate.data.toList.drop 0 = dktX5_truncate_0 := by decide +kernel
theorem dksX5_truncate_1 : cX5_truncate.data.toList.drop 24 = dktX5_truncate_1 := dk_seg dksX5_truncate_0 24 rfl rfl
theorem dX5_truncate_0 : decode cX5_truncate 0 = .ok (.aload_n 0, 1) := dk_42 (dk_at dksX5_truncate_0 0 rfl rfl)
theorem dX5_truncate_1 : decode cX5_truncate 1 = .ok (.iconst 0, 1) := dk_3 (dk_at dksX5_truncate_0 1 rfl rfl)
theorem dX5_truncate_2 : decode cX5_truncate 2 = .ok (.putfield 91, 3) := dk_181 0 91 (dk_at dksX5_truncate_0 2 rfl rfl)
theorem dX5_truncate_5 : decode cX5_truncate 5 = .ok (.iload_n 1, 1) := dk_27 (dk_at dksX5_truncate_0 5 rfl rfl)
theorem dX5_truncate_6 : decode cX5_truncate 6 = .ok (.iconst 0, 1) := dk_3 (dk_at dksX5_truncate_0 6 rfl rfl)
theorem dX5_truncate_7 : decode cX5_truncate 7 = .ok (.aload_n 0, 1) := dk_42 (dk_at dksX5_truncate_0 7 rfl rfl)
theorem dX5_truncate_8 : decode cX5_truncate 8 = .ok (.getfield 127, 3) := dk_180 0 127 (dk_at dksX5_truncate_0 8 rfl rfl)
theorem dX5_truncate_11 : decode cX5_truncate 11 = .ok (.invokestatic 105, 3) := dk_184 0 105 (dk_at dksX5_truncate_0 11 rfl rfl)
theorem dX5_truncate_14 : decode cX5_truncate 14 = .ok (.ifCond .ne 9, 3) := dk_154 0 9 (dk_at dksX5_truncate_0 14 rfl rfl)
theorem dX5_truncate_17 : decode cX5_truncate 17 = .ok (.aload_n 0, 1) := dk_42 (dk_at dksX5_truncate_0 17 rfl rfl)
theorem dX5_truncate_18 : decode cX5_truncate 18 = .ok (.iconst 1, 1) := dk_4 (dk_at dksX5_truncate_0 18 rfl rfl)
theorem dX5_truncate_19 : decode cX5_truncate 19 = .ok (.putfield 91, 3) := dk_181 0 91 (dk_at dksX5_truncate_0 19 rfl rfl)
theorem dX5_truncate_22 : decode cX5_truncate 22 = .ok (.return_, 1) := dk_177 (dk_at dksX5_truncate_0 22 rfl rfl)
theorem dX5_truncate_23 : decode cX5_truncate 23 = .ok (.aload_n 0, 1) := dk_42 (dk_at dksX5_truncate_0 23 rfl rfl)
theorem dX5_truncate_24 : decode cX5_truncate 24 = .ok (.iload_n 1, 1) := dk_27 (dk_at dksX5_truncate_1 0 rfl rfl)
theorem dX5_truncate_25 : decode cX5_truncate 25 = .ok (.putfield 127, 3) := dk_181 0 127 (dk_at dksX5_truncate_1 1 rfl rfl)
theorem dX5_truncate_28 : decode cX5_truncate 28 = .ok (.return_, 1) := dk_177 (dk_at dksX5_truncate_1 4 rfl rfl)
abbrev cX5_isIn : ByteArray := prog_17_method_4_code
def yX5_isIn : MethodName := ⟨RX5, "isIn", "(III)Z"⟩
def dkwX5_isIn_0 : List UInt8 := [26, 27, 161, 0, 12, 26, 28, 163, 0, 7, 4, 167, 0, 4, 3, 172]
abbrev dktX5_isIn_0 : List UInt8 := dkwX5_isIn_0 ++ []
theorem dksX5_isIn_0 : cX5_isIn.data.toList.drop 0 = dktX5_isIn_0 := by decide +kernel
theorem dX5_isIn_0 : decode cX5_isIn 0 = .ok (.iload_n 0, 1) := dk_26 (dk_at dksX5_isIn_0 0 rfl rfl)
theorem dX5_isIn_1 : decode cX5_isIn 1 = .ok (.iload_n 1, 1) := dk_27 (dk_at dksX5_isIn_0 1 rfl rfl)
theorem dX5_isIn_2 : decode cX5_isIn 2 = .ok (.if_icmp .lt 12, 3) := dk_161 0 12 (dk_at dksX5_isIn_0 2 rfl rfl)
theorem dX5_isIn_5 : decode cX5_isIn 5 = .ok (.iload_n 0, 1) := dk_26 (dk_at dksX5_isIn_0 5 rfl rfl)
theorem dX5_isIn_6 : decode cX5_isIn 6 = .ok (.iload_n 2, 1) := dk_28 (dk_at dksX5_isIn_0 6 rfl rfl)
theorem dX5_isIn_7 : decode cX5_isIn 7 = .ok (.if_icmp .gt 7, 3) := dk_163 0 7 (dk_at dksX5_isIn_0 7 rfl rfl)
theorem dX5_isIn_10 : decode cX5_isIn 10 = .ok (.iconst 1, 1) := dk_4 (dk_at dksX5_isIn_0 10 rfl rfl)
theorem dX5_isIn_11 : decode cX5_isIn 11 = .ok (.goto 4, 3) := dk_167 0 4 (dk_at dksX5_isIn_0 11 rfl rfl)
theorem dX5_isIn_14 : decode cX5_isIn 14 = .ok (.iconst 0, 1) := dk_3 (dk_at dksX5_isIn_0 14 rfl rfl)
theorem dX5_isIn_15 : decode cX5_isIn 15 = .ok (.ireturn, 1) := dk_172 (dk_at dksX5_isIn_0 15 rfl rfl)
abbrev cX5_load : ByteArray := prog_17_method_54_code
def yX5_load : MethodName := ⟨RX5, "load", "()I"⟩
def dkwX5_load_3 : List UInt8 := [182, 0, 87, 42, 3, 181, 1, 26, 42, 3, 181, 1, 29, 42, 182, 0, 101, 172]
abbrev dktX5_load_3 : List UInt8 := dkwX5_load_3 ++ []
def dkwX5_load_2 : List UInt8 := [180, 0, 162, 181, 0, 80, 42, 182, 0, 165, 154, 0, 9, 42, 4, 182, 0, 130, 172, 42, 4, 3]
abbrev dktX5_load_2 : List UInt8 := dkwX5_load_2 ++ dktX5_load_3
def dkwX5_load_1 : List UInt8 := [153, 0, 17, 42, 180, 0, 156, 153, 0, 10, 42, 182, 1, 23, 167, 255, 238, 42, 3, 181, 0, 94, 42, 42]
abbrev dktX5_load_1 : List UInt8 := dkwX5_load_1 ++ dktX5_load_2
def dkwX5_load_0 : List UInt8 := [42, 3, 181, 0, 91, 42, 182, 0, 84, 42, 17, 4, 157, 181, 0, 94, 42, 182, 1, 20, 42, 182, 0, 165]
abbrev dktX5_load_0 : List UInt8 := dkwX5_load_0 ++ dktX5_load_1
theorem dksX5_load_0 : cX5_load.data.toList.drop 0 = dktX5_load_0 := by decide +kernel
theorem dksX5_load_1 : cX5_load.data.toList.drop 24 = dktX5_load_1 := dk_seg dksX5_load_0 24 rfl rfl
theorem dksX5_load_2 : cX5_load.data.toList.drop 48 = dktX5_load_2 := dk_seg dksX5_load_1 24 rfl rfl
theorem dksX5_load_3 : cX5_load.data.toList.drop 70 = dktX5_load_3 := dk_seg dksX5_load_2 22 rfl rfl
theorem dX5_load_0 : decode cX5_load 0 = .ok (.aload_n 0, 1) := dk_42 (dk_at dksX5_load_0 0 rfl rfl)
theorem dX5_load_1 : decode cX5_load 1 = .ok (.iconst 0, 1) := dk_3 (dk_at dksX5_load_0 1 rfl rfl)
theorem dX5_load_2 : decode cX5_load 2 = .ok (.putfield 91, 3) := dk_181 0 91 (dk_at dksX5_load_0 2 rfl rfl)
theorem dX5_load_5 : decode cX5_load 5 = .ok (.aload_n 0, 1) := dk_42 (dk_at dksX5_load_0 5 rfl rfl)
theorem dX5_load_6 : decode cX5_load 6 = .ok (.invokevirtual 84, 3) := dk_182 0 84 (dk_at dksX5_load_0 6 rfl rfl)
theorem dX5_load_9 : decode cX5_load 9 = .ok (.aload_n 0, 1) := dk_42 (dk_at dksX5_load_0 9 rfl rfl)
theorem dX5_load_10 : decode cX5_load 10 = .ok (.sipush 1181, 3) := dk_17 4 157 (dk_at dksX5_load_0 10 rfl rfl)
theorem dX5_load_13 : decode cX5_load 13 = .ok (.putfield 94, 3) := dk_181 0 94 (dk_at dksX5_load_0 13 rfl rfl)
theorem dX5_load_16 : decode cX5_load 16 = .ok (.aload_n 0, 1) := dk_42 (dk_at dksX5_load_0 16 rfl rfl)
theorem dX5_load_17 : decode cX5_load 17 = .ok (.invokevirtual 276, 3) := dk_182 1 20 (dk_at dksX5_load_0 17 rfl rfl)
theorem dX5_load_20 : decode cX5_load 20 = .ok (.aload_n 0, 1) := dk_42 (dk_at dksX5_load_0 20 rfl rfl)
theorem dX5_load_21 : decode cX5_load 21 = .ok (.invokevirtual 165, 3) := dk_182 0 165 (dk_at dksX5_load_0 21 rfl rfl)
theorem dX5_load_24 : decode cX5_load 24 = .ok (.ifCond .eq 17, 3) := dk_153 0 17 (dk_at dksX5_load_1 0 rfl rfl)
theorem dX5_load_27 : decode cX5_load 27 = .ok (.aload_n 0, 1) := dk_42 (dk_at dksX5_load_1 3 rfl rfl)
theorem dX5_load_28 : decode cX5_load 28 = .ok (.getfield 156, 3) := dk_180 0 156 (dk_at dksX5_load_1 4 rfl rfl)
theorem dX5_load_31 : decode cX5_load 31 = .ok (.ifCond .eq 10, 3) := dk_153 0 10 (dk_at dksX5_load_1 7 rfl rfl)
theorem dX5_load_34 : decode cX5_load 34 = .ok (.aload_n 0, 1) := dk_42 (dk_at dksX5_load_1 10 rfl rfl)
theorem dX5_load_35 : decode cX5_load 35 = .ok (.invokevirtual 279, 3) := dk_182 1 23 (dk_at dksX5_load_1 11 rfl rfl)
theorem dX5_load_38 : decode cX5_load 38 = .ok (.goto (-18), 3) := dk_167 255 238 (dk_at dksX5_load_1 14 rfl rfl)
theorem dX5_load_41 : decode cX5_load 41 = .ok (.aload_n 0, 1) := dk_42 (dk_at dksX5_load_1 17 rfl rfl)
theorem dX5_load_42 : decode cX5_load 42 = .ok (.iconst 0, 1) := dk_3 (dk_at dksX5_load_1 18 rfl rfl)
theorem dX5_load_43 : decode cX5_load 43 = .ok (.putfield 94, 3) := dk_181 0 94 (dk_at dksX5_load_1 19 rfl rfl)
theorem dX5_load_46 : decode cX5_load 46 = .ok (.aload_n 0, 1) := dk_42 (dk_at dksX5_load_1 22 rfl rfl)
theorem dX5_load_47 : decode cX5_load 47 = .ok (.aload_n 0, 1) := dk_42 (dk_at dksX5_load_1 23 rfl rfl)
theorem dX5_load_48 : decode cX5_load 48 = .ok (.getfield 162, 3) := dk_180 0 162 (dk_at dksX5_load_2 0 rfl rfl)
theorem dX5_load_51 : decode cX5_load 51 = .ok (.putfield 80, 3) := dk_181 0 80 (dk_at dksX5_load_2 3 rfl rfl)
theorem dX5_load_54 : decode cX5_load 54 = .ok (.aload_n 0, 1) := dk_42 (dk_at dksX5_load_2 6 rfl rfl)
theorem dX5_load_55 : decode cX5_load 55 = .ok (.invokevirtual 165, 3) := dk_182 0 165 (dk_at dksX5_load_2 7 rfl rfl)
theorem dX5_load_58 : decode cX5_load 58 = .ok (.ifCond .ne 9, 3) := dk_154 0 9 (dk_at dksX5_load_2 10 rfl rfl)
theorem dX5_load_61 : decode cX5_load 61 = .ok (.aload_n 0, 1) := dk_42 (dk_at dksX5_load_2 13 rfl rfl)
theorem dX5_load_62 : decode cX5_load 62 = .ok (.iconst 1, 1) := dk_4 (dk_at dksX5_load_2 14 rfl rfl)
theorem dX5_load_63 : decode cX5_load 63 = .ok (.invokevirtual 130, 3) := dk_182 0 130 (dk_at dksX5_load_2 15 rfl rfl)
theorem dX5_load_66 : decode cX5_load 66 = .ok (.ireturn, 1) := dk_172 (dk_at dksX5_load_2 18 rfl rfl)
theorem dX5_load_67 : decode cX5_load 67 = .ok (.aload_n 0, 1) := dk_42 (dk_at dksX5_load_2 19 rfl rfl)
theorem dX5_load_68 : decode cX5_load 68 = .ok (.iconst 1, 1) := dk_4 (dk_at dksX5_load_2 20 rfl rfl)
theorem dX5_load_69 : decode cX5_load 69 = .ok (.iconst 0, 1) := dk_3 (dk_at dksX5_load_2 21 rfl rfl)
theorem dX5_load_70 : decode cX5_load 70 = .ok (.invokevirtual 87, 3) := dk_182 0 87 (dk_at dksX5_load_3 0 rfl rfl)
theorem dX5_load_73 : decode cX5_load 73 = .ok (.aload_n 0, 1) := dk_42 (dk_at dksX5_load_3 3 rfl rfl)
theorem dX5_load_74 : decode cX5_load 74 = .ok (.iconst 0, 1) := dk_3 (dk_at dksX5_load_3 4 rfl rfl)
theorem dX5_load_75 : decode cX5_load 75 = .ok (.putfield 282, 3) := dk_181 1 26 (dk_at dksX5_load_3 5 rfl rfl)
theorem dX5_load_78 : decode cX5_load 78 = .ok (.aload_n 0, 1) := dk_42 (dk_at dksX5_load_3 8 rfl rfl)
theorem dX5_load_79 : decode cX5_load 79 = .ok (.iconst 0, 1) := dk_3 (dk_at dksX5_load_3 9 rfl rfl)
theorem dX5_load_80 : decode cX5_load 80 = .ok (.putfield 285, 3) := dk_181 1 29 (dk_at dksX5_load_3 10 rfl rfl)
theorem dX5_load_83 : decode cX5_load 83 = .ok (.aload_n 0, 1) := dk_42 (dk_at dksX5_load_3 13 rfl rfl)
theorem dX5_load_84 : decode cX5_load 84 = .ok (.invokevirtual 101, 3) := dk_182 0 101 (dk_at dksX5_load_3 14 rfl rfl)
theorem dX5_load_87 : decode cX5_load 87 = .ok (.ireturn, 1) := dk_172 (dk_at dksX5_load_3 17 rfl rfl)
abbrev cX5_beginTokens : ByteArray := prog_17_method_53_code
def yX5_beginTokens : MethodName := ⟨RX5, "beginTokens", "()V"⟩
def dkwX5_beginTokens_1 : List UInt8 := [182, 0, 169, 177]
abbrev dktX5_beginTokens_1 : List UInt8 := dkwX5_beginTokens_1 ++ []
def dkwX5_beginTokens_0 : List UInt8 := [42, 42, 180, 0, 127, 181, 0, 137, 42, 3, 181, 0, 127, 42, 3, 181, 0, 147, 42, 2, 181, 0, 162, 42]
abbrev dktX5_beginTokens_0 : List UInt8 := dkwX5_beginTokens_0 ++ dktX5_beginTokens_1
theorem dksX5_beginTokens_0 : cX5_beginTokens.data.toList.drop 0 = dktX5_beginTokens_0 := by decide +kernel
theorem dksX5_beginTokens_1 : cX5_beginTokens.data.toList.drop 24 = dktX5_beginTokens_1 := dk_seg dksX5_beginTokens_0 24 rfl rfl
theorem dX5_beginTokens_0 : decode cX5_beginTokens 0 = .ok (.aload_n 0, 1) := dk_42 (dk_at dksX5_beginTokens_0 0 rfl rfl)
theorem dX5_beginTokens_1 : decode cX5_beginTokens 1 = .ok (.aload_n 0, 1) := dk_42 (dk_at dksX5_beginTokens_0 1 rfl rfl)
theorem dX5_beginTokens_2 : decode cX5_beginTokens 2 = .ok (.getfield 127, 3) := dk_180 0 127 (dk_at dksX5_beginTokens_0 2 rfl rfl)
theorem dX5_beginTokens_5 : decode cX5_beginTokens 5 = .ok (.putfield 137, 3) := dk_181 0 137 (dk_at dksX5_beginTokens_0 5 rfl rfl)
theorem dX5_beginTokens_8 : decode cX5_beginTokens 8 = .ok (.aload_n 0, 1) := dk_42 (dk_at dksX5_beginTokens_0 8 rfl rfl)
theorem dX5_beginTokens_9 : decode cX5_beginTokens 9 = .ok (.iconst 0, 1) := dk_3 (dk_at dksX5_beginTokens_0 9 rfl rfl)
theorem dX5_beginTokens_10 : decode cX5_beginTokens 10 = .ok (.putfield 127, 3) := dk_181 0 127 (dk_at dksX5_beginTokens_0 10 rfl rfl)
theorem dX5_beginTokens_13 : decode cX5_beginTokens 13 = .ok (.aload_n 0, 1) := dk_42 (dk_at dksX5_beginTokens_0 13 rfl rfl)
theorem dX5_beginTokens_14 : decode cX5_beginTokens 14 = .ok (.iconst 0, 1) := dk_3 (dk_at dksX5_beginTokens_0 14 rfl rfl)
theorem dX5_beginTokens_15 : decode cX5_beginTokens 15 = .ok (.putfield 147, 3) := dk_181 0 147 (dk_at dksX5_beginTokens_0 15 rfl rfl)
theorem dX5_beginTokens_18 : decode cX5_beginTokens 18 = .ok (.aload_n 0, 1) := dk_42 (dk_at dksX5_beginTokens_0 18 rfl rfl)
theorem dX5_beginTokens_19 : decode cX5_beginTokens 19 = .ok (.iconst (-1), 1) := dk_2 (dk_at dksX5_beginTokens_0 19 rfl rfl)
theorem dX5_beginTokens_20 : decode cX5_beginTokens 20 = .ok (.putfield 162, 3) := dk_181 0 162 (dk_at dksX5_beginTokens_0 20 rfl rfl)
theorem dX5_beginTokens_23 : decode cX5_beginTokens 23 = .ok (.aload_n 0, 1) := dk_42 (dk_at dksX5_beginTokens_0 23 rfl rfl)
theorem dX5_beginTokens_24 : decode cX5_beginTokens 24 = .ok (.invokevirtual 169, 3) := dk_182 0 169 (dk_at dksX5_beginTokens_1 0 rfl rfl)
theorem dX5_beginTokens_27 : decode cX5_beginTokens 27 = .ok (.return_, 1) := dk_177 (dk_at dksX5_beginTokens_1 3 rfl rfl)
abbrev cX5_readToken : ByteArray := prog_17_method_29_code
def yX5_readToken : MethodName := ⟨RX5, "readToken", "()V"⟩
def dkwX5_readToken_6 : List UInt8 := [181, 0, 156, 42, 89, 180, 0, 147, 4, 96, 181, 0, 147, 177]
abbrev dktX5_readToken_6 : List UInt8 := dkwX5_readToken_6 ++ []
def dkwX5_readToken_5 : List UInt8 := [181, 0, 156, 177, 42, 42, 42, 180, 0, 147, 182, 0, 150, 16, 59, 160, 0, 7, 5, 167, 0, 4, 6]
abbrev dktX5_readToken_5 : List UInt8 := dkwX5_readToken_5 ++ dktX5_readToken_6
def dkwX5_readToken_4 : List UInt8 := [182, 0, 150, 184, 0, 159, 153, 0, 16, 42, 89, 180, 0, 147, 4, 96, 181, 0, 147, 167, 255, 232, 42, 4]
abbrev dktX5_readToken_4 : List UInt8 := dkwX5_readToken_4 ++ dktX5_readToken_5
def dkwX5_readToken_3 : List UInt8 := [181, 0, 156, 177, 42, 42, 180, 0, 147, 182, 0, 150, 184, 0, 159, 153, 0, 36, 42, 42, 180, 0, 147]
abbrev dktX5_readToken_3 : List UInt8 := dkwX5_readToken_3 ++ dktX5_readToken_4
def dkwX5_readToken_2 : List UInt8 := [167, 255, 209, 42, 42, 180, 0, 147, 181, 0, 153, 42, 180, 0, 147, 42, 180, 0, 137, 161, 0, 9, 42, 3]
abbrev dktX5_readToken_2 : List UInt8 := dkwX5_readToken_2 ++ dktX5_readToken_3
def dkwX5_readToken_1 : List UInt8 := [42, 42, 180, 0, 147, 182, 0, 150, 16, 10, 160, 0, 16, 42, 89, 180, 0, 147, 4, 96, 181, 0, 147]
abbrev dktX5_readToken_1 : List UInt8 := dkwX5_readToken_1 ++ dktX5_readToken_2
def dkwX5_readToken_0 : List UInt8 := [42, 180, 0, 147, 42, 180, 0, 137, 162, 0, 42, 42, 42, 180, 0, 147, 182, 0, 150, 16, 32, 159, 0, 16]
abbrev dktX5_readToken_0 : List UInt8 := dkwX5_readToken_0 ++ dktX5_readToken_1
theorem dksX5_readToken_0 : cX5_readToken.data.toList.drop 0 = dktX5_readToken_0 := by decide +kernel
theorem dksX5_readToken_1 : cX5_readToken.data.toList.drop 24 = dktX5_readToken_1 := dk_seg dksX5_readToken_0 24 rfl rfl
theorem dksX5_readToken_2 : cX5_readToken.data.toList.drop 47 = dktX5_readToken_2 := dk_seg dksX5_readToken_1 23 rfl rfl
theorem dksX5_readToken_3 : cX5_readToken.data.toList.drop 71 = dktX5_readToken_3 := dk_seg dksX5_readToken_2 24 rfl rfl
theorem dksX5_readToken_4 : cX5_readToken.data.toList.drop 94 = dktX5_readToken_4 := dk_seg dksX5_readToken_3 23 rfl rfl
theorem dksX5_readToken_5 : cX5_readToken.data.toList.drop 118 = dktX5_readToken_5 := dk_seg dksX5_readToken_4 24 rfl rfl
theorem dksX5_readToken_6 : cX5_readToken.data.toList.drop 141 = dktX5_readToken_6 := dk_seg dksX5_readToken_5 23 rfl rfl
theorem dX5_readToken_0 : decode cX5_readToken 0 = .ok (.aload_n 0, 1) := dk_42 (dk_at dksX5_readToken_0 0 rfl rfl)
theorem dX5_readToken_1 : decode cX5_readToken 1 = .ok (.getfield 147, 3) := dk_180 0 147 (dk_at dksX5_readToken_0 1 rfl rfl)
theorem dX5_readToken_4 : decode cX5_readToken 4 = .ok (.aload_n 0, 1) := dk_42 (dk_at dksX5_readToken_0 4 rfl rfl)
theorem dX5_readToken_5 : decode cX5_readToken 5 = .ok (.getfield 137, 3) := dk_180 0 137 (dk_at dksX5_readToken_0 5 rfl rfl)
theorem dX5_readToken_8 : decode cX5_readToken 8 = .ok (.if_icmp .ge 42, 3) := dk_162 0 42 (dk_at dksX5_readToken_0 8 rfl rfl)
theorem dX5_readToken_11 : decode cX5_readToken 11 = .ok (.aload_n 0, 1) := dk_42 (dk_at dksX5_readToken_0 11 rfl rfl)
theorem dX5_readToken_12 : decode cX5_readToken 12 = .ok (.aload_n 0, 1) := dk_42 (dk_at dksX5_readToken_0 12 rfl rfl)
theorem dX5_readToken_13 : decode cX5_readToken 13 = .ok (.getfield 147, 3) := dk_180 0 147 (dk_at dksX5_readToken_0 13 rfl rfl)
theorem dX5_readToken_16 : decode cX5_readToken 16 = .ok (.invokevirtual 150, 3) := dk_182 0 150 (dk_at dksX5_readToken_0 16 rfl rfl)
theorem dX5_readToken_19 : decode cX5_readToken 19 = .ok (.bipush 32, 2) := dk_16 32 (dk_at dksX5_readToken_0 19 rfl rfl)
theorem dX5_readToken_21 : decode cX5_readToken 21 = .ok (.if_icmp .eq 16, 3) := dk_159 0 16 (dk_at dksX5_readToken_0 21 rfl rfl)
theorem dX5_readToken_24 : decode cX5_readToken 24 = .ok (.aload_n 0, 1) := dk_42 (dk_at dksX5_readToken_1 0 rfl rfl)
theorem dX5_readToken_25 : decode cX5_readToken 25 = .ok (.aload_n 0, 1) := dk_42 (dk_at dksX5_readToken_1 1 rfl rfl)
theorem dX5_readToken_26 : decode cX5_readToken 26 = .ok (.getfield 147, 3) := dk_180 0 147 (dk_at dksX5_readToken_1 2 rfl rfl)
theorem dX5_readToken_29 : decode cX5_readToken 29 = .ok (.invokevirtual 150, 3) := dk_182 0 150 (dk_at dksX5_readToken_1 5 rfl rfl)
theorem dX5_readToken_32 : decode cX5_readToken 32 = .ok (.bipush 10, 2) := dk_16 10 (dk_at dksX5_readToken_1 8 rfl rfl)
theorem dX5_readToken_34 : decode cX5_readToken 34 = .ok (.if_icmp .ne 16, 3) := dk_160 0 16 (dk_at dksX5_readToken_1 10 rfl rfl)
theorem dX5_readToken_37 : decode cX5_readToken 37 = .ok (.aload_n 0, 1) := dk_42 (dk_at dksX5_readToken_1 13 rfl rfl)
theorem dX5_readToken_38 : decode cX5_readToken 38 = .ok (.dup, 1) := dk_89 (dk_at dksX5_readToken_1 14 rfl rfl)
theorem dX5_readToken_39 : decode cX5_readToken 39 = .ok (.getfield 147, 3) := dk_180 0 147 (dk_at dksX5_readToken_1 15 rfl rfl)
theorem dX5_readToken_42 : decode cX5_readToken 42 = .ok (.iconst 1, 1) := dk_4 (dk_at dksX5_readToken_1 18 rfl rfl)
theorem dX5_readToken_43 : decode cX5_readToken 43 = .ok (.iadd, 1) := dk_96 (dk_at dksX5_readToken_1 19 rfl rfl)
theorem dX5_readToken_44 : decode cX5_readToken 44 = .ok (.putfield 147, 3) := dk_181 0 147 (dk_at dksX5_readToken_1 20 rfl rfl)
theorem dX5_readToken_47 : decode cX5_readToken 47 = .ok (.goto (-47), 3) := dk_167 255 209 (dk_at dksX5_readToken_2 0 rfl rfl)
theorem dX5_readToken_50 : decode cX5_readToken 50 = .ok (.aload_n 0, 1) := dk_42 (dk_at dksX5_readToken_2 3 rfl rfl)
theorem dX5_readToken_51 : decode cX5_readToken 51 = .ok (.aload_n 0, 1) := dk_42 (dk_at dksX5_readToken_2 4 rfl rfl)
theorem dX5_readToken_52 : decode cX5_readToken 52 = .ok (.getfield 147, 3) := dk_180 0 147 (dk_at dksX5_readToken_2 5 rfl rfl)
theorem dX5_readToken_55 : decode cX5_readToken 55 = .ok (.putfield 153, 3) := dk_181 0 153 (dk_at dksX5_readToken_2 8 rfl rfl)
theorem dX5_readToken_58 : decode cX5_readToken 58 = .ok (.aload_n 0, 1) := dk_42 (dk_at dksX5_readToken_2 11 rfl rfl)
theorem dX5_readToken_59 : decode cX5_readToken 59 = .ok (.getfield 147, 3) := dk_180 0 147 (dk_at dksX5_readToken_2 12 rfl rfl)
theorem dX5_readToken_62 : decode cX5_readToken 62 = .ok (.aload_n 0, 1) := dk_42 (dk_at dksX5_readToken_2 15 rfl rfl)
theorem dX5_readToken_63 : decode cX5_readToken 63 = .ok (.getfield 137, 3) := dk_180 0 137 (dk_at dksX5_readToken_2 16 rfl rfl)
theorem dX5_readToken_66 : decode cX5_readToken 66 = .ok (.if_icmp .lt 9, 3) := dk_161 0 9 (dk_at dksX5_readToken_2 19 rfl rfl)
theorem dX5_readToken_69 : decode cX5_readToken 69 = .ok (.aload_n 0, 1) := dk_42 (dk_at dksX5_readToken_2 22 rfl rfl)
theorem dX5_readToken_70 : decode cX5_readToken 70 = .ok (.iconst 0, 1) := dk_3 (dk_at dksX5_readToken_2 23 rfl rfl)
theorem dX5_readToken_71 : decode cX5_readToken 71 = .ok (.putfield 156, 3) := dk_181 0 156 (dk_at dksX5_readToken_3 0 rfl rfl)
theorem dX5_readToken_74 : decode cX5_readToken 74 = .ok (.return_, 1) := dk_177 (dk_at dksX5_readToken_3 3 rfl rfl)
theorem dX5_readToken_75 : decode cX5_readToken 75 = .ok (.aload_n 0, 1) := dk_42 (dk_at dksX5_readToken_3 4 rfl rfl)
theorem dX5_readToken_76 : decode cX5_readToken 76 = .ok (.aload_n 0, 1) := dk_42 (dk_at dksX5_readToken_3 5 rfl rfl)
theorem dX5_readToken_77 : decode cX5_readToken 77 = .ok (.getfield 147, 3) := dk_180 0 147 (dk_at dksX5_readToken_3 6 rfl rfl)
theorem dX5_readToken_80 : decode cX5_readToken 80 = .ok (.invokevirtual 150, 3) := dk_182 0 150 (dk_at dksX5_readToken_3 9 rfl rfl)
theorem dX5_readToken_83 : decode cX5_readToken 83 = .ok (.invokestatic 159, 3) := dk_184 0 159 (dk_at dksX5_readToken_3 12 rfl rfl)
theorem dX5_readToken_86 : decode cX5_readToken 86 = .ok (.ifCond .eq 36, 3) := dk_153 0 36 (dk_at dksX5_readToken_3 15 rfl rfl)
theorem dX5_readToken_89 : decode cX5_readToken 89 = .ok (.aload_n 0, 1) := dk_42 (dk_at dksX5_readToken_3 18 rfl rfl)
theorem dX5_readToken_90 : decode cX5_readToken 90 = .ok (.aload_n 0, 1) := dk_42 (dk_at dksX5_readToken_3 19 rfl rfl)
theorem dX5_readToken_91 : decode cX5_readToken 91 = .ok (.getfield 147, 3) := dk_180 0 147 (dk_at dksX5_readToken_3 20 rfl rfl)
theorem dX5_readToken_94 : decode cX5_readToken 94 = .ok (.invokevirtual 150, 3) := dk_182 0 150 (dk_at dksX5_readToken_4 0 rfl rfl)
theorem dX5_readToken_97 : decode cX5_readToken 97 = .ok (.invokestatic 159, 3) := dk_184 0 159 (dk_at dksX5_readToken_4 3 rfl rfl)
theorem dX5_readToken_100 : decode cX5_readToken 100 = .ok (.ifCond .eq 16, 3) := dk_153 0 16 (dk_at dksX5_readToken_4 6 rfl rfl)
theorem dX5_readToken_103 : decode cX5_readToken 103 = .ok (.aload_n 0, 1) := dk_42 (dk_at dksX5_readToken_4 9 rfl rfl)
theorem dX5_readToken_104 : decode cX5_readToken 104 = .ok (.dup, 1) := dk_89 (dk_at dksX5_readToken_4 10 rfl rfl)
theorem dX5_readToken_105 : decode cX5_readToken 105 = .ok (.getfield 147, 3) := dk_180 0 147 (dk_at dksX5_readToken_4 11 rfl rfl)
theorem dX5_readToken_108 : decode cX5_readToken 108 = .ok (.iconst 1, 1) := dk_4 (dk_at dksX5_readToken_4 14 rfl rfl)
theorem dX5_readToken_109 : decode cX5_readToken 109 = .ok (.iadd, 1) := dk_96 (dk_at dksX5_readToken_4 15 rfl rfl)
theorem dX5_readToken_110 : decode cX5_readToken 110 = .ok (.putfield 147, 3) := dk_181 0 147 (dk_at dksX5_readToken_4 16 rfl rfl)
theorem dX5_readToken_113 : decode cX5_readToken 113 = .ok (.goto (-24), 3) := dk_167 255 232 (dk_at dksX5_readToken_4 19 rfl rfl)
theorem dX5_readToken_116 : decode cX5_readToken 116 = .ok (.aload_n 0, 1) := dk_42 (dk_at dksX5_readToken_4 22 rfl rfl)
theorem dX5_readToken_117 : decode cX5_readToken 117 = .ok (.iconst 1, 1) := dk_4 (dk_at dksX5_readToken_4 23 rfl rfl)
theorem dX5_readToken_118 : decode cX5_readToken 118 = .ok (.putfield 156, 3) := dk_181 0 156 (dk_at dksX5_readToken_5 0 rfl rfl)
theorem dX5_readToken_121 : decode cX5_readToken 121 = .ok (.return_, 1) := dk_177 (dk_at dksX5_readToken_5 3 rfl rfl)
theorem dX5_readToken_122 : decode cX5_readToken 122 = .ok (.aload_n 0, 1) := dk_42 (dk_at dksX5_readToken_5 4 rfl rfl)
theorem dX5_readToken_123 : decode cX5_readToken 123 = .ok (.aload_n 0, 1) := dk_42 (dk_at dksX5_readToken_5 5 rfl rfl)
theorem dX5_readToken_124 : decode cX5_readToken 124 = .ok (.aload_n 0, 1) := dk_42 (dk_at dksX5_readToken_5 6 rfl rfl)
theorem dX5_readToken_125 : decode cX5_readToken 125 = .ok (.getfield 147, 3) := dk_180 0 147 (dk_at dksX5_readToken_5 7 rfl rfl)
theorem dX5_readToken_128 : decode cX5_readToken 128 = .ok (.invokevirtual 150, 3) := dk_182 0 150 (dk_at dksX5_readToken_5 10 rfl rfl)
theorem dX5_readToken_131 : decode cX5_readToken 131 = .ok (.bipush 59, 2) := dk_16 59 (dk_at dksX5_readToken_5 13 rfl rfl)
theorem dX5_readToken_133 : decode cX5_readToken 133 = .ok (.if_icmp .ne 7, 3) := dk_160 0 7 (dk_at dksX5_readToken_5 15 rfl rfl)
theorem dX5_readToken_136 : decode cX5_readToken 136 = .ok (.iconst 2, 1) := dk_5 (dk_at dksX5_readToken_5 18 rfl rfl)
theorem dX5_readToken_137 : decode cX5_readToken 137 = .ok (.goto 4, 3) := dk_167 0 4 (dk_at dksX5_readToken_5 19 rfl rfl)
theorem dX5_readToken_140 : decode cX5_readToken 140 = .ok (.iconst 3, 1) := dk_6 (dk_at dksX5_readToken_5 22 rfl rfl)
theorem dX5_readToken_141 : decode cX5_readToken 141 = .ok (.putfield 156, 3) := dk_181 0 156 (dk_at dksX5_readToken_6 0 rfl rfl)
theorem dX5_readToken_144 : decode cX5_readToken 144 = .ok (.aload_n 0, 1) := dk_42 (dk_at dksX5_readToken_6 3 rfl rfl)
theorem dX5_readToken_145 : decode cX5_readToken 145 = .ok (.dup, 1) := dk_89 (dk_at dksX5_readToken_6 4 rfl rfl)
theorem dX5_readToken_146 : decode cX5_readToken 146 = .ok (.getfield 147, 3) := dk_180 0 147 (dk_at dksX5_readToken_6 5 rfl rfl)
theorem dX5_readToken_149 : decode cX5_readToken 149 = .ok (.iconst 1, 1) := dk_4 (dk_at dksX5_readToken_6 8 rfl rfl)
theorem dX5_readToken_150 : decode cX5_readToken 150 = .ok (.iadd, 1) := dk_96 (dk_at dksX5_readToken_6 9 rfl rfl)
theorem dX5_readToken_151 : decode cX5_readToken 151 = .ok (.putfield 147, 3) := dk_181 0 147 (dk_at dksX5_readToken_6 10 rfl rfl)
theorem dX5_readToken_154 : decode cX5_readToken 154 = .ok (.return_, 1) := dk_177 (dk_at dksX5_readToken_6 13 rfl rfl)
abbrev cX5_byteAt : ByteArray := prog_17_method_25_code
def yX5_byteAt : MethodName := ⟨RX5, "byteAt", "(I)I"⟩
def dkwX5_byteAt_0 : List UInt8 := [27, 42, 180, 0, 137, 162, 0, 12, 42, 180, 0, 13, 27, 51, 167, 0, 4, 3, 172]
abbrev dktX5_byteAt_0 : List UInt8 := dkwX5_byteAt_0 ++ []
theorem dksX5_byteAt_0 : cX5_byteAt.data.toList.drop 0 = dktX5_byteAt_0 := by decide +kernel
theorem dX5_byteAt_0 : decode cX5_byteAt 0 = .ok (.iload_n 1, 1) := dk_27 (dk_at dksX5_byteAt_0 0 rfl rfl)
theorem dX5_byteAt_1 : decode cX5_byteAt 1 = .ok (.aload_n 0, 1) := dk_42 (dk_at dksX5_byteAt_0 1 rfl rfl)
theorem dX5_byteAt_2 : decode cX5_byteAt 2 = .ok (.getfield 137, 3) := dk_180 0 137 (dk_at dksX5_byteAt_0 2 rfl rfl)
theorem dX5_byteAt_5 : decode cX5_byteAt 5 = .ok (.if_icmp .ge 12, 3) := dk_162 0 12 (dk_at dksX5_byteAt_0 5 rfl rfl)
theorem dX5_byteAt_8 : decode cX5_byteAt 8 = .ok (.aload_n 0, 1) := dk_42 (dk_at dksX5_byteAt_0 8 rfl rfl)
theorem dX5_byteAt_9 : decode cX5_byteAt 9 = .ok (.getfield 13, 3) := dk_180 0 13 (dk_at dksX5_byteAt_0 9 rfl rfl)
theorem dX5_byteAt_12 : decode cX5_byteAt 12 = .ok (.iload_n 1, 1) := dk_27 (dk_at dksX5_byteAt_0 12 rfl rfl)
theorem dX5_byteAt_13 : decode cX5_byteAt 13 = .ok (.baload, 1) := dk_51 (dk_at dksX5_byteAt_0 13 rfl rfl)
theorem dX5_byteAt_14 : decode cX5_byteAt 14 = .ok (.goto 4, 3) := dk_167 0 4 (dk_at dksX5_byteAt_0 14 rfl rfl)
theorem dX5_byteAt_17 : decode cX5_byteAt 17 = .ok (.iconst 0, 1) := dk_3 (dk_at dksX5_byteAt_0 17 rfl rfl)
theorem dX5_byteAt_18 : decode cX5_byteAt 18 = .ok (.ireturn, 1) := dk_172 (dk_at dksX5_byteAt_0 18 rfl rfl)
abbrev cX5_isOfChunk : ByteArray := prog_17_method_28_code
def yX5_isOfChunk : MethodName := ⟨RX5, "isOfChunk", "(I)Z"⟩
def dkwX5_isOfChunk_1 : List UInt8 := [160, 0, 7, 4, 167, 0, 4, 3, 172]
abbrev dktX5_isOfChunk_1 : List UInt8 := dkwX5_isOfChunk_1 ++ []
def dkwX5_isOfChunk_0 : List UInt8 := [26, 184, 0, 144, 154, 0, 21, 26, 16, 42, 159, 0, 15, 26, 16, 63, 159, 0, 9, 26, 16, 37]
abbrev dktX5_isOfChunk_0 : List UInt8 := dkwX5_isOfChunk_0 ++ dktX5_isOfChunk_1
theorem dksX5_isOfChunk_0 : cX5_isOfChunk.data.toList.drop 0 = dktX5_isOfChunk_0 := by decide +kernel
theorem dksX5_isOfChunk_1 : cX5_isOfChunk.data.toList.drop 22 = dktX5_isOfChunk_1 := dk_seg dksX5_isOfChunk_0 22 rfl rfl
theorem dX5_isOfChunk_0 : decode cX5_isOfChunk 0 = .ok (.iload_n 0, 1) := dk_26 (dk_at dksX5_isOfChunk_0 0 rfl rfl)
theorem dX5_isOfChunk_1 : decode cX5_isOfChunk 1 = .ok (.invokestatic 144, 3) := dk_184 0 144 (dk_at dksX5_isOfChunk_0 1 rfl rfl)
theorem dX5_isOfChunk_4 : decode cX5_isOfChunk 4 = .ok (.ifCond .ne 21, 3) := dk_154 0 21 (dk_at dksX5_isOfChunk_0 4 rfl rfl)
theorem dX5_isOfChunk_7 : decode cX5_isOfChunk 7 = .ok (.iload_n 0, 1) := dk_26 (dk_at dksX5_isOfChunk_0 7 rfl rfl)
theorem dX5_isOfChunk_8 : decode cX5_isOfChunk 8 = .ok (.bipush 42, 2) := dk_16 42 (dk_at dksX5_isOfChunk_0 8 rfl rfl)
theorem dX5_isOfChunk_10 : decode cX5_isOfChunk 10 = .ok (.if_icmp .eq 15, 3) := dk_159 0 15 (dk_at dksX5_isOfChunk_0 10 rfl rfl)
theorem dX5_isOfChunk_13 : decode cX5_isOfChunk 13 = .ok (.iload_n 0, 1) := dk_26 (dk_at dksX5_isOfChunk_0 13 rfl rfl)
theorem dX5_isOfChunk_14 : decode cX5_isOfChunk 14 = .ok (.bipush 63, 2) := dk_16 63 (dk_at dksX5_isOfChunk_0 14 rfl rfl)
theorem dX5_isOfChunk_16 : decode cX5_isOfChunk 16 = .ok (.if_icmp .eq 9, 3) := dk_159 0 9 (dk_at dksX5_isOfChunk_0 16 rfl rfl)
theorem dX5_isOfChunk_19 : decode cX5_isOfChunk 19 = .ok (.iload_n 0, 1) := dk_26 (dk_at dksX5_isOfChunk_0 19 rfl rfl)
theorem dX5_isOfChunk_20 : decode cX5_isOfChunk 20 = .ok (.bipush 37, 2) := dk_16 37 (dk_at dksX5_isOfChunk_0 20 rfl rfl)
theorem dX5_isOfChunk_22 : decode cX5_isOfChunk 22 = .ok (.if_icmp .ne 7, 3) := dk_160 0 7 (dk_at dksX5_isOfChunk_1 0 rfl rfl)
theorem dX5_isOfChunk_25 : decode cX5_isOfChunk 25 = .ok (.iconst 1, 1) := dk_4 (dk_at dksX5_isOfChunk_1 3 rfl rfl)
theorem dX5_isOfChunk_26 : decode cX5_isOfChunk 26 = .ok (.goto 4, 3) := dk_167 0 4 (dk_at dksX5_isOfChunk_1 4 rfl rfl)
theorem dX5_isOfChunk_29 : decode cX5_isOfChunk 29 = .ok (.iconst 0, 1) := dk_3 (dk_at dksX5_isOfChunk_1 7 rfl rfl)
theorem dX5_isOfChunk_30 : decode cX5_isOfChunk 30 = .ok (.ireturn, 1) := dk_172 (dk_at dksX5_isOfChunk_1 8 rfl rfl)
abbrev cX5_isOfName : ByteArray := prog_17_method_27_code
def yX5_isOfName : MethodName := ⟨RX5, "isOfName", "(I)Z"⟩
def dkwX5_isOfName_1 : List UInt8 := [26, 16, 45, 160, 0, 7, 4, 167, 0, 4, 3, 172]
abbrev dktX5_isOfName_1 : List UInt8 := dkwX5_isOfName_1 ++ []
def dkwX5_isOfName_0 : List UInt8 := [26, 16, 97, 16, 122, 184, 0, 105, 154, 0, 22, 26, 184, 0, 140, 154, 0, 15, 26, 16, 46, 159, 0, 9]
abbrev dktX5_isOfName_0 : List UInt8 := dkwX5_isOfName_0 ++ dktX5_isOfName_1
theorem dksX5_isOfName_0 : cX5_isOfName.data.toList.drop 0 = dktX5_isOfName_0 := by decide +kernel
theorem dksX5_isOfName_1 : cX5_isOfName.data.toList.drop 24 = dktX5_isOfName_1 := dk_seg dksX5_isOfName_0 24 rfl rfl
theorem dX5_isOfName_0 : decode cX5_isOfName 0 = .ok (.iload_n 0, 1) := dk_26 (dk_at dksX5_isOfName_0 0 rfl rfl)
theorem dX5_isOfName_1 : decode cX5_isOfName 1 = .ok (.bipush 97, 2) := dk_16 97 (dk_at dksX5_isOfName_0 1 rfl rfl)
theorem dX5_isOfName_3 : decode cX5_isOfName 3 = .ok (.bipush 122, 2) := dk_16 122 (dk_at dksX5_isOfName_0 3 rfl rfl)
theorem dX5_isOfName_5 : decode cX5_isOfName 5 = .ok (.invokestatic 105, 3) := dk_184 0 105 (dk_at dksX5_isOfName_0 5 rfl rfl)
theorem dX5_isOfName_8 : decode cX5_isOfName 8 = .ok (.ifCond .ne 22, 3) := dk_154 0 22 (dk_at dksX5_isOfName_0 8 rfl rfl)
theorem dX5_isOfName_11 : decode cX5_isOfName 11 = .ok (.iload_n 0, 1) := dk_26 (dk_at dksX5_isOfName_0 11 rfl rfl)
theorem dX5_isOfName_12 : decode cX5_isOfName 12 = .ok (.invokestatic 140, 3) := dk_184 0 140 (dk_at dksX5_isOfName_0 12 rfl rfl)
theorem dX5_isOfName_15 : decode cX5_isOfName 15 = .ok (.ifCond .ne 15, 3) := dk_154 0 15 (dk_at dksX5_isOfName_0 15 rfl rfl)
theorem dX5_isOfName_18 : decode cX5_isOfName 18 = .ok (.iload_n 0, 1) := dk_26 (dk_at dksX5_isOfName_0 18 rfl rfl)
theorem dX5_isOfName_19 : decode cX5_isOfName 19 = .ok (.bipush 46, 2) := dk_16 46 (dk_at dksX5_isOfName_0 19 rfl rfl)
theorem dX5_isOfName_21 : decode cX5_isOfName 21 = .ok (.if_icmp .eq 9, 3) := dk_159 0 9 (dk_at dksX5_isOfName_0 21 rfl rfl)
theorem dX5_isOfName_24 : decode cX5_isOfName 24 = .ok (.iload_n 0, 1) := dk_26 (dk_at dksX5_isOfName_1 0 rfl rfl)
theorem dX5_isOfName_25 : decode cX5_isOfName 25 = .ok (.bipush 45, 2) := dk_16 45 (dk_at dksX5_isOfName_1 1 rfl rfl)
theorem dX5_isOfName_27 : decode cX5_isOfName 27 = .ok (.if_icmp .ne 7, 3) := dk_160 0 7 (dk_at dksX5_isOfName_1 3 rfl rfl)
theorem dX5_isOfName_30 : decode cX5_isOfName 30 = .ok (.iconst 1, 1) := dk_4 (dk_at dksX5_isOfName_1 6 rfl rfl)
theorem dX5_isOfName_31 : decode cX5_isOfName 31 = .ok (.goto 4, 3) := dk_167 0 4 (dk_at dksX5_isOfName_1 7 rfl rfl)
theorem dX5_isOfName_34 : decode cX5_isOfName 34 = .ok (.iconst 0, 1) := dk_3 (dk_at dksX5_isOfName_1 10 rfl rfl)
theorem dX5_isOfName_35 : decode cX5_isOfName 35 = .ok (.ireturn, 1) := dk_172 (dk_at dksX5_isOfName_1 11 rfl rfl)
abbrev cX5_isDigit : ByteArray := prog_17_method_26_code
def yX5_isDigit : MethodName := ⟨RX5, "isDigit", "(I)Z"⟩
def dkwX5_isDigit_0 : List UInt8 := [26, 16, 48, 16, 57, 184, 0, 105, 172]
abbrev dktX5_isDigit_0 : List UInt8 := dkwX5_isDigit_0 ++ []
theorem dksX5_isDigit_0 : cX5_isDigit.data.toList.drop 0 = dktX5_isDigit_0 := by decide +kernel
theorem dX5_isDigit_0 : decode cX5_isDigit 0 = .ok (.iload_n 0, 1) := dk_26 (dk_at dksX5_isDigit_0 0 rfl rfl)
theorem dX5_isDigit_1 : decode cX5_isDigit 1 = .ok (.bipush 48, 2) := dk_16 48 (dk_at dksX5_isDigit_0 1 rfl rfl)
theorem dX5_isDigit_3 : decode cX5_isDigit 3 = .ok (.bipush 57, 2) := dk_16 57 (dk_at dksX5_isDigit_0 3 rfl rfl)
theorem dX5_isDigit_5 : decode cX5_isDigit 5 = .ok (.invokestatic 105, 3) := dk_184 0 105 (dk_at dksX5_isDigit_0 5 rfl rfl)
theorem dX5_isDigit_8 : decode cX5_isDigit 8 = .ok (.ireturn, 1) := dk_172 (dk_at dksX5_isDigit_0 8 rfl rfl)
abbrev cX5_isWell : ByteArray := prog_17_method_30_code
def yX5_isWell : MethodName := ⟨RX5, "isWell", "()Z"⟩
def dkwX5_isWell_0 : List UInt8 := [42, 180, 0, 162, 2, 160, 0, 7, 4, 167, 0, 4, 3, 172]
abbrev dktX5_isWell_0 : List UInt8 := dkwX5_isWell_0 ++ []
theorem dksX5_isWell_0 : cX5_isWell.data.toList.drop 0 = dktX5_isWell_0 := by decide +kernel
theorem dX5_isWell_0 : decode cX5_isWell 0 = .ok (.aload_n 0, 1) := dk_42 (dk_at dksX5_isWell_0 0 rfl rfl)
theorem dX5_isWell_1 : decode cX5_isWell 1 = .ok (.getfield 162, 3) := dk_180 0 162 (dk_at dksX5_isWell_0 1 rfl rfl)
theorem dX5_isWell_4 : decode cX5_isWell 4 = .ok (.iconst (-1), 1) := dk_2 (dk_at dksX5_isWell_0 4 rfl rfl)
theorem dX5_isWell_5 : decode cX5_isWell 5 = .ok (.if_icmp .ne 7, 3) := dk_160 0 7 (dk_at dksX5_isWell_0 5 rfl rfl)
theorem dX5_isWell_8 : decode cX5_isWell 8 = .ok (.iconst 1, 1) := dk_4 (dk_at dksX5_isWell_0 8 rfl rfl)
theorem dX5_isWell_9 : decode cX5_isWell 9 = .ok (.goto 4, 3) := dk_167 0 4 (dk_at dksX5_isWell_0 9 rfl rfl)
theorem dX5_isWell_12 : decode cX5_isWell 12 = .ok (.iconst 0, 1) := dk_3 (dk_at dksX5_isWell_0 12 rfl rfl)
theorem dX5_isWell_13 : decode cX5_isWell 13 = .ok (.ireturn, 1) := dk_172 (dk_at dksX5_isWell_0 13 rfl rfl)
abbrev cX5_readStatement : ByteArray := prog_17_method_51_code
def yX5_readStatement : MethodName := ⟨RX5, "readStatement", "()V"⟩
def dkwX5_readStatement_4 : List UInt8 := [4, 167, 0, 4, 3, 182, 0, 203, 42, 182, 0, 207, 177]
abbrev dktX5_readStatement_4 : List UInt8 := dkwX5_readStatement_4 ++ []
def dkwX5_readStatement_3 : List UInt8 := [167, 0, 4, 3, 182, 0, 203, 42, 182, 0, 207, 42, 182, 1, 17, 42, 42, 180, 0, 156, 5, 160, 0, 7]
abbrev dktX5_readStatement_3 : List UInt8 := dkwX5_readStatement_3 ++ dktX5_readStatement_4
def dkwX5_readStatement_2 : List UInt8 := [167, 0, 39, 42, 42, 19, 1, 15, 182, 0, 221, 153, 0, 16, 42, 182, 0, 109, 16, 8, 162, 0, 7, 4]
abbrev dktX5_readStatement_2 : List UInt8 := dkwX5_readStatement_2 ++ dktX5_readStatement_3
def dkwX5_readStatement_1 : List UInt8 := [153, 0, 10, 42, 182, 1, 7, 167, 0, 56, 42, 19, 1, 10, 182, 0, 221, 153, 0, 10, 42, 182, 1, 12]
abbrev dktX5_readStatement_1 : List UInt8 := dkwX5_readStatement_1 ++ dktX5_readStatement_2
def dkwX5_readStatement_0 : List UInt8 := [42, 19, 1, 0, 182, 0, 221, 153, 0, 10, 42, 182, 1, 2, 167, 0, 73, 42, 19, 1, 5, 182, 0, 221]
abbrev dktX5_readStatement_0 : List UInt8 := dkwX5_readStatement_0 ++ dktX5_readStatement_1
theorem dksX5_readStatement_0 : cX5_readStatement.data.toList.drop 0 = dktX5_readStatement_0 := by decide +kernel
theorem dksX5_readStatement_1 : cX5_readStatement.data.toList.drop 24 = dktX5_readStatement_1 := dk_seg dksX5_readStatement_0 24 rfl rfl
theorem dksX5_readStatement_2 : cX5_readStatement.data.toList.drop 48 = dktX5_readStatement_2 := dk_seg dksX5_readStatement_1 24 rfl rfl
theorem dksX5_readStatement_3 : cX5_readStatement.data.toList.drop 72 = dktX5_readStatement_3 := dk_seg dksX5_readStatement_2 24 rfl rfl
theorem dksX5_readStatement_4 : cX5_readStatement.data.toList.drop 96 = dktX5_readStatement_4 := dk_seg dksX5_readStatement_3 24 rfl rfl
theorem dX5_readStatement_0 : decode cX5_readStatement 0 = .ok (.aload_n 0, 1) := dk_42 (dk_at dksX5_readStatement_0 0 rfl rfl)
theorem dX5_readStatement_1 : decode cX5_readStatement 1 = .ok (.ldc_w 256, 3) := dk_19 1 0 (dk_at dksX5_readStatement_0 1 rfl rfl)
theorem dX5_readStatement_4 : decode cX5_readStatement 4 = .ok (.invokevirtual 221, 3) := dk_182 0 221 (dk_at dksX5_readStatement_0 4 rfl rfl)
theorem dX5_readStatement_7 : decode cX5_readStatement 7 = .ok (.ifCond .eq 10, 3) := dk_153 0 10 (dk_at dksX5_readStatement_0 7 rfl rfl)
theorem dX5_readStatement_10 : decode cX5_readStatement 10 = .ok (.aload_n 0, 1) := dk_42 (dk_at dksX5_readStatement_0 10 rfl rfl)
theorem dX5_readStatement_11 : decode cX5_readStatement 11 = .ok (.invokevirtual 258, 3) := dk_182 1 2 (dk_at dksX5_readStatement_0 11 rfl rfl)
theorem dX5_readStatement_14 : decode cX5_readStatement 14 = .ok (.goto 73, 3) := dk_167 0 73 (dk_at dksX5_readStatement_0 14 rfl rfl)
theorem dX5_readStatement_17 : decode cX5_readStatement 17 = .ok (.aload_n 0, 1) := dk_42 (dk_at dksX5_readStatement_0 17 rfl rfl)
theorem dX5_readStatement_18 : decode cX5_readStatement 18 = .ok (.ldc_w 261, 3) := dk_19 1 5 (dk_at dksX5_readStatement_0 18 rfl rfl)
theorem dX5_readStatement_21 : decode cX5_readStatement 21 = .ok (.invokevirtual 221, 3) := dk_182 0 221 (dk_at dksX5_readStatement_0 21 rfl rfl)
theorem dX5_readStatement_24 : decode cX5_readStatement 24 = .ok (.ifCond .eq 10, 3) := dk_153 0 10 (dk_at dksX5_readStatement_1 0 rfl rfl)
theorem dX5_readStatement_27 : decode cX5_readStatement 27 = .ok (.aload_n 0, 1) := dk_42 (dk_at dksX5_readStatement_1 3 rfl rfl)
theorem dX5_readStatement_28 : decode cX5_readStatement 28 = .ok (.invokevirtual 263, 3) := dk_182 1 7 (dk_at dksX5_readStatement_1 4 rfl rfl)
theorem dX5_readStatement_31 : decode cX5_readStatement 31 = .ok (.goto 56, 3) := dk_167 0 56 (dk_at dksX5_readStatement_1 7 rfl rfl)
theorem dX5_readStatement_34 : decode cX5_readStatement 34 = .ok (.aload_n 0, 1) := dk_42 (dk_at dksX5_readStatement_1 10 rfl rfl)
theorem dX5_readStatement_35 : decode cX5_readStatement 35 = .ok (.ldc_w 266, 3) := dk_19 1 10 (dk_at dksX5_readStatement_1 11 rfl rfl)
theorem dX5_readStatement_38 : decode cX5_readStatement 38 = .ok (.invokevirtual 221, 3) := dk_182 0 221 (dk_at dksX5_readStatement_1 14 rfl rfl)
theorem dX5_readStatement_41 : decode cX5_readStatement 41 = .ok (.ifCond .eq 10, 3) := dk_153 0 10 (dk_at dksX5_readStatement_1 17 rfl rfl)
theorem dX5_readStatement_44 : decode cX5_readStatement 44 = .ok (.aload_n 0, 1) := dk_42 (dk_at dksX5_readStatement_1 20 rfl rfl)
theorem dX5_readStatement_45 : decode cX5_readStatement 45 = .ok (.invokevirtual 268, 3) := dk_182 1 12 (dk_at dksX5_readStatement_1 21 rfl rfl)
theorem dX5_readStatement_48 : decode cX5_readStatement 48 = .ok (.goto 39, 3) := dk_167 0 39 (dk_at dksX5_readStatement_2 0 rfl rfl)
theorem dX5_readStatement_51 : decode cX5_readStatement 51 = .ok (.aload_n 0, 1) := dk_42 (dk_at dksX5_readStatement_2 3 rfl rfl)
theorem dX5_readStatement_52 : decode cX5_readStatement 52 = .ok (.aload_n 0, 1) := dk_42 (dk_at dksX5_readStatement_2 4 rfl rfl)
theorem dX5_readStatement_53 : decode cX5_readStatement 53 = .ok (.ldc_w 271, 3) := dk_19 1 15 (dk_at dksX5_readStatement_2 5 rfl rfl)
theorem dX5_readStatement_56 : decode cX5_readStatement 56 = .ok (.invokevirtual 221, 3) := dk_182 0 221 (dk_at dksX5_readStatement_2 8 rfl rfl)
theorem dX5_readStatement_59 : decode cX5_readStatement 59 = .ok (.ifCond .eq 16, 3) := dk_153 0 16 (dk_at dksX5_readStatement_2 11 rfl rfl)
theorem dX5_readStatement_62 : decode cX5_readStatement 62 = .ok (.aload_n 0, 1) := dk_42 (dk_at dksX5_readStatement_2 14 rfl rfl)
theorem dX5_readStatement_63 : decode cX5_readStatement 63 = .ok (.invokevirtual 109, 3) := dk_182 0 109 (dk_at dksX5_readStatement_2 15 rfl rfl)
theorem dX5_readStatement_66 : decode cX5_readStatement 66 = .ok (.bipush 8, 2) := dk_16 8 (dk_at dksX5_readStatement_2 18 rfl rfl)
theorem dX5_readStatement_68 : decode cX5_readStatement 68 = .ok (.if_icmp .ge 7, 3) := dk_162 0 7 (dk_at dksX5_readStatement_2 20 rfl rfl)
theorem dX5_readStatement_71 : decode cX5_readStatement 71 = .ok (.iconst 1, 1) := dk_4 (dk_at dksX5_readStatement_2 23 rfl rfl)
theorem dX5_readStatement_72 : decode cX5_readStatement 72 = .ok (.goto 4, 3) := dk_167 0 4 (dk_at dksX5_readStatement_3 0 rfl rfl)
theorem dX5_readStatement_75 : decode cX5_readStatement 75 = .ok (.iconst 0, 1) := dk_3 (dk_at dksX5_readStatement_3 3 rfl rfl)
theorem dX5_readStatement_76 : decode cX5_readStatement 76 = .ok (.invokevirtual 203, 3) := dk_182 0 203 (dk_at dksX5_readStatement_3 4 rfl rfl)
theorem dX5_readStatement_79 : decode cX5_readStatement 79 = .ok (.aload_n 0, 1) := dk_42 (dk_at dksX5_readStatement_3 7 rfl rfl)
theorem dX5_readStatement_80 : decode cX5_readStatement 80 = .ok (.invokevirtual 207, 3) := dk_182 0 207 (dk_at dksX5_readStatement_3 8 rfl rfl)
theorem dX5_readStatement_83 : decode cX5_readStatement 83 = .ok (.aload_n 0, 1) := dk_42 (dk_at dksX5_readStatement_3 11 rfl rfl)
theorem dX5_readStatement_84 : decode cX5_readStatement 84 = .ok (.invokevirtual 273, 3) := dk_182 1 17 (dk_at dksX5_readStatement_3 12 rfl rfl)
theorem dX5_readStatement_87 : decode cX5_readStatement 87 = .ok (.aload_n 0, 1) := dk_42 (dk_at dksX5_readStatement_3 15 rfl rfl)
theorem dX5_readStatement_88 : decode cX5_readStatement 88 = .ok (.aload_n 0, 1) := dk_42 (dk_at dksX5_readStatement_3 16 rfl rfl)
theorem dX5_readStatement_89 : decode cX5_readStatement 89 = .ok (.getfield 156, 3) := dk_180 0 156 (dk_at dksX5_readStatement_3 17 rfl rfl)
theorem dX5_readStatement_92 : decode cX5_readStatement 92 = .ok (.iconst 2, 1) := dk_5 (dk_at dksX5_readStatement_3 20 rfl rfl)
theorem dX5_readStatement_93 : decode cX5_readStatement 93 = .ok (.if_icmp .ne 7, 3) := dk_160 0 7 (dk_at dksX5_readStatement_3 21 rfl rfl)
theorem dX5_readStatement_96 : decode cX5_readStatement 96 = .ok (.iconst 1, 1) := dk_4 (dk_at dksX5_readStatement_4 0 rfl rfl)
theorem dX5_readStatement_97 : decode cX5_readStatement 97 = .ok (.goto 4, 3) := dk_167 0 4 (dk_at dksX5_readStatement_4 1 rfl rfl)
theorem dX5_readStatement_100 : decode cX5_readStatement 100 = .ok (.iconst 0, 1) := dk_3 (dk_at dksX5_readStatement_4 4 rfl rfl)
theorem dX5_readStatement_101 : decode cX5_readStatement 101 = .ok (.invokevirtual 203, 3) := dk_182 0 203 (dk_at dksX5_readStatement_4 5 rfl rfl)
theorem dX5_readStatement_104 : decode cX5_readStatement 104 = .ok (.aload_n 0, 1) := dk_42 (dk_at dksX5_readStatement_4 8 rfl rfl)
theorem dX5_readStatement_105 : decode cX5_readStatement 105 = .ok (.invokevirtual 207, 3) := dk_182 0 207 (dk_at dksX5_readStatement_4 9 rfl rfl)
theorem dX5_readStatement_108 : decode cX5_readStatement 108 = .ok (.return_, 1) := dk_177 (dk_at dksX5_readStatement_4 12 rfl rfl)
abbrev cX5_isWord : ByteArray := prog_17_method_34_code
def yX5_isWord : MethodName := ⟨RX5, "isWord", "(Ljava/lang/String;)Z"⟩
def dkwX5_isWord_2 : List UInt8 := [159, 0, 5, 3, 172, 132, 2, 1, 167, 255, 225, 4, 172]
abbrev dktX5_isWord_2 : List UInt8 := dkwX5_isWord_2 ++ []
def dkwX5_isWord_1 : List UInt8 := [43, 182, 0, 175, 162, 0, 29, 42, 42, 180, 0, 153, 28, 96, 182, 0, 150, 43, 28, 182, 0, 180]
abbrev dktX5_isWord_1 : List UInt8 := dkwX5_isWord_1 ++ dktX5_isWord_2
def dkwX5_isWord_0 : List UInt8 := [42, 180, 0, 156, 4, 160, 0, 14, 42, 182, 0, 172, 43, 182, 0, 175, 159, 0, 5, 3, 172, 3, 61, 28]
abbrev dktX5_isWord_0 : List UInt8 := dkwX5_isWord_0 ++ dktX5_isWord_1
theorem dksX5_isWord_0 : cX5_isWord.data.toList.drop 0 = dktX5_isWord_0 := by decide +kernel
theorem dksX5_isWord_1 : cX5_isWord.data.toList.drop 24 = dktX5_isWord_1 := dk_seg dksX5_isWord_0 24 rfl rfl
theorem dksX5_isWord_2 : cX5_isWord.data.toList.drop 46 = dktX5_isWord_2 := dk_seg dksX5_isWord_1 22 rfl rfl
theorem dX5_isWord_0 : decode cX5_isWord 0 = .ok (.aload_n 0, 1) := dk_42 (dk_at dksX5_isWord_0 0 rfl rfl)
theorem dX5_isWord_1 : decode cX5_isWord 1 = .ok (.getfield 156, 3) := dk_180 0 156 (dk_at dksX5_isWord_0 1 rfl rfl)
theorem dX5_isWord_4 : decode cX5_isWord 4 = .ok (.iconst 1, 1) := dk_4 (dk_at dksX5_isWord_0 4 rfl rfl)
theorem dX5_isWord_5 : decode cX5_isWord 5 = .ok (.if_icmp .ne 14, 3) := dk_160 0 14 (dk_at dksX5_isWord_0 5 rfl rfl)
theorem dX5_isWord_8 : decode cX5_isWord 8 = .ok (.aload_n 0, 1) := dk_42 (dk_at dksX5_isWord_0 8 rfl rfl)
theorem dX5_isWord_9 : decode cX5_isWord 9 = .ok (.invokevirtual 172, 3) := dk_182 0 172 (dk_at dksX5_isWord_0 9 rfl rfl)
theorem dX5_isWord_12 : decode cX5_isWord 12 = .ok (.aload_n 1, 1) := dk_43 (dk_at dksX5_isWord_0 12 rfl rfl)
theorem dX5_isWord_13 : decode cX5_isWord 13 = .ok (.invokevirtual 175, 3) := dk_182 0 175 (dk_at dksX5_isWord_0 13 rfl rfl)
theorem dX5_isWord_16 : decode cX5_isWord 16 = .ok (.if_icmp .eq 5, 3) := dk_159 0 5 (dk_at dksX5_isWord_0 16 rfl rfl)
theorem dX5_isWord_19 : decode cX5_isWord 19 = .ok (.iconst 0, 1) := dk_3 (dk_at dksX5_isWord_0 19 rfl rfl)
theorem dX5_isWord_20 : decode cX5_isWord 20 = .ok (.ireturn, 1) := dk_172 (dk_at dksX5_isWord_0 20 rfl rfl)
theorem dX5_isWord_21 : decode cX5_isWord 21 = .ok (.iconst 0, 1) := dk_3 (dk_at dksX5_isWord_0 21 rfl rfl)
theorem dX5_isWord_22 : decode cX5_isWord 22 = .ok (.istore_n 2, 1) := dk_61 (dk_at dksX5_isWord_0 22 rfl rfl)
theorem dX5_isWord_23 : decode cX5_isWord 23 = .ok (.iload_n 2, 1) := dk_28 (dk_at dksX5_isWord_0 23 rfl rfl)
theorem dX5_isWord_24 : decode cX5_isWord 24 = .ok (.aload_n 1, 1) := dk_43 (dk_at dksX5_isWord_1 0 rfl rfl)
theorem dX5_isWord_25 : decode cX5_isWord 25 = .ok (.invokevirtual 175, 3) := dk_182 0 175 (dk_at dksX5_isWord_1 1 rfl rfl)
theorem dX5_isWord_28 : decode cX5_isWord 28 = .ok (.if_icmp .ge 29, 3) := dk_162 0 29 (dk_at dksX5_isWord_1 4 rfl rfl)
theorem dX5_isWord_31 : decode cX5_isWord 31 = .ok (.aload_n 0, 1) := dk_42 (dk_at dksX5_isWord_1 7 rfl rfl)
theorem dX5_isWord_32 : decode cX5_isWord 32 = .ok (.aload_n 0, 1) := dk_42 (dk_at dksX5_isWord_1 8 rfl rfl)
theorem dX5_isWord_33 : decode cX5_isWord 33 = .ok (.getfield 153, 3) := dk_180 0 153 (dk_at dksX5_isWord_1 9 rfl rfl)
theorem dX5_isWord_36 : decode cX5_isWord 36 = .ok (.iload_n 2, 1) := dk_28 (dk_at dksX5_isWord_1 12 rfl rfl)
theorem dX5_isWord_37 : decode cX5_isWord 37 = .ok (.iadd, 1) := dk_96 (dk_at dksX5_isWord_1 13 rfl rfl)
theorem dX5_isWord_38 : decode cX5_isWord 38 = .ok (.invokevirtual 150, 3) := dk_182 0 150 (dk_at dksX5_isWord_1 14 rfl rfl)
theorem dX5_isWord_41 : decode cX5_isWord 41 = .ok (.aload_n 1, 1) := dk_43 (dk_at dksX5_isWord_1 17 rfl rfl)
theorem dX5_isWord_42 : decode cX5_isWord 42 = .ok (.iload_n 2, 1) := dk_28 (dk_at dksX5_isWord_1 18 rfl rfl)
theorem dX5_isWord_43 : decode cX5_isWord 43 = .ok (.invokevirtual 180, 3) := dk_182 0 180 (dk_at dksX5_isWord_1 19 rfl rfl)
theorem dX5_isWord_46 : decode cX5_isWord 46 = .ok (.if_icmp .eq 5, 3) := dk_159 0 5 (dk_at dksX5_isWord_2 0 rfl rfl)
theorem dX5_isWord_49 : decode cX5_isWord 49 = .ok (.iconst 0, 1) := dk_3 (dk_at dksX5_isWord_2 3 rfl rfl)
theorem dX5_isWord_50 : decode cX5_isWord 50 = .ok (.ireturn, 1) := dk_172 (dk_at dksX5_isWord_2 4 rfl rfl)
theorem dX5_isWord_51 : decode cX5_isWord 51 = .ok (.iinc 2 1, 3) := dk_132 2 1 (dk_at dksX5_isWord_2 5 rfl rfl)
theorem dX5_isWord_54 : decode cX5_isWord 54 = .ok (.goto (-31), 3) := dk_167 255 225 (dk_at dksX5_isWord_2 8 rfl rfl)
theorem dX5_isWord_57 : decode cX5_isWord 57 = .ok (.iconst 1, 1) := dk_4 (dk_at dksX5_isWord_2 11 rfl rfl)
theorem dX5_isWord_58 : decode cX5_isWord 58 = .ok (.ireturn, 1) := dk_172 (dk_at dksX5_isWord_2 12 rfl rfl)
abbrev cX5_tokenLong : ByteArray := prog_17_method_33_code
def yX5_tokenLong : MethodName := ⟨RX5, "tokenLong", "()I"⟩
def dkwX5_tokenLong_0 : List UInt8 := [42, 180, 0, 147, 42, 180, 0, 153, 100, 172]
abbrev dktX5_tokenLong_0 : List UInt8 := dkwX5_tokenLong_0 ++ []
theorem dksX5_tokenLong_0 : cX5_tokenLong.data.toList.drop 0 = dktX5_tokenLong_0 := by decide +kernel
theorem dX5_tokenLong_0 : decode cX5_tokenLong 0 = .ok (.aload_n 0, 1) := dk_42 (dk_at dksX5_tokenLong_0 0 rfl rfl)
theorem dX5_tokenLong_1 : decode cX5_tokenLong 1 = .ok (.getfield 147, 3) := dk_180 0 147 (dk_at dksX5_tokenLong_0 1 rfl rfl)
theorem dX5_tokenLong_4 : decode cX5_tokenLong 4 = .ok (.aload_n 0, 1) := dk_42 (dk_at dksX5_tokenLong_0 4 rfl rfl)
theorem dX5_tokenLong_5 : decode cX5_tokenLong 5 = .ok (.getfield 153, 3) := dk_180 0 153 (dk_at dksX5_tokenLong_0 5 rfl rfl)
theorem dX5_tokenLong_8 : decode cX5_tokenLong 8 = .ok (.isub, 1) := dk_100 (dk_at dksX5_tokenLong_0 8 rfl rfl)
theorem dX5_tokenLong_9 : decode cX5_tokenLong 9 = .ok (.ireturn, 1) := dk_172 (dk_at dksX5_tokenLong_0 9 rfl rfl)
abbrev cX5_readFile : ByteArray := prog_17_method_47_code
def yX5_readFile : MethodName := ⟨RX5, "readFile", "()V"⟩
def dkwX5_readFile_3 : List UInt8 := [153, 0, 7, 42, 182, 0, 249, 42, 182, 0, 207, 177]
abbrev dktX5_readFile_3 : List UInt8 := dkwX5_readFile_3 ++ []
def dkwX5_readFile_2 : List UInt8 := [182, 0, 243, 42, 42, 182, 0, 246, 2, 160, 0, 7, 4, 167, 0, 4, 3, 182, 0, 203, 42, 182, 0, 165]
abbrev dktX5_readFile_2 : List UInt8 := dkwX5_readFile_2 ++ dktX5_readFile_3
def dkwX5_readFile_1 : List UInt8 := [182, 0, 240, 182, 0, 203, 42, 182, 0, 165, 154, 0, 4, 177, 42, 42, 180, 0, 153, 42, 182, 0, 172]
abbrev dktX5_readFile_1 : List UInt8 := dkwX5_readFile_1 ++ dktX5_readFile_2
def dkwX5_readFile_0 : List UInt8 := [42, 42, 182, 0, 101, 16, 20, 162, 0, 7, 4, 167, 0, 4, 3, 182, 0, 203, 42, 182, 0, 207, 42, 42]
abbrev dktX5_readFile_0 : List UInt8 := dkwX5_readFile_0 ++ dktX5_readFile_1
theorem dksX5_readFile_0 : cX5_readFile.data.toList.drop 0 = dktX5_readFile_0 := by decide +kernel
theorem dksX5_readFile_1 : cX5_readFile.data.toList.drop 24 = dktX5_readFile_1 := dk_seg dksX5_readFile_0 24 rfl rfl
theorem dksX5_readFile_2 : cX5_readFile.data.toList.drop 47 = dktX5_readFile_2 := dk_seg dksX5_readFile_1 23 rfl rfl
theorem dksX5_readFile_3 : cX5_readFile.data.toList.drop 71 = dktX5_readFile_3 := dk_seg dksX5_readFile_2 24 rfl rfl
theorem dX5_readFile_0 : decode cX5_readFile 0 = .ok (.aload_n 0, 1) := dk_42 (dk_at dksX5_readFile_0 0 rfl rfl)
theorem dX5_readFile_1 : decode cX5_readFile 1 = .ok (.aload_n 0, 1) := dk_42 (dk_at dksX5_readFile_0 1 rfl rfl)
theorem dX5_readFile_2 : decode cX5_readFile 2 = .ok (.invokevirtual 101, 3) := dk_182 0 101 (dk_at dksX5_readFile_0 2 rfl rfl)
theorem dX5_readFile_5 : decode cX5_readFile 5 = .ok (.bipush 20, 2) := dk_16 20 (dk_at dksX5_readFile_0 5 rfl rfl)
theorem dX5_readFile_7 : decode cX5_readFile 7 = .ok (.if_icmp .ge 7, 3) := dk_162 0 7 (dk_at dksX5_readFile_0 7 rfl rfl)
theorem dX5_readFile_10 : decode cX5_readFile 10 = .ok (.iconst 1, 1) := dk_4 (dk_at dksX5_readFile_0 10 rfl rfl)
theorem dX5_readFile_11 : decode cX5_readFile 11 = .ok (.goto 4, 3) := dk_167 0 4 (dk_at dksX5_readFile_0 11 rfl rfl)
theorem dX5_readFile_14 : decode cX5_readFile 14 = .ok (.iconst 0, 1) := dk_3 (dk_at dksX5_readFile_0 14 rfl rfl)
theorem dX5_readFile_15 : decode cX5_readFile 15 = .ok (.invokevirtual 203, 3) := dk_182 0 203 (dk_at dksX5_readFile_0 15 rfl rfl)
theorem dX5_readFile_18 : decode cX5_readFile 18 = .ok (.aload_n 0, 1) := dk_42 (dk_at dksX5_readFile_0 18 rfl rfl)
theorem dX5_readFile_19 : decode cX5_readFile 19 = .ok (.invokevirtual 207, 3) := dk_182 0 207 (dk_at dksX5_readFile_0 19 rfl rfl)
theorem dX5_readFile_22 : decode cX5_readFile 22 = .ok (.aload_n 0, 1) := dk_42 (dk_at dksX5_readFile_0 22 rfl rfl)
theorem dX5_readFile_23 : decode cX5_readFile 23 = .ok (.aload_n 0, 1) := dk_42 (dk_at dksX5_readFile_0 23 rfl rfl)
theorem dX5_readFile_24 : decode cX5_readFile 24 = .ok (.invokevirtual 240, 3) := dk_182 0 240 (dk_at dksX5_readFile_1 0 rfl rfl)
theorem dX5_readFile_27 : decode cX5_readFile 27 = .ok (.invokevirtual 203, 3) := dk_182 0 203 (dk_at dksX5_readFile_1 3 rfl rfl)
theorem dX5_readFile_30 : decode cX5_readFile 30 = .ok (.aload_n 0, 1) := dk_42 (dk_at dksX5_readFile_1 6 rfl rfl)
theorem dX5_readFile_31 : decode cX5_readFile 31 = .ok (.invokevirtual 165, 3) := dk_182 0 165 (dk_at dksX5_readFile_1 7 rfl rfl)
theorem dX5_readFile_34 : decode cX5_readFile 34 = .ok (.ifCond .ne 4, 3) := dk_154 0 4 (dk_at dksX5_readFile_1 10 rfl rfl)
theorem dX5_readFile_37 : decode cX5_readFile 37 = .ok (.return_, 1) := dk_177 (dk_at dksX5_readFile_1 13 rfl rfl)
theorem dX5_readFile_38 : decode cX5_readFile 38 = .ok (.aload_n 0, 1) := dk_42 (dk_at dksX5_readFile_1 14 rfl rfl)
theorem dX5_readFile_39 : decode cX5_readFile 39 = .ok (.aload_n 0, 1) := dk_42 (dk_at dksX5_readFile_1 15 rfl rfl)
theorem dX5_readFile_40 : decode cX5_readFile 40 = .ok (.getfield 153, 3) := dk_180 0 153 (dk_at dksX5_readFile_1 16 rfl rfl)
theorem dX5_readFile_43 : decode cX5_readFile 43 = .ok (.aload_n 0, 1) := dk_42 (dk_at dksX5_readFile_1 19 rfl rfl)
theorem dX5_readFile_44 : decode cX5_readFile 44 = .ok (.invokevirtual 172, 3) := dk_182 0 172 (dk_at dksX5_readFile_1 20 rfl rfl)
theorem dX5_readFile_47 : decode cX5_readFile 47 = .ok (.invokevirtual 243, 3) := dk_182 0 243 (dk_at dksX5_readFile_2 0 rfl rfl)
theorem dX5_readFile_50 : decode cX5_readFile 50 = .ok (.aload_n 0, 1) := dk_42 (dk_at dksX5_readFile_2 3 rfl rfl)
theorem dX5_readFile_51 : decode cX5_readFile 51 = .ok (.aload_n 0, 1) := dk_42 (dk_at dksX5_readFile_2 4 rfl rfl)
theorem dX5_readFile_52 : decode cX5_readFile 52 = .ok (.invokevirtual 246, 3) := dk_182 0 246 (dk_at dksX5_readFile_2 5 rfl rfl)
theorem dX5_readFile_55 : decode cX5_readFile 55 = .ok (.iconst (-1), 1) := dk_2 (dk_at dksX5_readFile_2 8 rfl rfl)
theorem dX5_readFile_56 : decode cX5_readFile 56 = .ok (.if_icmp .ne 7, 3) := dk_160 0 7 (dk_at dksX5_readFile_2 9 rfl rfl)
theorem dX5_readFile_59 : decode cX5_readFile 59 = .ok (.iconst 1, 1) := dk_4 (dk_at dksX5_readFile_2 12 rfl rfl)
theorem dX5_readFile_60 : decode cX5_readFile 60 = .ok (.goto 4, 3) := dk_167 0 4 (dk_at dksX5_readFile_2 13 rfl rfl)
theorem dX5_readFile_63 : decode cX5_readFile 63 = .ok (.iconst 0, 1) := dk_3 (dk_at dksX5_readFile_2 16 rfl rfl)
theorem dX5_readFile_64 : decode cX5_readFile 64 = .ok (.invokevirtual 203, 3) := dk_182 0 203 (dk_at dksX5_readFile_2 17 rfl rfl)
theorem dX5_readFile_67 : decode cX5_readFile 67 = .ok (.aload_n 0, 1) := dk_42 (dk_at dksX5_readFile_2 20 rfl rfl)
theorem dX5_readFile_68 : decode cX5_readFile 68 = .ok (.invokevirtual 165, 3) := dk_182 0 165 (dk_at dksX5_readFile_2 21 rfl rfl)
theorem dX5_readFile_71 : decode cX5_readFile 71 = .ok (.ifCond .eq 7, 3) := dk_153 0 7 (dk_at dksX5_readFile_3 0 rfl rfl)
theorem dX5_readFile_74 : decode cX5_readFile 74 = .ok (.aload_n 0, 1) := dk_42 (dk_at dksX5_readFile_3 3 rfl rfl)
theorem dX5_readFile_75 : decode cX5_readFile 75 = .ok (.invokevirtual 249, 3) := dk_182 0 249 (dk_at dksX5_readFile_3 4 rfl rfl)
theorem dX5_readFile_78 : decode cX5_readFile 78 = .ok (.aload_n 0, 1) := dk_42 (dk_at dksX5_readFile_3 7 rfl rfl)
theorem dX5_readFile_79 : decode cX5_readFile 79 = .ok (.invokevirtual 207, 3) := dk_182 0 207 (dk_at dksX5_readFile_3 8 rfl rfl)
theorem dX5_readFile_82 : decode cX5_readFile 82 = .ok (.return_, 1) := dk_177 (dk_at dksX5_readFile_3 11 rfl rfl)
abbrev cX5_many : ByteArray := prog_17_method_7_code
def yX5_many : MethodName := ⟨RX5, "many", "()I"⟩
def dkwX5_many_0 : List UInt8 := [42, 3, 182, 0, 97, 172]
abbrev dktX5_many_0 : List UInt8 := dkwX5_many_0 ++ []
theorem dksX5_many_0 : cX5_many.data.toList.drop 0 = dktX5_many_0 := by decide +kernel
theorem dX5_many_0 : decode cX5_many 0 = .ok (.aload_n 0, 1) := dk_42 (dk_at dksX5_many_0 0 rfl rfl)
theorem dX5_many_1 : decode cX5_many 1 = .ok (.iconst 0, 1) := dk_3 (dk_at dksX5_many_0 1 rfl rfl)
theorem dX5_many_2 : decode cX5_many 2 = .ok (.invokevirtual 97, 3) := dk_182 0 97 (dk_at dksX5_many_0 2 rfl rfl)
theorem dX5_many_5 : decode cX5_many 5 = .ok (.ireturn, 1) := dk_172 (dk_at dksX5_many_0 5 rfl rfl)
abbrev cX5_get : ByteArray := prog_17_method_5_code
def yX5_get : MethodName := ⟨RX5, "get", "(I)I"⟩
def dkwX5_get_0 : List UInt8 := [42, 180, 0, 7, 42, 180, 0, 94, 27, 96, 47, 136, 172]
abbrev dktX5_get_0 : List UInt8 := dkwX5_get_0 ++ []
theorem dksX5_get_0 : cX5_get.data.toList.drop 0 = dktX5_get_0 := by decide +kernel
theorem dX5_get_0 : decode cX5_get 0 = .ok (.aload_n 0, 1) := dk_42 (dk_at dksX5_get_0 0 rfl rfl)
theorem dX5_get_1 : decode cX5_get 1 = .ok (.getfield 7, 3) := dk_180 0 7 (dk_at dksX5_get_0 1 rfl rfl)
theorem dX5_get_4 : decode cX5_get 4 = .ok (.aload_n 0, 1) := dk_42 (dk_at dksX5_get_0 4 rfl rfl)
theorem dX5_get_5 : decode cX5_get 5 = .ok (.getfield 94, 3) := dk_180 0 94 (dk_at dksX5_get_0 5 rfl rfl)
theorem dX5_get_8 : decode cX5_get 8 = .ok (.iload_n 1, 1) := dk_27 (dk_at dksX5_get_0 8 rfl rfl)
theorem dX5_get_9 : decode cX5_get 9 = .ok (.iadd, 1) := dk_96 (dk_at dksX5_get_0 9 rfl rfl)
theorem dX5_get_10 : decode cX5_get 10 = .ok (.laload, 1) := dk_47 (dk_at dksX5_get_0 10 rfl rfl)
theorem dX5_get_11 : decode cX5_get 11 = .ok (.l2i, 1) := dk_136 (dk_at dksX5_get_0 11 rfl rfl)
theorem dX5_get_12 : decode cX5_get 12 = .ok (.ireturn, 1) := dk_172 (dk_at dksX5_get_0 12 rfl rfl)
abbrev cX5_must : ByteArray := prog_17_method_31_code
def yX5_must : MethodName := ⟨RX5, "must", "(Z)V"⟩
def dkwX5_must_0 : List UInt8 := [27, 154, 0, 19, 42, 180, 0, 162, 2, 160, 0, 11, 42, 42, 180, 0, 153, 181, 0, 162, 177]
abbrev dktX5_must_0 : List UInt8 := dkwX5_must_0 ++ []
theorem dksX5_must_0 : cX5_must.data.toList.drop 0 = dktX5_must_0 := by decide +kernel
theorem dX5_must_0 : decode cX5_must 0 = .ok (.iload_n 1, 1) := dk_27 (dk_at dksX5_must_0 0 rfl rfl)
theorem dX5_must_1 : decode cX5_must 1 = .ok (.ifCond .ne 19, 3) := dk_154 0 19 (dk_at dksX5_must_0 1 rfl rfl)
theorem dX5_must_4 : decode cX5_must 4 = .ok (.aload_n 0, 1) := dk_42 (dk_at dksX5_must_0 4 rfl rfl)
theorem dX5_must_5 : decode cX5_must 5 = .ok (.getfield 162, 3) := dk_180 0 162 (dk_at dksX5_must_0 5 rfl rfl)
theorem dX5_must_8 : decode cX5_must 8 = .ok (.iconst (-1), 1) := dk_2 (dk_at dksX5_must_0 8 rfl rfl)
theorem dX5_must_9 : decode cX5_must 9 = .ok (.if_icmp .ne 11, 3) := dk_160 0 11 (dk_at dksX5_must_0 9 rfl rfl)
theorem dX5_must_12 : decode cX5_must 12 = .ok (.aload_n 0, 1) := dk_42 (dk_at dksX5_must_0 12 rfl rfl)
theorem dX5_must_13 : decode cX5_must 13 = .ok (.aload_n 0, 1) := dk_42 (dk_at dksX5_must_0 13 rfl rfl)
theorem dX5_must_14 : decode cX5_must 14 = .ok (.getfield 153, 3) := dk_180 0 153 (dk_at dksX5_must_0 14 rfl rfl)
theorem dX5_must_17 : decode cX5_must 17 = .ok (.putfield 162, 3) := dk_181 0 162 (dk_at dksX5_must_0 17 rfl rfl)
theorem dX5_must_20 : decode cX5_must 20 = .ok (.return_, 1) := dk_177 (dk_at dksX5_must_0 20 rfl rfl)
abbrev cX5_goesOn : ByteArray := prog_17_method_32_code
def yX5_goesOn : MethodName := ⟨RX5, "goesOn", "()V"⟩
def dkwX5_goesOn_0 : List UInt8 := [42, 182, 0, 165, 153, 0, 7, 42, 182, 0, 169, 177]
abbrev dktX5_goesOn_0 : List UInt8 := dkwX5_goesOn_0 ++ []
theorem dksX5_goesOn_0 : cX5_goesOn.data.toList.drop 0 = dktX5_goesOn_0 := by decide +kernel
theorem dX5_goesOn_0 : decode cX5_goesOn 0 = .ok (.aload_n 0, 1) := dk_42 (dk_at dksX5_goesOn_0 0 rfl rfl)
theorem dX5_goesOn_1 : decode cX5_goesOn 1 = .ok (.invokevirtual 165, 3) := dk_182 0 165 (dk_at dksX5_goesOn_0 1 rfl rfl)
theorem dX5_goesOn_4 : decode cX5_goesOn 4 = .ok (.ifCond .eq 7, 3) := dk_153 0 7 (dk_at dksX5_goesOn_0 4 rfl rfl)
theorem dX5_goesOn_7 : decode cX5_goesOn 7 = .ok (.aload_n 0, 1) := dk_42 (dk_at dksX5_goesOn_0 7 rfl rfl)
theorem dX5_goesOn_8 : decode cX5_goesOn 8 = .ok (.invokevirtual 169, 3) := dk_182 0 169 (dk_at dksX5_goesOn_0 8 rfl rfl)
theorem dX5_goesOn_11 : decode cX5_goesOn 11 = .ok (.return_, 1) := dk_177 (dk_at dksX5_goesOn_0 11 rfl rfl)
abbrev cX5_isNameHere : ByteArray := prog_17_method_36_code
def yX5_isNameHere : MethodName := ⟨RX5, "isNameHere", "()Z"⟩
def dkwX5_isNameHere_1 : List UInt8 := [167, 0, 4, 3, 172]
abbrev dktX5_isNameHere_1 : List UInt8 := dkwX5_isNameHere_1 ++ []
def dkwX5_isNameHere_0 : List UInt8 := [42, 180, 0, 156, 4, 160, 0, 22, 42, 42, 180, 0, 153, 42, 182, 0, 172, 182, 0, 184, 153, 0, 7, 4]
abbrev dktX5_isNameHere_0 : List UInt8 := dkwX5_isNameHere_0 ++ dktX5_isNameHere_1
theorem dksX5_isNameHere_0 : cX5_isNameHere.data.toList.drop 0 = dktX5_isNameHere_0 := by decide +kernel
theorem dksX5_isNameHere_1 : cX5_isNameHere.data.toList.drop 24 = dktX5_isNameHere_1 := dk_seg dksX5_isNameHere_0 24 rfl rfl
theorem dX5_isNameHere_0 : decode cX5_isNameHere 0 = .ok (.aload_n 0, 1) := dk_42 (dk_at dksX5_isNameHere_0 0 rfl rfl)
theorem dX5_isNameHere_1 : decode cX5_isNameHere 1 = .ok (.getfield 156, 3) := dk_180 0 156 (dk_at dksX5_isNameHere_0 1 rfl rfl)
theorem dX5_isNameHere_4 : decode cX5_isNameHere 4 = .ok (.iconst 1, 1) := dk_4 (dk_at dksX5_isNameHere_0 4 rfl rfl)
theorem dX5_isNameHere_5 : decode cX5_isNameHere 5 = .ok (.if_icmp .ne 22, 3) := dk_160 0 22 (dk_at dksX5_isNameHere_0 5 rfl rfl)
theorem dX5_isNameHere_8 : decode cX5_isNameHere 8 = .ok (.aload_n 0, 1) := dk_42 (dk_at dksX5_isNameHere_0 8 rfl rfl)
theorem dX5_isNameHere_9 : decode cX5_isNameHere 9 = .ok (.aload_n 0, 1) := dk_42 (dk_at dksX5_isNameHere_0 9 rfl rfl)
theorem dX5_isNameHere_10 : decode cX5_isNameHere 10 = .ok (.getfield 153, 3) := dk_180 0 153 (dk_at dksX5_isNameHere_0 10 rfl rfl)
theorem dX5_isNameHere_13 : decode cX5_isNameHere 13 = .ok (.aload_n 0, 1) := dk_42 (dk_at dksX5_isNameHere_0 13 rfl rfl)
theorem dX5_isNameHere_14 : decode cX5_isNameHere 14 = .ok (.invokevirtual 172, 3) := dk_182 0 172 (dk_at dksX5_isNameHere_0 14 rfl rfl)
theorem dX5_isNameHere_17 : decode cX5_isNameHere 17 = .ok (.invokevirtual 184, 3) := dk_182 0 184 (dk_at dksX5_isNameHere_0 17 rfl rfl)
theorem dX5_isNameHere_20 : decode cX5_isNameHere 20 = .ok (.ifCond .eq 7, 3) := dk_153 0 7 (dk_at dksX5_isNameHere_0 20 rfl rfl)
theorem dX5_isNameHere_23 : decode cX5_isNameHere 23 = .ok (.iconst 1, 1) := dk_4 (dk_at dksX5_isNameHere_0 23 rfl rfl)
theorem dX5_isNameHere_24 : decode cX5_isNameHere 24 = .ok (.goto 4, 3) := dk_167 0 4 (dk_at dksX5_isNameHere_1 0 rfl rfl)
theorem dX5_isNameHere_27 : decode cX5_isNameHere 27 = .ok (.iconst 0, 1) := dk_3 (dk_at dksX5_isNameHere_1 3 rfl rfl)
theorem dX5_isNameHere_28 : decode cX5_isNameHere 28 = .ok (.ireturn, 1) := dk_172 (dk_at dksX5_isNameHere_1 4 rfl rfl)
abbrev cX5_isName : ByteArray := prog_17_method_35_code
def yX5_isName : MethodName := ⟨RX5, "isName", "(II)Z"⟩
def dkwX5_isName_1 : List UInt8 := [182, 0, 150, 184, 0, 144, 154, 0, 5, 3, 172, 132, 3, 1, 167, 255, 233, 4, 172]
abbrev dktX5_isName_1 : List UInt8 := dkwX5_isName_1 ++ []
def dkwX5_isName_0 : List UInt8 := [28, 4, 16, 12, 184, 0, 105, 154, 0, 5, 3, 172, 3, 62, 29, 28, 162, 0, 24, 42, 27, 29, 96]
abbrev dktX5_isName_0 : List UInt8 := dkwX5_isName_0 ++ dktX5_isName_1
theorem dksX5_isName_0 : cX5_isName.data.toList.drop 0 = dktX5_isName_0 := by decide +kernel
theorem dksX5_isName_1 : cX5_isName.data.toList.drop 23 = dktX5_isName_1 := dk_seg dksX5_isName_0 23 rfl rfl
theorem dX5_isName_0 : decode cX5_isName 0 = .ok (.iload_n 2, 1) := dk_28 (dk_at dksX5_isName_0 0 rfl rfl)
theorem dX5_isName_1 : decode cX5_isName 1 = .ok (.iconst 1, 1) := dk_4 (dk_at dksX5_isName_0 1 rfl rfl)
theorem dX5_isName_2 : decode cX5_isName 2 = .ok (.bipush 12, 2) := dk_16 12 (dk_at dksX5_isName_0 2 rfl rfl)
theorem dX5_isName_4 : decode cX5_isName 4 = .ok (.invokestatic 105, 3) := dk_184 0 105 (dk_at dksX5_isName_0 4 rfl rfl)
theorem dX5_isName_7 : decode cX5_isName 7 = .ok (.ifCond .ne 5, 3) := dk_154 0 5 (dk_at dksX5_isName_0 7 rfl rfl)
theorem dX5_isName_10 : decode cX5_isName 10 = .ok (.iconst 0, 1) := dk_3 (dk_at dksX5_isName_0 10 rfl rfl)
theorem dX5_isName_11 : decode cX5_isName 11 = .ok (.ireturn, 1) := dk_172 (dk_at dksX5_isName_0 11 rfl rfl)
theorem dX5_isName_12 : decode cX5_isName 12 = .ok (.iconst 0, 1) := dk_3 (dk_at dksX5_isName_0 12 rfl rfl)
theorem dX5_isName_13 : decode cX5_isName 13 = .ok (.istore_n 3, 1) := dk_62 (dk_at dksX5_isName_0 13 rfl rfl)
theorem dX5_isName_14 : decode cX5_isName 14 = .ok (.iload_n 3, 1) := dk_29 (dk_at dksX5_isName_0 14 rfl rfl)
theorem dX5_isName_15 : decode cX5_isName 15 = .ok (.iload_n 2, 1) := dk_28 (dk_at dksX5_isName_0 15 rfl rfl)
theorem dX5_isName_16 : decode cX5_isName 16 = .ok (.if_icmp .ge 24, 3) := dk_162 0 24 (dk_at dksX5_isName_0 16 rfl rfl)
theorem dX5_isName_19 : decode cX5_isName 19 = .ok (.aload_n 0, 1) := dk_42 (dk_at dksX5_isName_0 19 rfl rfl)
theorem dX5_isName_20 : decode cX5_isName 20 = .ok (.iload_n 1, 1) := dk_27 (dk_at dksX5_isName_0 20 rfl rfl)
theorem dX5_isName_21 : decode cX5_isName 21 = .ok (.iload_n 3, 1) := dk_29 (dk_at dksX5_isName_0 21 rfl rfl)
theorem dX5_isName_22 : decode cX5_isName 22 = .ok (.iadd, 1) := dk_96 (dk_at dksX5_isName_0 22 rfl rfl)
theorem dX5_isName_23 : decode cX5_isName 23 = .ok (.invokevirtual 150, 3) := dk_182 0 150 (dk_at dksX5_isName_1 0 rfl rfl)
theorem dX5_isName_26 : decode cX5_isName 26 = .ok (.invokestatic 144, 3) := dk_184 0 144 (dk_at dksX5_isName_1 3 rfl rfl)
theorem dX5_isName_29 : decode cX5_isName 29 = .ok (.ifCond .ne 5, 3) := dk_154 0 5 (dk_at dksX5_isName_1 6 rfl rfl)
theorem dX5_isName_32 : decode cX5_isName 32 = .ok (.iconst 0, 1) := dk_3 (dk_at dksX5_isName_1 9 rfl rfl)
theorem dX5_isName_33 : decode cX5_isName 33 = .ok (.ireturn, 1) := dk_172 (dk_at dksX5_isName_1 10 rfl rfl)
theorem dX5_isName_34 : decode cX5_isName 34 = .ok (.iinc 3 1, 3) := dk_132 3 1 (dk_at dksX5_isName_1 11 rfl rfl)
theorem dX5_isName_37 : decode cX5_isName 37 = .ok (.goto (-23), 3) := dk_167 255 233 (dk_at dksX5_isName_1 14 rfl rfl)
theorem dX5_isName_40 : decode cX5_isName 40 = .ok (.iconst 1, 1) := dk_4 (dk_at dksX5_isName_1 17 rfl rfl)
theorem dX5_isName_41 : decode cX5_isName 41 = .ok (.ireturn, 1) := dk_172 (dk_at dksX5_isName_1 18 rfl rfl)
abbrev cX5_takesName : ByteArray := prog_17_method_37_code
def yX5_takesName : MethodName := ⟨RX5, "takesName", "(II)V"⟩
def dkwX5_takesName_1 : List UInt8 := [29, 96, 182, 0, 150, 184, 0, 192, 132, 3, 1, 167, 255, 232, 177]
abbrev dktX5_takesName_1 : List UInt8 := dkwX5_takesName_1 ++ []
def dkwX5_takesName_0 : List UInt8 := [42, 180, 0, 21, 3, 6, 184, 0, 188, 3, 62, 29, 28, 162, 0, 25, 42, 180, 0, 21, 3, 29, 42, 27]
abbrev dktX5_takesName_0 : List UInt8 := dkwX5_takesName_0 ++ dktX5_takesName_1
theorem dksX5_takesName_0 : cX5_takesName.data.toList.drop 0 = dktX5_takesName_0 := by decide +kernel
theorem dksX5_takesName_1 : cX5_takesName.data.toList.drop 24 = dktX5_takesName_1 := dk_seg dksX5_takesName_0 24 rfl rfl
theorem dX5_takesName_0 : decode cX5_takesName 0 = .ok (.aload_n 0, 1) := dk_42 (dk_at dksX5_takesName_0 0 rfl rfl)
theorem dX5_takesName_1 : decode cX5_takesName 1 = .ok (.getfield 21, 3) := dk_180 0 21 (dk_at dksX5_takesName_0 1 rfl rfl)
theorem dX5_takesName_4 : decode cX5_takesName 4 = .ok (.iconst 0, 1) := dk_3 (dk_at dksX5_takesName_0 4 rfl rfl)
theorem dX5_takesName_5 : decode cX5_takesName 5 = .ok (.iconst 3, 1) := dk_6 (dk_at dksX5_takesName_0 5 rfl rfl)
theorem dX5_takesName_6 : decode cX5_takesName 6 = .ok (.invokestatic 188, 3) := dk_184 0 188 (dk_at dksX5_takesName_0 6 rfl rfl)
theorem dX5_takesName_9 : decode cX5_takesName 9 = .ok (.iconst 0, 1) := dk_3 (dk_at dksX5_takesName_0 9 rfl rfl)
theorem dX5_takesName_10 : decode cX5_takesName 10 = .ok (.istore_n 3, 1) := dk_62 (dk_at dksX5_takesName_0 10 rfl rfl)
theorem dX5_takesName_11 : decode cX5_takesName 11 = .ok (.iload_n 3, 1) := dk_29 (dk_at dksX5_takesName_0 11 rfl rfl)
theorem dX5_takesName_12 : decode cX5_takesName 12 = .ok (.iload_n 2, 1) := dk_28 (dk_at dksX5_takesName_0 12 rfl rfl)
theorem dX5_takesName_13 : decode cX5_takesName 13 = .ok (.if_icmp .ge 25, 3) := dk_162 0 25 (dk_at dksX5_takesName_0 13 rfl rfl)
theorem dX5_takesName_16 : decode cX5_takesName 16 = .ok (.aload_n 0, 1) := dk_42 (dk_at dksX5_takesName_0 16 rfl rfl)
theorem dX5_takesName_17 : decode cX5_takesName 17 = .ok (.getfield 21, 3) := dk_180 0 21 (dk_at dksX5_takesName_0 17 rfl rfl)
theorem dX5_takesName_20 : decode cX5_takesName 20 = .ok (.iconst 0, 1) := dk_3 (dk_at dksX5_takesName_0 20 rfl rfl)
theorem dX5_takesName_21 : decode cX5_takesName 21 = .ok (.iload_n 3, 1) := dk_29 (dk_at dksX5_takesName_0 21 rfl rfl)
theorem dX5_takesName_22 : decode cX5_takesName 22 = .ok (.aload_n 0, 1) := dk_42 (dk_at dksX5_takesName_0 22 rfl rfl)
theorem dX5_takesName_23 : decode cX5_takesName 23 = .ok (.iload_n 1, 1) := dk_27 (dk_at dksX5_takesName_0 23 rfl rfl)
theorem dX5_takesName_24 : decode cX5_takesName 24 = .ok (.iload_n 3, 1) := dk_29 (dk_at dksX5_takesName_1 0 rfl rfl)
theorem dX5_takesName_25 : decode cX5_takesName 25 = .ok (.iadd, 1) := dk_96 (dk_at dksX5_takesName_1 1 rfl rfl)
theorem dX5_takesName_26 : decode cX5_takesName 26 = .ok (.invokevirtual 150, 3) := dk_182 0 150 (dk_at dksX5_takesName_1 2 rfl rfl)
theorem dX5_takesName_29 : decode cX5_takesName 29 = .ok (.invokestatic 192, 3) := dk_184 0 192 (dk_at dksX5_takesName_1 5 rfl rfl)
theorem dX5_takesName_32 : decode cX5_takesName 32 = .ok (.iinc 3 1, 3) := dk_132 3 1 (dk_at dksX5_takesName_1 8 rfl rfl)
theorem dX5_takesName_35 : decode cX5_takesName 35 = .ok (.goto (-24), 3) := dk_167 255 232 (dk_at dksX5_takesName_1 11 rfl rfl)
theorem dX5_takesName_38 : decode cX5_takesName 38 = .ok (.return_, 1) := dk_177 (dk_at dksX5_takesName_1 14 rfl rfl)
abbrev cX5_clears : ByteArray := prog_17_method_14_code
def yX5_clears : MethodName := ⟨RX5, "clears", "([JII)V"⟩
def dkwX5_clears_0 : List UInt8 := [3, 62, 29, 28, 162, 0, 15, 42, 27, 29, 96, 9, 80, 132, 3, 1, 167, 255, 242, 177]
abbrev dktX5_clears_0 : List UInt8 := dkwX5_clears_0 ++ []
theorem dksX5_clears_0 : cX5_clears.data.toList.drop 0 = dktX5_clears_0 := by decide +kernel
theorem dX5_clears_0 : decode cX5_clears 0 = .ok (.iconst 0, 1) := dk_3 (dk_at dksX5_clears_0 0 rfl rfl)
theorem dX5_clears_1 : decode cX5_clears 1 = .ok (.istore_n 3, 1) := dk_62 (dk_at dksX5_clears_0 1 rfl rfl)
theorem dX5_clears_2 : decode cX5_clears 2 = .ok (.iload_n 3, 1) := dk_29 (dk_at dksX5_clears_0 2 rfl rfl)
theorem dX5_clears_3 : decode cX5_clears 3 = .ok (.iload_n 2, 1) := dk_28 (dk_at dksX5_clears_0 3 rfl rfl)
theorem dX5_clears_4 : decode cX5_clears 4 = .ok (.if_icmp .ge 15, 3) := dk_162 0 15 (dk_at dksX5_clears_0 4 rfl rfl)
theorem dX5_clears_7 : decode cX5_clears 7 = .ok (.aload_n 0, 1) := dk_42 (dk_at dksX5_clears_0 7 rfl rfl)
theorem dX5_clears_8 : decode cX5_clears 8 = .ok (.iload_n 1, 1) := dk_27 (dk_at dksX5_clears_0 8 rfl rfl)
theorem dX5_clears_9 : decode cX5_clears 9 = .ok (.iload_n 3, 1) := dk_29 (dk_at dksX5_clears_0 9 rfl rfl)
theorem dX5_clears_10 : decode cX5_clears 10 = .ok (.iadd, 1) := dk_96 (dk_at dksX5_clears_0 10 rfl rfl)
theorem dX5_clears_11 : decode cX5_clears 11 = .ok (.lconst 0, 1) := dk_9 (dk_at dksX5_clears_0 11 rfl rfl)
theorem dX5_clears_12 : decode cX5_clears 12 = .ok (.lastore, 1) := dk_80 (dk_at dksX5_clears_0 12 rfl rfl)
theorem dX5_clears_13 : decode cX5_clears 13 = .ok (.iinc 3 1, 3) := dk_132 3 1 (dk_at dksX5_clears_0 13 rfl rfl)
theorem dX5_clears_16 : decode cX5_clears 16 = .ok (.goto (-14), 3) := dk_167 255 242 (dk_at dksX5_clears_0 16 rfl rfl)
theorem dX5_clears_19 : decode cX5_clears 19 = .ok (.return_, 1) := dk_177 (dk_at dksX5_clears_0 19 rfl rfl)
abbrev cX5_putIn : ByteArray := prog_17_method_13_code
def yX5_putIn : MethodName := ⟨RX5, "putIn", "([JIII)V"⟩
def dkwX5_putIn_1 : List UInt8 := [177]
abbrev dktX5_putIn_1 : List UInt8 := dkwX5_putIn_1 ++ []
def dkwX5_putIn_0 : List UInt8 := [42, 27, 28, 16, 8, 108, 96, 92, 47, 29, 133, 16, 56, 16, 8, 28, 16, 8, 112, 104, 100, 121, 129, 80]
abbrev dktX5_putIn_0 : List UInt8 := dkwX5_putIn_0 ++ dktX5_putIn_1
theorem dksX5_putIn_0 : cX5_putIn.data.toList.drop 0 = dktX5_putIn_0 := by decide +kernel
theorem dksX5_putIn_1 : cX5_putIn.data.toList.drop 24 = dktX5_putIn_1 := dk_seg dksX5_putIn_0 24 rfl rfl
theorem dX5_putIn_0 : decode cX5_putIn 0 = .ok (.aload_n 0, 1) := dk_42 (dk_at dksX5_putIn_0 0 rfl rfl)
theorem dX5_putIn_1 : decode cX5_putIn 1 = .ok (.iload_n 1, 1) := dk_27 (dk_at dksX5_putIn_0 1 rfl rfl)
theorem dX5_putIn_2 : decode cX5_putIn 2 = .ok (.iload_n 2, 1) := dk_28 (dk_at dksX5_putIn_0 2 rfl rfl)
theorem dX5_putIn_3 : decode cX5_putIn 3 = .ok (.bipush 8, 2) := dk_16 8 (dk_at dksX5_putIn_0 3 rfl rfl)
theorem dX5_putIn_5 : decode cX5_putIn 5 = .ok (.idiv, 1) := dk_108 (dk_at dksX5_putIn_0 5 rfl rfl)
theorem dX5_putIn_6 : decode cX5_putIn 6 = .ok (.iadd, 1) := dk_96 (dk_at dksX5_putIn_0 6 rfl rfl)
theorem dX5_putIn_7 : decode cX5_putIn 7 = .ok (.dup2, 1) := dk_92 (dk_at dksX5_putIn_0 7 rfl rfl)
theorem dX5_putIn_8 : decode cX5_putIn 8 = .ok (.laload, 1) := dk_47 (dk_at dksX5_putIn_0 8 rfl rfl)
theorem dX5_putIn_9 : decode cX5_putIn 9 = .ok (.iload_n 3, 1) := dk_29 (dk_at dksX5_putIn_0 9 rfl rfl)
theorem dX5_putIn_10 : decode cX5_putIn 10 = .ok (.i2l, 1) := dk_133 (dk_at dksX5_putIn_0 10 rfl rfl)
theorem dX5_putIn_11 : decode cX5_putIn 11 = .ok (.bipush 56, 2) := dk_16 56 (dk_at dksX5_putIn_0 11 rfl rfl)
theorem dX5_putIn_13 : decode cX5_putIn 13 = .ok (.bipush 8, 2) := dk_16 8 (dk_at dksX5_putIn_0 13 rfl rfl)
theorem dX5_putIn_15 : decode cX5_putIn 15 = .ok (.iload_n 2, 1) := dk_28 (dk_at dksX5_putIn_0 15 rfl rfl)
theorem dX5_putIn_16 : decode cX5_putIn 16 = .ok (.bipush 8, 2) := dk_16 8 (dk_at dksX5_putIn_0 16 rfl rfl)
theorem dX5_putIn_18 : decode cX5_putIn 18 = .ok (.irem, 1) := dk_112 (dk_at dksX5_putIn_0 18 rfl rfl)
theorem dX5_putIn_19 : decode cX5_putIn 19 = .ok (.imul, 1) := dk_104 (dk_at dksX5_putIn_0 19 rfl rfl)
theorem dX5_putIn_20 : decode cX5_putIn 20 = .ok (.isub, 1) := dk_100 (dk_at dksX5_putIn_0 20 rfl rfl)
theorem dX5_putIn_21 : decode cX5_putIn 21 = .ok (.lshl, 1) := dk_121 (dk_at dksX5_putIn_0 21 rfl rfl)
theorem dX5_putIn_22 : decode cX5_putIn 22 = .ok (.lor, 1) := dk_129 (dk_at dksX5_putIn_0 22 rfl rfl)
theorem dX5_putIn_23 : decode cX5_putIn 23 = .ok (.lastore, 1) := dk_80 (dk_at dksX5_putIn_0 23 rfl rfl)
theorem dX5_putIn_24 : decode cX5_putIn 24 = .ok (.return_, 1) := dk_177 (dk_at dksX5_putIn_1 0 rfl rfl)
abbrev cX5_fileTyped : ByteArray := prog_17_method_45_code
def yX5_fileTyped : MethodName := ⟨RX5, "fileTyped", "()I"⟩
def dkwX5_fileTyped_1 : List UInt8 := [184, 0, 232, 154, 0, 5, 27, 172, 132, 1, 1, 167, 255, 223, 2, 172]
abbrev dktX5_fileTyped_1 : List UInt8 := dkwX5_fileTyped_1 ++ []
def dkwX5_fileTyped_0 : List UInt8 := [3, 60, 27, 42, 182, 0, 101, 162, 0, 31, 42, 180, 0, 7, 42, 27, 182, 0, 118, 42, 180, 0, 21, 3]
abbrev dktX5_fileTyped_0 : List UInt8 := dkwX5_fileTyped_0 ++ dktX5_fileTyped_1
theorem dksX5_fileTyped_0 : cX5_fileTyped.data.toList.drop 0 = dktX5_fileTyped_0 := by decide +kernel
theorem dksX5_fileTyped_1 : cX5_fileTyped.data.toList.drop 24 = dktX5_fileTyped_1 := dk_seg dksX5_fileTyped_0 24 rfl rfl
theorem dX5_fileTyped_0 : decode cX5_fileTyped 0 = .ok (.iconst 0, 1) := dk_3 (dk_at dksX5_fileTyped_0 0 rfl rfl)
theorem dX5_fileTyped_1 : decode cX5_fileTyped 1 = .ok (.istore_n 1, 1) := dk_60 (dk_at dksX5_fileTyped_0 1 rfl rfl)
theorem dX5_fileTyped_2 : decode cX5_fileTyped 2 = .ok (.iload_n 1, 1) := dk_27 (dk_at dksX5_fileTyped_0 2 rfl rfl)
theorem dX5_fileTyped_3 : decode cX5_fileTyped 3 = .ok (.aload_n 0, 1) := dk_42 (dk_at dksX5_fileTyped_0 3 rfl rfl)
theorem dX5_fileTyped_4 : decode cX5_fileTyped 4 = .ok (.invokevirtual 101, 3) := dk_182 0 101 (dk_at dksX5_fileTyped_0 4 rfl rfl)
theorem dX5_fileTyped_7 : decode cX5_fileTyped 7 = .ok (.if_icmp .ge 31, 3) := dk_162 0 31 (dk_at dksX5_fileTyped_0 7 rfl rfl)
theorem dX5_fileTyped_10 : decode cX5_fileTyped 10 = .ok (.aload_n 0, 1) := dk_42 (dk_at dksX5_fileTyped_0 10 rfl rfl)
theorem dX5_fileTyped_11 : decode cX5_fileTyped 11 = .ok (.getfield 7, 3) := dk_180 0 7 (dk_at dksX5_fileTyped_0 11 rfl rfl)
theorem dX5_fileTyped_14 : decode cX5_fileTyped 14 = .ok (.aload_n 0, 1) := dk_42 (dk_at dksX5_fileTyped_0 14 rfl rfl)
theorem dX5_fileTyped_15 : decode cX5_fileTyped 15 = .ok (.iload_n 1, 1) := dk_27 (dk_at dksX5_fileTyped_0 15 rfl rfl)
theorem dX5_fileTyped_16 : decode cX5_fileTyped 16 = .ok (.invokevirtual 118, 3) := dk_182 0 118 (dk_at dksX5_fileTyped_0 16 rfl rfl)
theorem dX5_fileTyped_19 : decode cX5_fileTyped 19 = .ok (.aload_n 0, 1) := dk_42 (dk_at dksX5_fileTyped_0 19 rfl rfl)
theorem dX5_fileTyped_20 : decode cX5_fileTyped 20 = .ok (.getfield 21, 3) := dk_180 0 21 (dk_at dksX5_fileTyped_0 20 rfl rfl)
theorem dX5_fileTyped_23 : decode cX5_fileTyped 23 = .ok (.iconst 0, 1) := dk_3 (dk_at dksX5_fileTyped_0 23 rfl rfl)
theorem dX5_fileTyped_24 : decode cX5_fileTyped 24 = .ok (.invokestatic 232, 3) := dk_184 0 232 (dk_at dksX5_fileTyped_1 0 rfl rfl)
theorem dX5_fileTyped_27 : decode cX5_fileTyped 27 = .ok (.ifCond .ne 5, 3) := dk_154 0 5 (dk_at dksX5_fileTyped_1 3 rfl rfl)
theorem dX5_fileTyped_30 : decode cX5_fileTyped 30 = .ok (.iload_n 1, 1) := dk_27 (dk_at dksX5_fileTyped_1 6 rfl rfl)
theorem dX5_fileTyped_31 : decode cX5_fileTyped 31 = .ok (.ireturn, 1) := dk_172 (dk_at dksX5_fileTyped_1 7 rfl rfl)
theorem dX5_fileTyped_32 : decode cX5_fileTyped 32 = .ok (.iinc 1 1, 3) := dk_132 1 1 (dk_at dksX5_fileTyped_1 8 rfl rfl)
theorem dX5_fileTyped_35 : decode cX5_fileTyped 35 = .ok (.goto (-33), 3) := dk_167 255 223 (dk_at dksX5_fileTyped_1 11 rfl rfl)
theorem dX5_fileTyped_38 : decode cX5_fileTyped 38 = .ok (.iconst (-1), 1) := dk_2 (dk_at dksX5_fileTyped_1 14 rfl rfl)
theorem dX5_fileTyped_39 : decode cX5_fileTyped 39 = .ok (.ireturn, 1) := dk_172 (dk_at dksX5_fileTyped_1 15 rfl rfl)
abbrev cX5_nameAt : ByteArray := prog_17_method_17_code
def yX5_nameAt : MethodName := ⟨RX5, "nameAt", "(I)I"⟩
def dkwX5_nameAt_0 : List UInt8 := [42, 180, 0, 94, 16, 6, 96, 6, 27, 104, 96, 172]
abbrev dktX5_nameAt_0 : List UInt8 := dkwX5_nameAt_0 ++ []
theorem dksX5_nameAt_0 : cX5_nameAt.data.toList.drop 0 = dktX5_nameAt_0 := by decide +kernel
theorem dX5_nameAt_0 : decode cX5_nameAt 0 = .ok (.aload_n 0, 1) := dk_42 (dk_at dksX5_nameAt_0 0 rfl rfl)
theorem dX5_nameAt_1 : decode cX5_nameAt 1 = .ok (.getfield 94, 3) := dk_180 0 94 (dk_at dksX5_nameAt_0 1 rfl rfl)
theorem dX5_nameAt_4 : decode cX5_nameAt 4 = .ok (.bipush 6, 2) := dk_16 6 (dk_at dksX5_nameAt_0 4 rfl rfl)
theorem dX5_nameAt_6 : decode cX5_nameAt 6 = .ok (.iadd, 1) := dk_96 (dk_at dksX5_nameAt_0 6 rfl rfl)
theorem dX5_nameAt_7 : decode cX5_nameAt 7 = .ok (.iconst 3, 1) := dk_6 (dk_at dksX5_nameAt_0 7 rfl rfl)
theorem dX5_nameAt_8 : decode cX5_nameAt 8 = .ok (.iload_n 1, 1) := dk_27 (dk_at dksX5_nameAt_0 8 rfl rfl)
theorem dX5_nameAt_9 : decode cX5_nameAt 9 = .ok (.imul, 1) := dk_104 (dk_at dksX5_nameAt_0 9 rfl rfl)
theorem dX5_nameAt_10 : decode cX5_nameAt 10 = .ok (.iadd, 1) := dk_96 (dk_at dksX5_nameAt_0 10 rfl rfl)
theorem dX5_nameAt_11 : decode cX5_nameAt 11 = .ok (.ireturn, 1) := dk_172 (dk_at dksX5_nameAt_0 11 rfl rfl)
abbrev cX5_compared : ByteArray := prog_17_method_15_code
def yX5_compared : MethodName := ⟨RX5, "compared", "([JI[JI)I"⟩
def dkwX5_compared_2 : List UInt8 := [172, 132, 4, 1, 167, 255, 209, 3, 172]
abbrev dktX5_compared_2 : List UInt8 := dkwX5_compared_2 ++ []
def dkwX5_compared_1 : List UInt8 := [153, 0, 25, 42, 27, 21, 4, 96, 47, 44, 29, 21, 4, 96, 47, 148, 156, 0, 7, 2, 167, 0, 4, 4]
abbrev dktX5_compared_1 : List UInt8 := dkwX5_compared_1 ++ dktX5_compared_2
def dkwX5_compared_0 : List UInt8 := [3, 54, 4, 21, 4, 6, 162, 0, 47, 42, 27, 21, 4, 96, 47, 44, 29, 21, 4, 96, 47, 148]
abbrev dktX5_compared_0 : List UInt8 := dkwX5_compared_0 ++ dktX5_compared_1
theorem dksX5_compared_0 : cX5_compared.data.toList.drop 0 = dktX5_compared_0 := by decide +kernel
theorem dksX5_compared_1 : cX5_compared.data.toList.drop 22 = dktX5_compared_1 := dk_seg dksX5_compared_0 22 rfl rfl
theorem dksX5_compared_2 : cX5_compared.data.toList.drop 46 = dktX5_compared_2 := dk_seg dksX5_compared_1 24 rfl rfl
theorem dX5_compared_0 : decode cX5_compared 0 = .ok (.iconst 0, 1) := dk_3 (dk_at dksX5_compared_0 0 rfl rfl)
theorem dX5_compared_1 : decode cX5_compared 1 = .ok (.istore 4, 2) := dk_54 4 (dk_at dksX5_compared_0 1 rfl rfl)
theorem dX5_compared_3 : decode cX5_compared 3 = .ok (.iload 4, 2) := dk_21 4 (dk_at dksX5_compared_0 3 rfl rfl)
theorem dX5_compared_5 : decode cX5_compared 5 = .ok (.iconst 3, 1) := dk_6 (dk_at dksX5_compared_0 5 rfl rfl)
theorem dX5_compared_6 : decode cX5_compared 6 = .ok (.if_icmp .ge 47, 3) := dk_162 0 47 (dk_at dksX5_compared_0 6 rfl rfl)
theorem dX5_compared_9 : decode cX5_compared 9 = .ok (.aload_n 0, 1) := dk_42 (dk_at dksX5_compared_0 9 rfl rfl)
theorem dX5_compared_10 : decode cX5_compared 10 = .ok (.iload_n 1, 1) := dk_27 (dk_at dksX5_compared_0 10 rfl rfl)
theorem dX5_compared_11 : decode cX5_compared 11 = .ok (.iload 4, 2) := dk_21 4 (dk_at dksX5_compared_0 11 rfl rfl)
theorem dX5_compared_13 : decode cX5_compared 13 = .ok (.iadd, 1) := dk_96 (dk_at dksX5_compared_0 13 rfl rfl)
theorem dX5_compared_14 : decode cX5_compared 14 = .ok (.laload, 1) := dk_47 (dk_at dksX5_compared_0 14 rfl rfl)
theorem dX5_compared_15 : decode cX5_compared 15 = .ok (.aload_n 2, 1) := dk_44 (dk_at dksX5_compared_0 15 rfl rfl)
theorem dX5_compared_16 : decode cX5_compared 16 = .ok (.iload_n 3, 1) := dk_29 (dk_at dksX5_compared_0 16 rfl rfl)
theorem dX5_compared_17 : decode cX5_compared 17 = .ok (.iload 4, 2) := dk_21 4 (dk_at dksX5_compared_0 17 rfl rfl)
theorem dX5_compared_19 : decode cX5_compared 19 = .ok (.iadd, 1) := dk_96 (dk_at dksX5_compared_0 19 rfl rfl)
theorem dX5_compared_20 : decode cX5_compared 20 = .ok (.laload, 1) := dk_47 (dk_at dksX5_compared_0 20 rfl rfl)
theorem dX5_compared_21 : decode cX5_compared 21 = .ok (.lcmp, 1) := dk_148 (dk_at dksX5_compared_0 21 rfl rfl)
theorem dX5_compared_22 : decode cX5_compared 22 = .ok (.ifCond .eq 25, 3) := dk_153 0 25 (dk_at dksX5_compared_1 0 rfl rfl)
theorem dX5_compared_25 : decode cX5_compared 25 = .ok (.aload_n 0, 1) := dk_42 (dk_at dksX5_compared_1 3 rfl rfl)
theorem dX5_compared_26 : decode cX5_compared 26 = .ok (.iload_n 1, 1) := dk_27 (dk_at dksX5_compared_1 4 rfl rfl)
theorem dX5_compared_27 : decode cX5_compared 27 = .ok (.iload 4, 2) := dk_21 4 (dk_at dksX5_compared_1 5 rfl rfl)
theorem dX5_compared_29 : decode cX5_compared 29 = .ok (.iadd, 1) := dk_96 (dk_at dksX5_compared_1 7 rfl rfl)
theorem dX5_compared_30 : decode cX5_compared 30 = .ok (.laload, 1) := dk_47 (dk_at dksX5_compared_1 8 rfl rfl)
theorem dX5_compared_31 : decode cX5_compared 31 = .ok (.aload_n 2, 1) := dk_44 (dk_at dksX5_compared_1 9 rfl rfl)
theorem dX5_compared_32 : decode cX5_compared 32 = .ok (.iload_n 3, 1) := dk_29 (dk_at dksX5_compared_1 10 rfl rfl)
theorem dX5_compared_33 : decode cX5_compared 33 = .ok (.iload 4, 2) := dk_21 4 (dk_at dksX5_compared_1 11 rfl rfl)
theorem dX5_compared_35 : decode cX5_compared 35 = .ok (.iadd, 1) := dk_96 (dk_at dksX5_compared_1 13 rfl rfl)
theorem dX5_compared_36 : decode cX5_compared 36 = .ok (.laload, 1) := dk_47 (dk_at dksX5_compared_1 14 rfl rfl)
theorem dX5_compared_37 : decode cX5_compared 37 = .ok (.lcmp, 1) := dk_148 (dk_at dksX5_compared_1 15 rfl rfl)
theorem dX5_compared_38 : decode cX5_compared 38 = .ok (.ifCond .ge 7, 3) := dk_156 0 7 (dk_at dksX5_compared_1 16 rfl rfl)
theorem dX5_compared_41 : decode cX5_compared 41 = .ok (.iconst (-1), 1) := dk_2 (dk_at dksX5_compared_1 19 rfl rfl)
theorem dX5_compared_42 : decode cX5_compared 42 = .ok (.goto 4, 3) := dk_167 0 4 (dk_at dksX5_compared_1 20 rfl rfl)
theorem dX5_compared_45 : decode cX5_compared 45 = .ok (.iconst 1, 1) := dk_4 (dk_at dksX5_compared_1 23 rfl rfl)
theorem dX5_compared_46 : decode cX5_compared 46 = .ok (.ireturn, 1) := dk_172 (dk_at dksX5_compared_2 0 rfl rfl)
theorem dX5_compared_47 : decode cX5_compared 47 = .ok (.iinc 4 1, 3) := dk_132 4 1 (dk_at dksX5_compared_2 1 rfl rfl)
theorem dX5_compared_50 : decode cX5_compared 50 = .ok (.goto (-47), 3) := dk_167 255 209 (dk_at dksX5_compared_2 4 rfl rfl)
theorem dX5_compared_53 : decode cX5_compared 53 = .ok (.iconst 0, 1) := dk_3 (dk_at dksX5_compared_2 7 rfl rfl)
theorem dX5_compared_54 : decode cX5_compared 54 = .ok (.ireturn, 1) := dk_172 (dk_at dksX5_compared_2 8 rfl rfl)
abbrev cX5_addsTyped : ByteArray := prog_17_method_46_code
def yX5_addsTyped : MethodName := ⟨RX5, "addsTyped", "()V"⟩
def dkwX5_addsTyped_1 : List UInt8 := [16, 66, 27, 96, 9, 182, 0, 228, 42, 3, 27, 4, 96, 133, 182, 0, 228, 177]
abbrev dktX5_addsTyped_1 : List UInt8 := dkwX5_addsTyped_1 ++ []
def dkwX5_addsTyped_0 : List UInt8 := [42, 182, 0, 101, 60, 42, 180, 0, 21, 3, 42, 180, 0, 7, 42, 27, 182, 0, 118, 184, 0, 236, 42]
abbrev dktX5_addsTyped_0 : List UInt8 := dkwX5_addsTyped_0 ++ dktX5_addsTyped_1
theorem dksX5_addsTyped_0 : cX5_addsTyped.data.toList.drop 0 = dktX5_addsTyped_0 := by decide +kernel
theorem dksX5_addsTyped_1 : cX5_addsTyped.data.toList.drop 23 = dktX5_addsTyped_1 := dk_seg dksX5_addsTyped_0 23 rfl rfl
theorem dX5_addsTyped_0 : decode cX5_addsTyped 0 = .ok (.aload_n 0, 1) := dk_42 (dk_at dksX5_addsTyped_0 0 rfl rfl)
theorem dX5_addsTyped_1 : decode cX5_addsTyped 1 = .ok (.invokevirtual 101, 3) := dk_182 0 101 (dk_at dksX5_addsTyped_0 1 rfl rfl)
theorem dX5_addsTyped_4 : decode cX5_addsTyped 4 = .ok (.istore_n 1, 1) := dk_60 (dk_at dksX5_addsTyped_0 4 rfl rfl)
theorem dX5_addsTyped_5 : decode cX5_addsTyped 5 = .ok (.aload_n 0, 1) := dk_42 (dk_at dksX5_addsTyped_0 5 rfl rfl)
theorem dX5_addsTyped_6 : decode cX5_addsTyped 6 = .ok (.getfield 21, 3) := dk_180 0 21 (dk_at dksX5_addsTyped_0 6 rfl rfl)
theorem dX5_addsTyped_9 : decode cX5_addsTyped 9 = .ok (.iconst 0, 1) := dk_3 (dk_at dksX5_addsTyped_0 9 rfl rfl)
theorem dX5_addsTyped_10 : decode cX5_addsTyped 10 = .ok (.aload_n 0, 1) := dk_42 (dk_at dksX5_addsTyped_0 10 rfl rfl)
theorem dX5_addsTyped_11 : decode cX5_addsTyped 11 = .ok (.getfield 7, 3) := dk_180 0 7 (dk_at dksX5_addsTyped_0 11 rfl rfl)
theorem dX5_addsTyped_14 : decode cX5_addsTyped 14 = .ok (.aload_n 0, 1) := dk_42 (dk_at dksX5_addsTyped_0 14 rfl rfl)
theorem dX5_addsTyped_15 : decode cX5_addsTyped 15 = .ok (.iload_n 1, 1) := dk_27 (dk_at dksX5_addsTyped_0 15 rfl rfl)
theorem dX5_addsTyped_16 : decode cX5_addsTyped 16 = .ok (.invokevirtual 118, 3) := dk_182 0 118 (dk_at dksX5_addsTyped_0 16 rfl rfl)
theorem dX5_addsTyped_19 : decode cX5_addsTyped 19 = .ok (.invokestatic 236, 3) := dk_184 0 236 (dk_at dksX5_addsTyped_0 19 rfl rfl)
theorem dX5_addsTyped_22 : decode cX5_addsTyped 22 = .ok (.aload_n 0, 1) := dk_42 (dk_at dksX5_addsTyped_0 22 rfl rfl)
theorem dX5_addsTyped_23 : decode cX5_addsTyped 23 = .ok (.bipush 66, 2) := dk_16 66 (dk_at dksX5_addsTyped_1 0 rfl rfl)
theorem dX5_addsTyped_25 : decode cX5_addsTyped 25 = .ok (.iload_n 1, 1) := dk_27 (dk_at dksX5_addsTyped_1 2 rfl rfl)
theorem dX5_addsTyped_26 : decode cX5_addsTyped 26 = .ok (.iadd, 1) := dk_96 (dk_at dksX5_addsTyped_1 3 rfl rfl)
theorem dX5_addsTyped_27 : decode cX5_addsTyped 27 = .ok (.lconst 0, 1) := dk_9 (dk_at dksX5_addsTyped_1 4 rfl rfl)
theorem dX5_addsTyped_28 : decode cX5_addsTyped 28 = .ok (.invokevirtual 228, 3) := dk_182 0 228 (dk_at dksX5_addsTyped_1 5 rfl rfl)
theorem dX5_addsTyped_31 : decode cX5_addsTyped 31 = .ok (.aload_n 0, 1) := dk_42 (dk_at dksX5_addsTyped_1 8 rfl rfl)
theorem dX5_addsTyped_32 : decode cX5_addsTyped 32 = .ok (.iconst 0, 1) := dk_3 (dk_at dksX5_addsTyped_1 9 rfl rfl)
theorem dX5_addsTyped_33 : decode cX5_addsTyped 33 = .ok (.iload_n 1, 1) := dk_27 (dk_at dksX5_addsTyped_1 10 rfl rfl)
theorem dX5_addsTyped_34 : decode cX5_addsTyped 34 = .ok (.iconst 1, 1) := dk_4 (dk_at dksX5_addsTyped_1 11 rfl rfl)
theorem dX5_addsTyped_35 : decode cX5_addsTyped 35 = .ok (.iadd, 1) := dk_96 (dk_at dksX5_addsTyped_1 12 rfl rfl)
theorem dX5_addsTyped_36 : decode cX5_addsTyped 36 = .ok (.i2l, 1) := dk_133 (dk_at dksX5_addsTyped_1 13 rfl rfl)
theorem dX5_addsTyped_37 : decode cX5_addsTyped 37 = .ok (.invokevirtual 228, 3) := dk_182 0 228 (dk_at dksX5_addsTyped_1 14 rfl rfl)
theorem dX5_addsTyped_40 : decode cX5_addsTyped 40 = .ok (.return_, 1) := dk_177 (dk_at dksX5_addsTyped_1 17 rfl rfl)
abbrev cX5_copyName : ByteArray := prog_17_method_16_code
def yX5_copyName : MethodName := ⟨RX5, "copyName", "([JI[JI)V"⟩
def dkwX5_copyName_1 : List UInt8 := [167, 255, 235, 177]
abbrev dktX5_copyName_1 : List UInt8 := dkwX5_copyName_1 ++ []
def dkwX5_copyName_0 : List UInt8 := [3, 54, 4, 21, 4, 6, 162, 0, 21, 44, 29, 21, 4, 96, 42, 27, 21, 4, 96, 47, 80, 132, 4, 1]
abbrev dktX5_copyName_0 : List UInt8 := dkwX5_copyName_0 ++ dktX5_copyName_1
theorem dksX5_copyName_0 : cX5_copyName.data.toList.drop 0 = dktX5_copyName_0 := by decide +kernel
theorem dksX5_copyName_1 : cX5_copyName.data.toList.drop 24 = dktX5_copyName_1 := dk_seg dksX5_copyName_0 24 rfl rfl
theorem dX5_copyName_0 : decode cX5_copyName 0 = .ok (.iconst 0, 1) := dk_3 (dk_at dksX5_copyName_0 0 rfl rfl)
theorem dX5_copyName_1 : decode cX5_copyName 1 = .ok (.istore 4, 2) := dk_54 4 (dk_at dksX5_copyName_0 1 rfl rfl)
theorem dX5_copyName_3 : decode cX5_copyName 3 = .ok (.iload 4, 2) := dk_21 4 (dk_at dksX5_copyName_0 3 rfl rfl)
theorem dX5_copyName_5 : decode cX5_copyName 5 = .ok (.iconst 3, 1) := dk_6 (dk_at dksX5_copyName_0 5 rfl rfl)
theorem dX5_copyName_6 : decode cX5_copyName 6 = .ok (.if_icmp .ge 21, 3) := dk_162 0 21 (dk_at dksX5_copyName_0 6 rfl rfl)
theorem dX5_copyName_9 : decode cX5_copyName 9 = .ok (.aload_n 2, 1) := dk_44 (dk_at dksX5_copyName_0 9 rfl rfl)
theorem dX5_copyName_10 : decode cX5_copyName 10 = .ok (.iload_n 3, 1) := dk_29 (dk_at dksX5_copyName_0 10 rfl rfl)
theorem dX5_copyName_11 : decode cX5_copyName 11 = .ok (.iload 4, 2) := dk_21 4 (dk_at dksX5_copyName_0 11 rfl rfl)
theorem dX5_copyName_13 : decode cX5_copyName 13 = .ok (.iadd, 1) := dk_96 (dk_at dksX5_copyName_0 13 rfl rfl)
theorem dX5_copyName_14 : decode cX5_copyName 14 = .ok (.aload_n 0, 1) := dk_42 (dk_at dksX5_copyName_0 14 rfl rfl)
theorem dX5_copyName_15 : decode cX5_copyName 15 = .ok (.iload_n 1, 1) := dk_27 (dk_at dksX5_copyName_0 15 rfl rfl)
theorem dX5_copyName_16 : decode cX5_copyName 16 = .ok (.iload 4, 2) := dk_21 4 (dk_at dksX5_copyName_0 16 rfl rfl)
theorem dX5_copyName_18 : decode cX5_copyName 18 = .ok (.iadd, 1) := dk_96 (dk_at dksX5_copyName_0 18 rfl rfl)
theorem dX5_copyName_19 : decode cX5_copyName 19 = .ok (.laload, 1) := dk_47 (dk_at dksX5_copyName_0 19 rfl rfl)
theorem dX5_copyName_20 : decode cX5_copyName 20 = .ok (.lastore, 1) := dk_80 (dk_at dksX5_copyName_0 20 rfl rfl)
theorem dX5_copyName_21 : decode cX5_copyName 21 = .ok (.iinc 4 1, 3) := dk_132 4 1 (dk_at dksX5_copyName_0 21 rfl rfl)
theorem dX5_copyName_24 : decode cX5_copyName 24 = .ok (.goto (-21), 3) := dk_167 255 235 (dk_at dksX5_copyName_1 0 rfl rfl)
theorem dX5_copyName_27 : decode cX5_copyName 27 = .ok (.return_, 1) := dk_177 (dk_at dksX5_copyName_1 3 rfl rfl)
abbrev cX5_set : ByteArray := prog_17_method_6_code
def yX5_set : MethodName := ⟨RX5, "set", "(IJ)V"⟩
def dkwX5_set_0 : List UInt8 := [42, 180, 0, 7, 42, 180, 0, 94, 27, 96, 32, 80, 177]
abbrev dktX5_set_0 : List UInt8 := dkwX5_set_0 ++ []
theorem dksX5_set_0 : cX5_set.data.toList.drop 0 = dktX5_set_0 := by decide +kernel
theorem dX5_set_0 : decode cX5_set 0 = .ok (.aload_n 0, 1) := dk_42 (dk_at dksX5_set_0 0 rfl rfl)
theorem dX5_set_1 : decode cX5_set 1 = .ok (.getfield 7, 3) := dk_180 0 7 (dk_at dksX5_set_0 1 rfl rfl)
theorem dX5_set_4 : decode cX5_set 4 = .ok (.aload_n 0, 1) := dk_42 (dk_at dksX5_set_0 4 rfl rfl)
theorem dX5_set_5 : decode cX5_set 5 = .ok (.getfield 94, 3) := dk_180 0 94 (dk_at dksX5_set_0 5 rfl rfl)
theorem dX5_set_8 : decode cX5_set 8 = .ok (.iload_n 1, 1) := dk_27 (dk_at dksX5_set_0 8 rfl rfl)
theorem dX5_set_9 : decode cX5_set 9 = .ok (.iadd, 1) := dk_96 (dk_at dksX5_set_0 9 rfl rfl)
theorem dX5_set_10 : decode cX5_set 10 = .ok (.lload_n 2, 1) := dk_32 (dk_at dksX5_set_0 10 rfl rfl)
theorem dX5_set_11 : decode cX5_set 11 = .ok (.lastore, 1) := dk_80 (dk_at dksX5_set_0 11 rfl rfl)
theorem dX5_set_12 : decode cX5_set 12 = .ok (.return_, 1) := dk_177 (dk_at dksX5_set_0 12 rfl rfl)
abbrev cX5_readKeep : ByteArray := prog_17_method_48_code
def yX5_readKeep : MethodName := ⟨RX5, "readKeep", "()V"⟩
def dkwX5_readKeep_3 : List UInt8 := [182, 0, 207, 177]
abbrev dktX5_readKeep_3 : List UInt8 := dkwX5_readKeep_3 ++ []
def dkwX5_readKeep_2 : List UInt8 := [167, 0, 4, 3, 182, 0, 203, 42, 182, 0, 165, 153, 0, 12, 42, 16, 66, 27, 96, 10, 182, 0, 228, 42]
abbrev dktX5_readKeep_2 : List UInt8 := dkwX5_readKeep_2 ++ dktX5_readKeep_3
def dkwX5_readKeep_1 : List UInt8 := [180, 0, 153, 42, 182, 0, 172, 182, 0, 243, 42, 182, 0, 246, 60, 42, 27, 2, 159, 0, 7, 4]
abbrev dktX5_readKeep_1 : List UInt8 := dkwX5_readKeep_1 ++ dktX5_readKeep_2
def dkwX5_readKeep_0 : List UInt8 := [42, 182, 0, 169, 42, 42, 182, 0, 240, 182, 0, 203, 42, 182, 0, 165, 154, 0, 4, 177, 42, 42]
abbrev dktX5_readKeep_0 : List UInt8 := dkwX5_readKeep_0 ++ dktX5_readKeep_1
theorem dksX5_readKeep_0 : cX5_readKeep.data.toList.drop 0 = dktX5_readKeep_0 := by decide +kernel
theorem dksX5_readKeep_1 : cX5_readKeep.data.toList.drop 22 = dktX5_readKeep_1 := dk_seg dksX5_readKeep_0 22 rfl rfl
theorem dksX5_readKeep_2 : cX5_readKeep.data.toList.drop 44 = dktX5_readKeep_2 := dk_seg dksX5_readKeep_1 22 rfl rfl
theorem dksX5_readKeep_3 : cX5_readKeep.data.toList.drop 68 = dktX5_readKeep_3 := dk_seg dksX5_readKeep_2 24 rfl rfl
theorem dX5_readKeep_0 : decode cX5_readKeep 0 = .ok (.aload_n 0, 1) := dk_42 (dk_at dksX5_readKeep_0 0 rfl rfl)
theorem dX5_readKeep_1 : decode cX5_readKeep 1 = .ok (.invokevirtual 169, 3) := dk_182 0 169 (dk_at dksX5_readKeep_0 1 rfl rfl)
theorem dX5_readKeep_4 : decode cX5_readKeep 4 = .ok (.aload_n 0, 1) := dk_42 (dk_at dksX5_readKeep_0 4 rfl rfl)
theorem dX5_readKeep_5 : decode cX5_readKeep 5 = .ok (.aload_n 0, 1) := dk_42 (dk_at dksX5_readKeep_0 5 rfl rfl)
theorem dX5_readKeep_6 : decode cX5_readKeep 6 = .ok (.invokevirtual 240, 3) := dk_182 0 240 (dk_at dksX5_readKeep_0 6 rfl rfl)
theorem dX5_readKeep_9 : decode cX5_readKeep 9 = .ok (.invokevirtual 203, 3) := dk_182 0 203 (dk_at dksX5_readKeep_0 9 rfl rfl)
theorem dX5_readKeep_12 : decode cX5_readKeep 12 = .ok (.aload_n 0, 1) := dk_42 (dk_at dksX5_readKeep_0 12 rfl rfl)
theorem dX5_readKeep_13 : decode cX5_readKeep 13 = .ok (.invokevirtual 165, 3) := dk_182 0 165 (dk_at dksX5_readKeep_0 13 rfl rfl)
theorem dX5_readKeep_16 : decode cX5_readKeep 16 = .ok (.ifCond .ne 4, 3) := dk_154 0 4 (dk_at dksX5_readKeep_0 16 rfl rfl)
theorem dX5_readKeep_19 : decode cX5_readKeep 19 = .ok (.return_, 1) := dk_177 (dk_at dksX5_readKeep_0 19 rfl rfl)
theorem dX5_readKeep_20 : decode cX5_readKeep 20 = .ok (.aload_n 0, 1) := dk_42 (dk_at dksX5_readKeep_0 20 rfl rfl)
theorem dX5_readKeep_21 : decode cX5_readKeep 21 = .ok (.aload_n 0, 1) := dk_42 (dk_at dksX5_readKeep_0 21 rfl rfl)
theorem dX5_readKeep_22 : decode cX5_readKeep 22 = .ok (.getfield 153, 3) := dk_180 0 153 (dk_at dksX5_readKeep_1 0 rfl rfl)
theorem dX5_readKeep_25 : decode cX5_readKeep 25 = .ok (.aload_n 0, 1) := dk_42 (dk_at dksX5_readKeep_1 3 rfl rfl)
theorem dX5_readKeep_26 : decode cX5_readKeep 26 = .ok (.invokevirtual 172, 3) := dk_182 0 172 (dk_at dksX5_readKeep_1 4 rfl rfl)
theorem dX5_readKeep_29 : decode cX5_readKeep 29 = .ok (.invokevirtual 243, 3) := dk_182 0 243 (dk_at dksX5_readKeep_1 7 rfl rfl)
theorem dX5_readKeep_32 : decode cX5_readKeep 32 = .ok (.aload_n 0, 1) := dk_42 (dk_at dksX5_readKeep_1 10 rfl rfl)
theorem dX5_readKeep_33 : decode cX5_readKeep 33 = .ok (.invokevirtual 246, 3) := dk_182 0 246 (dk_at dksX5_readKeep_1 11 rfl rfl)
theorem dX5_readKeep_36 : decode cX5_readKeep 36 = .ok (.istore_n 1, 1) := dk_60 (dk_at dksX5_readKeep_1 14 rfl rfl)
theorem dX5_readKeep_37 : decode cX5_readKeep 37 = .ok (.aload_n 0, 1) := dk_42 (dk_at dksX5_readKeep_1 15 rfl rfl)
theorem dX5_readKeep_38 : decode cX5_readKeep 38 = .ok (.iload_n 1, 1) := dk_27 (dk_at dksX5_readKeep_1 16 rfl rfl)
theorem dX5_readKeep_39 : decode cX5_readKeep 39 = .ok (.iconst (-1), 1) := dk_2 (dk_at dksX5_readKeep_1 17 rfl rfl)
theorem dX5_readKeep_40 : decode cX5_readKeep 40 = .ok (.if_icmp .eq 7, 3) := dk_159 0 7 (dk_at dksX5_readKeep_1 18 rfl rfl)
theorem dX5_readKeep_43 : decode cX5_readKeep 43 = .ok (.iconst 1, 1) := dk_4 (dk_at dksX5_readKeep_1 21 rfl rfl)
theorem dX5_readKeep_44 : decode cX5_readKeep 44 = .ok (.goto 4, 3) := dk_167 0 4 (dk_at dksX5_readKeep_2 0 rfl rfl)
theorem dX5_readKeep_47 : decode cX5_readKeep 47 = .ok (.iconst 0, 1) := dk_3 (dk_at dksX5_readKeep_2 3 rfl rfl)
theorem dX5_readKeep_48 : decode cX5_readKeep 48 = .ok (.invokevirtual 203, 3) := dk_182 0 203 (dk_at dksX5_readKeep_2 4 rfl rfl)
theorem dX5_readKeep_51 : decode cX5_readKeep 51 = .ok (.aload_n 0, 1) := dk_42 (dk_at dksX5_readKeep_2 7 rfl rfl)
theorem dX5_readKeep_52 : decode cX5_readKeep 52 = .ok (.invokevirtual 165, 3) := dk_182 0 165 (dk_at dksX5_readKeep_2 8 rfl rfl)
theorem dX5_readKeep_55 : decode cX5_readKeep 55 = .ok (.ifCond .eq 12, 3) := dk_153 0 12 (dk_at dksX5_readKeep_2 11 rfl rfl)
theorem dX5_readKeep_58 : decode cX5_readKeep 58 = .ok (.aload_n 0, 1) := dk_42 (dk_at dksX5_readKeep_2 14 rfl rfl)
theorem dX5_readKeep_59 : decode cX5_readKeep 59 = .ok (.bipush 66, 2) := dk_16 66 (dk_at dksX5_readKeep_2 15 rfl rfl)
theorem dX5_readKeep_61 : decode cX5_readKeep 61 = .ok (.iload_n 1, 1) := dk_27 (dk_at dksX5_readKeep_2 17 rfl rfl)
theorem dX5_readKeep_62 : decode cX5_readKeep 62 = .ok (.iadd, 1) := dk_96 (dk_at dksX5_readKeep_2 18 rfl rfl)
theorem dX5_readKeep_63 : decode cX5_readKeep 63 = .ok (.lconst 1, 1) := dk_10 (dk_at dksX5_readKeep_2 19 rfl rfl)
theorem dX5_readKeep_64 : decode cX5_readKeep 64 = .ok (.invokevirtual 228, 3) := dk_182 0 228 (dk_at dksX5_readKeep_2 20 rfl rfl)
theorem dX5_readKeep_67 : decode cX5_readKeep 67 = .ok (.aload_n 0, 1) := dk_42 (dk_at dksX5_readKeep_2 23 rfl rfl)
theorem dX5_readKeep_68 : decode cX5_readKeep 68 = .ok (.invokevirtual 207, 3) := dk_182 0 207 (dk_at dksX5_readKeep_3 0 rfl rfl)
theorem dX5_readKeep_71 : decode cX5_readKeep 71 = .ok (.return_, 1) := dk_177 (dk_at dksX5_readKeep_3 3 rfl rfl)
abbrev cX5_readCount : ByteArray := prog_17_method_49_code
def yX5_readCount : MethodName := ⟨RX5, "readCount", "()V"⟩
def dkwX5_readCount_1 : List UInt8 := [182, 0, 225, 62, 42, 182, 0, 165, 153, 0, 10, 42, 27, 28, 29, 182, 0, 252, 177]
abbrev dktX5_readCount_1 : List UInt8 := dkwX5_readCount_1 ++ []
def dkwX5_readCount_0 : List UInt8 := [42, 182, 0, 169, 42, 3, 17, 3, 231, 182, 0, 225, 60, 42, 4, 16, 99, 182, 0, 225, 61, 42, 4, 7]
abbrev dktX5_readCount_0 : List UInt8 := dkwX5_readCount_0 ++ dktX5_readCount_1
theorem dksX5_readCount_0 : cX5_readCount.data.toList.drop 0 = dktX5_readCount_0 := by decide +kernel
theorem dksX5_readCount_1 : cX5_readCount.data.toList.drop 24 = dktX5_readCount_1 := dk_seg dksX5_readCount_0 24 rfl rfl
theorem dX5_readCount_0 : decode cX5_readCount 0 = .ok (.aload_n 0, 1) := dk_42 (dk_at dksX5_readCount_0 0 rfl rfl)
theorem dX5_readCount_1 : decode cX5_readCount 1 = .ok (.invokevirtual 169, 3) := dk_182 0 169 (dk_at dksX5_readCount_0 1 rfl rfl)
theorem dX5_readCount_4 : decode cX5_readCount 4 = .ok (.aload_n 0, 1) := dk_42 (dk_at dksX5_readCount_0 4 rfl rfl)
theorem dX5_readCount_5 : decode cX5_readCount 5 = .ok (.iconst 0, 1) := dk_3 (dk_at dksX5_readCount_0 5 rfl rfl)
theorem dX5_readCount_6 : decode cX5_readCount 6 = .ok (.sipush 999, 3) := dk_17 3 231 (dk_at dksX5_readCount_0 6 rfl rfl)
theorem dX5_readCount_9 : decode cX5_readCount 9 = .ok (.invokevirtual 225, 3) := dk_182 0 225 (dk_at dksX5_readCount_0 9 rfl rfl)
theorem dX5_readCount_12 : decode cX5_readCount 12 = .ok (.istore_n 1, 1) := dk_60 (dk_at dksX5_readCount_0 12 rfl rfl)
theorem dX5_readCount_13 : decode cX5_readCount 13 = .ok (.aload_n 0, 1) := dk_42 (dk_at dksX5_readCount_0 13 rfl rfl)
theorem dX5_readCount_14 : decode cX5_readCount 14 = .ok (.iconst 1, 1) := dk_4 (dk_at dksX5_readCount_0 14 rfl rfl)
theorem dX5_readCount_15 : decode cX5_readCount 15 = .ok (.bipush 99, 2) := dk_16 99 (dk_at dksX5_readCount_0 15 rfl rfl)
theorem dX5_readCount_17 : decode cX5_readCount 17 = .ok (.invokevirtual 225, 3) := dk_182 0 225 (dk_at dksX5_readCount_0 17 rfl rfl)
theorem dX5_readCount_20 : decode cX5_readCount 20 = .ok (.istore_n 2, 1) := dk_61 (dk_at dksX5_readCount_0 20 rfl rfl)
theorem dX5_readCount_21 : decode cX5_readCount 21 = .ok (.aload_n 0, 1) := dk_42 (dk_at dksX5_readCount_0 21 rfl rfl)
theorem dX5_readCount_22 : decode cX5_readCount 22 = .ok (.iconst 1, 1) := dk_4 (dk_at dksX5_readCount_0 22 rfl rfl)
theorem dX5_readCount_23 : decode cX5_readCount 23 = .ok (.iconst 4, 1) := dk_7 (dk_at dksX5_readCount_0 23 rfl rfl)
theorem dX5_readCount_24 : decode cX5_readCount 24 = .ok (.invokevirtual 225, 3) := dk_182 0 225 (dk_at dksX5_readCount_1 0 rfl rfl)
theorem dX5_readCount_27 : decode cX5_readCount 27 = .ok (.istore_n 3, 1) := dk_62 (dk_at dksX5_readCount_1 3 rfl rfl)
theorem dX5_readCount_28 : decode cX5_readCount 28 = .ok (.aload_n 0, 1) := dk_42 (dk_at dksX5_readCount_1 4 rfl rfl)
theorem dX5_readCount_29 : decode cX5_readCount 29 = .ok (.invokevirtual 165, 3) := dk_182 0 165 (dk_at dksX5_readCount_1 5 rfl rfl)
theorem dX5_readCount_32 : decode cX5_readCount 32 = .ok (.ifCond .eq 10, 3) := dk_153 0 10 (dk_at dksX5_readCount_1 8 rfl rfl)
theorem dX5_readCount_35 : decode cX5_readCount 35 = .ok (.aload_n 0, 1) := dk_42 (dk_at dksX5_readCount_1 11 rfl rfl)
theorem dX5_readCount_36 : decode cX5_readCount 36 = .ok (.iload_n 1, 1) := dk_27 (dk_at dksX5_readCount_1 12 rfl rfl)
theorem dX5_readCount_37 : decode cX5_readCount 37 = .ok (.iload_n 2, 1) := dk_28 (dk_at dksX5_readCount_1 13 rfl rfl)
theorem dX5_readCount_38 : decode cX5_readCount 38 = .ok (.iload_n 3, 1) := dk_29 (dk_at dksX5_readCount_1 14 rfl rfl)
theorem dX5_readCount_39 : decode cX5_readCount 39 = .ok (.invokevirtual 252, 3) := dk_182 0 252 (dk_at dksX5_readCount_1 15 rfl rfl)
theorem dX5_readCount_42 : decode cX5_readCount 42 = .ok (.return_, 1) := dk_177 (dk_at dksX5_readCount_1 18 rfl rfl)
abbrev cX5_readNumber : ByteArray := prog_17_method_42_code
def yX5_readNumber : MethodName := ⟨RX5, "readNumber", "(II)I"⟩
def dkwX5_readNumber_1 : List UInt8 := [4, 167, 0, 4, 3, 182, 0, 203, 42, 182, 0, 207, 29, 172]
abbrev dktX5_readNumber_1 : List UInt8 := dkwX5_readNumber_1 ++ []
def dkwX5_readNumber_0 : List UInt8 := [42, 182, 0, 165, 153, 0, 12, 42, 27, 28, 182, 0, 199, 167, 0, 4, 2, 62, 42, 29, 2, 159, 0, 7]
abbrev dktX5_readNumber_0 : List UInt8 := dkwX5_readNumber_0 ++ dktX5_readNumber_1
theorem dksX5_readNumber_0 : cX5_readNumber.data.toList.drop 0 = dktX5_readNumber_0 := by decide +kernel
theorem dksX5_readNumber_1 : cX5_readNumber.data.toList.drop 24 = dktX5_readNumber_1 := dk_seg dksX5_readNumber_0 24 rfl rfl
theorem dX5_readNumber_0 : decode cX5_readNumber 0 = .ok (.aload_n 0, 1) := dk_42 (dk_at dksX5_readNumber_0 0 rfl rfl)
theorem dX5_readNumber_1 : decode cX5_readNumber 1 = .ok (.invokevirtual 165, 3) := dk_182 0 165 (dk_at dksX5_readNumber_0 1 rfl rfl)
theorem dX5_readNumber_4 : decode cX5_readNumber 4 = .ok (.ifCond .eq 12, 3) := dk_153 0 12 (dk_at dksX5_readNumber_0 4 rfl rfl)
theorem dX5_readNumber_7 : decode cX5_readNumber 7 = .ok (.aload_n 0, 1) := dk_42 (dk_at dksX5_readNumber_0 7 rfl rfl)
theorem dX5_readNumber_8 : decode cX5_readNumber 8 = .ok (.iload_n 1, 1) := dk_27 (dk_at dksX5_readNumber_0 8 rfl rfl)
theorem dX5_readNumber_9 : decode cX5_readNumber 9 = .ok (.iload_n 2, 1) := dk_28 (dk_at dksX5_readNumber_0 9 rfl rfl)
theorem dX5_readNumber_10 : decode cX5_readNumber 10 = .ok (.invokevirtual 199, 3) := dk_182 0 199 (dk_at dksX5_readNumber_0 10 rfl rfl)
theorem dX5_readNumber_13 : decode cX5_readNumber 13 = .ok (.goto 4, 3) := dk_167 0 4 (dk_at dksX5_readNumber_0 13 rfl rfl)
theorem dX5_readNumber_16 : decode cX5_readNumber 16 = .ok (.iconst (-1), 1) := dk_2 (dk_at dksX5_readNumber_0 16 rfl rfl)
theorem dX5_readNumber_17 : decode cX5_readNumber 17 = .ok (.istore_n 3, 1) := dk_62 (dk_at dksX5_readNumber_0 17 rfl rfl)
theorem dX5_readNumber_18 : decode cX5_readNumber 18 = .ok (.aload_n 0, 1) := dk_42 (dk_at dksX5_readNumber_0 18 rfl rfl)
theorem dX5_readNumber_19 : decode cX5_readNumber 19 = .ok (.iload_n 3, 1) := dk_29 (dk_at dksX5_readNumber_0 19 rfl rfl)
theorem dX5_readNumber_20 : decode cX5_readNumber 20 = .ok (.iconst (-1), 1) := dk_2 (dk_at dksX5_readNumber_0 20 rfl rfl)
theorem dX5_readNumber_21 : decode cX5_readNumber 21 = .ok (.if_icmp .eq 7, 3) := dk_159 0 7 (dk_at dksX5_readNumber_0 21 rfl rfl)
theorem dX5_readNumber_24 : decode cX5_readNumber 24 = .ok (.iconst 1, 1) := dk_4 (dk_at dksX5_readNumber_1 0 rfl rfl)
theorem dX5_readNumber_25 : decode cX5_readNumber 25 = .ok (.goto 4, 3) := dk_167 0 4 (dk_at dksX5_readNumber_1 1 rfl rfl)
theorem dX5_readNumber_28 : decode cX5_readNumber 28 = .ok (.iconst 0, 1) := dk_3 (dk_at dksX5_readNumber_1 4 rfl rfl)
theorem dX5_readNumber_29 : decode cX5_readNumber 29 = .ok (.invokevirtual 203, 3) := dk_182 0 203 (dk_at dksX5_readNumber_1 5 rfl rfl)
theorem dX5_readNumber_32 : decode cX5_readNumber 32 = .ok (.aload_n 0, 1) := dk_42 (dk_at dksX5_readNumber_1 8 rfl rfl)
theorem dX5_readNumber_33 : decode cX5_readNumber 33 = .ok (.invokevirtual 207, 3) := dk_182 0 207 (dk_at dksX5_readNumber_1 9 rfl rfl)
theorem dX5_readNumber_36 : decode cX5_readNumber 36 = .ok (.iload_n 3, 1) := dk_29 (dk_at dksX5_readNumber_1 12 rfl rfl)
theorem dX5_readNumber_37 : decode cX5_readNumber 37 = .ok (.ireturn, 1) := dk_172 (dk_at dksX5_readNumber_1 13 rfl rfl)
abbrev cX5_numberHere : ByteArray := prog_17_method_41_code
def yX5_numberHere : MethodName := ⟨RX5, "numberHere", "(II)I"⟩
def dkwX5_numberHere_3 : List UInt8 := [28, 184, 0, 105, 153, 0, 7, 29, 167, 0, 4, 2, 172]
abbrev dktX5_numberHere_3 : List UInt8 := dkwX5_numberHere_3 ++ []
def dkwX5_numberHere_2 : List UInt8 := [172, 16, 10, 29, 104, 42, 21, 4, 182, 0, 150, 96, 16, 48, 100, 62, 132, 4, 1, 167, 255, 215, 29, 27]
abbrev dktX5_numberHere_2 : List UInt8 := dkwX5_numberHere_2 ++ dktX5_numberHere_3
def dkwX5_numberHere_1 : List UInt8 := [54, 4, 21, 4, 42, 180, 0, 147, 162, 0, 38, 42, 21, 4, 182, 0, 150, 184, 0, 140, 154, 0, 5, 2]
abbrev dktX5_numberHere_1 : List UInt8 := dkwX5_numberHere_1 ++ dktX5_numberHere_2
def dkwX5_numberHere_0 : List UInt8 := [42, 180, 0, 156, 4, 160, 0, 11, 42, 182, 0, 172, 6, 164, 0, 5, 2, 172, 3, 62, 42, 180, 0, 153]
abbrev dktX5_numberHere_0 : List UInt8 := dkwX5_numberHere_0 ++ dktX5_numberHere_1
theorem dksX5_numberHere_0 : cX5_numberHere.data.toList.drop 0 = dktX5_numberHere_0 := by decide +kernel
theorem dksX5_numberHere_1 : cX5_numberHere.data.toList.drop 24 = dktX5_numberHere_1 := dk_seg dksX5_numberHere_0 24 rfl rfl
theorem dksX5_numberHere_2 : cX5_numberHere.data.toList.drop 48 = dktX5_numberHere_2 := dk_seg dksX5_numberHere_1 24 rfl rfl
theorem dksX5_numberHere_3 : cX5_numberHere.data.toList.drop 72 = dktX5_numberHere_3 := dk_seg dksX5_numberHere_2 24 rfl rfl
theorem dX5_numberHere_0 : decode cX5_numberHere 0 = .ok (.aload_n 0, 1) := dk_42 (dk_at dksX5_numberHere_0 0 rfl rfl)
theorem dX5_numberHere_1 : decode cX5_numberHere 1 = .ok (.getfield 156, 3) := dk_180 0 156 (dk_at dksX5_numberHere_0 1 rfl rfl)
theorem dX5_numberHere_4 : decode cX5_numberHere 4 = .ok (.iconst 1, 1) := dk_4 (dk_at dksX5_numberHere_0 4 rfl rfl)
theorem dX5_numberHere_5 : decode cX5_numberHere 5 = .ok (.if_icmp .ne 11, 3) := dk_160 0 11 (dk_at dksX5_numberHere_0 5 rfl rfl)
theorem dX5_numberHere_8 : decode cX5_numberHere 8 = .ok (.aload_n 0, 1) := dk_42 (dk_at dksX5_numberHere_0 8 rfl rfl)
theorem dX5_numberHere_9 : decode cX5_numberHere 9 = .ok (.invokevirtual 172, 3) := dk_182 0 172 (dk_at dksX5_numberHere_0 9 rfl rfl)
theorem dX5_numberHere_12 : decode cX5_numberHere 12 = .ok (.iconst 3, 1) := dk_6 (dk_at dksX5_numberHere_0 12 rfl rfl)
theorem dX5_numberHere_13 : decode cX5_numberHere 13 = .ok (.if_icmp .le 5, 3) := dk_164 0 5 (dk_at dksX5_numberHere_0 13 rfl rfl)
theorem dX5_numberHere_16 : decode cX5_numberHere 16 = .ok (.iconst (-1), 1) := dk_2 (dk_at dksX5_numberHere_0 16 rfl rfl)
theorem dX5_numberHere_17 : decode cX5_numberHere 17 = .ok (.ireturn, 1) := dk_172 (dk_at dksX5_numberHere_0 17 rfl rfl)
theorem dX5_numberHere_18 : decode cX5_numberHere 18 = .ok (.iconst 0, 1) := dk_3 (dk_at dksX5_numberHere_0 18 rfl rfl)
theorem dX5_numberHere_19 : decode cX5_numberHere 19 = .ok (.istore_n 3, 1) := dk_62 (dk_at dksX5_numberHere_0 19 rfl rfl)
theorem dX5_numberHere_20 : decode cX5_numberHere 20 = .ok (.aload_n 0, 1) := dk_42 (dk_at dksX5_numberHere_0 20 rfl rfl)
theorem dX5_numberHere_21 : decode cX5_numberHere 21 = .ok (.getfield 153, 3) := dk_180 0 153 (dk_at dksX5_numberHere_0 21 rfl rfl)
theorem dX5_numberHere_24 : decode cX5_numberHere 24 = .ok (.istore 4, 2) := dk_54 4 (dk_at dksX5_numberHere_1 0 rfl rfl)
theorem dX5_numberHere_26 : decode cX5_numberHere 26 = .ok (.iload 4, 2) := dk_21 4 (dk_at dksX5_numberHere_1 2 rfl rfl)
theorem dX5_numberHere_28 : decode cX5_numberHere 28 = .ok (.aload_n 0, 1) := dk_42 (dk_at dksX5_numberHere_1 4 rfl rfl)
theorem dX5_numberHere_29 : decode cX5_numberHere 29 = .ok (.getfield 147, 3) := dk_180 0 147 (dk_at dksX5_numberHere_1 5 rfl rfl)
theorem dX5_numberHere_32 : decode cX5_numberHere 32 = .ok (.if_icmp .ge 38, 3) := dk_162 0 38 (dk_at dksX5_numberHere_1 8 rfl rfl)
theorem dX5_numberHere_35 : decode cX5_numberHere 35 = .ok (.aload_n 0, 1) := dk_42 (dk_at dksX5_numberHere_1 11 rfl rfl)
theorem dX5_numberHere_36 : decode cX5_numberHere 36 = .ok (.iload 4, 2) := dk_21 4 (dk_at dksX5_numberHere_1 12 rfl rfl)
theorem dX5_numberHere_38 : decode cX5_numberHere 38 = .ok (.invokevirtual 150, 3) := dk_182 0 150 (dk_at dksX5_numberHere_1 14 rfl rfl)
theorem dX5_numberHere_41 : decode cX5_numberHere 41 = .ok (.invokestatic 140, 3) := dk_184 0 140 (dk_at dksX5_numberHere_1 17 rfl rfl)
theorem dX5_numberHere_44 : decode cX5_numberHere 44 = .ok (.ifCond .ne 5, 3) := dk_154 0 5 (dk_at dksX5_numberHere_1 20 rfl rfl)
theorem dX5_numberHere_47 : decode cX5_numberHere 47 = .ok (.iconst (-1), 1) := dk_2 (dk_at dksX5_numberHere_1 23 rfl rfl)
theorem dX5_numberHere_48 : decode cX5_numberHere 48 = .ok (.ireturn, 1) := dk_172 (dk_at dksX5_numberHere_2 0 rfl rfl)
theorem dX5_numberHere_49 : decode cX5_numberHere 49 = .ok (.bipush 10, 2) := dk_16 10 (dk_at dksX5_numberHere_2 1 rfl rfl)
theorem dX5_numberHere_51 : decode cX5_numberHere 51 = .ok (.iload_n 3, 1) := dk_29 (dk_at dksX5_numberHere_2 3 rfl rfl)
theorem dX5_numberHere_52 : decode cX5_numberHere 52 = .ok (.imul, 1) := dk_104 (dk_at dksX5_numberHere_2 4 rfl rfl)
theorem dX5_numberHere_53 : decode cX5_numberHere 53 = .ok (.aload_n 0, 1) := dk_42 (dk_at dksX5_numberHere_2 5 rfl rfl)
theorem dX5_numberHere_54 : decode cX5_numberHere 54 = .ok (.iload 4, 2) := dk_21 4 (dk_at dksX5_numberHere_2 6 rfl rfl)
theorem dX5_numberHere_56 : decode cX5_numberHere 56 = .ok (.invokevirtual 150, 3) := dk_182 0 150 (dk_at dksX5_numberHere_2 8 rfl rfl)
theorem dX5_numberHere_59 : decode cX5_numberHere 59 = .ok (.iadd, 1) := dk_96 (dk_at dksX5_numberHere_2 11 rfl rfl)
theorem dX5_numberHere_60 : decode cX5_numberHere 60 = .ok (.bipush 48, 2) := dk_16 48 (dk_at dksX5_numberHere_2 12 rfl rfl)
theorem dX5_numberHere_62 : decode cX5_numberHere 62 = .ok (.isub, 1) := dk_100 (dk_at dksX5_numberHere_2 14 rfl rfl)
theorem dX5_numberHere_63 : decode cX5_numberHere 63 = .ok (.istore_n 3, 1) := dk_62 (dk_at dksX5_numberHere_2 15 rfl rfl)
theorem dX5_numberHere_64 : decode cX5_numberHere 64 = .ok (.iinc 4 1, 3) := dk_132 4 1 (dk_at dksX5_numberHere_2 16 rfl rfl)
theorem dX5_numberHere_67 : decode cX5_numberHere 67 = .ok (.goto (-41), 3) := dk_167 255 215 (dk_at dksX5_numberHere_2 19 rfl rfl)
theorem dX5_numberHere_70 : decode cX5_numberHere 70 = .ok (.iload_n 3, 1) := dk_29 (dk_at dksX5_numberHere_2 22 rfl rfl)
theorem dX5_numberHere_71 : decode cX5_numberHere 71 = .ok (.iload_n 1, 1) := dk_27 (dk_at dksX5_numberHere_2 23 rfl rfl)
theorem dX5_numberHere_72 : decode cX5_numberHere 72 = .ok (.iload_n 2, 1) := dk_28 (dk_at dksX5_numberHere_3 0 rfl rfl)
theorem dX5_numberHere_73 : decode cX5_numberHere 73 = .ok (.invokestatic 105, 3) := dk_184 0 105 (dk_at dksX5_numberHere_3 1 rfl rfl)
theorem dX5_numberHere_76 : decode cX5_numberHere 76 = .ok (.ifCond .eq 7, 3) := dk_153 0 7 (dk_at dksX5_numberHere_3 4 rfl rfl)
theorem dX5_numberHere_79 : decode cX5_numberHere 79 = .ok (.iload_n 3, 1) := dk_29 (dk_at dksX5_numberHere_3 7 rfl rfl)
theorem dX5_numberHere_80 : decode cX5_numberHere 80 = .ok (.goto 4, 3) := dk_167 0 4 (dk_at dksX5_numberHere_3 8 rfl rfl)
theorem dX5_numberHere_83 : decode cX5_numberHere 83 = .ok (.iconst (-1), 1) := dk_2 (dk_at dksX5_numberHere_3 11 rfl rfl)
theorem dX5_numberHere_84 : decode cX5_numberHere 84 = .ok (.ireturn, 1) := dk_172 (dk_at dksX5_numberHere_3 12 rfl rfl)
abbrev cX5_counts : ByteArray := prog_17_method_50_code
def yX5_counts : MethodName := ⟨RX5, "counts", "(III)V"⟩
def dkwX5_counts_0 : List UInt8 := [42, 5, 27, 133, 182, 0, 228, 42, 6, 28, 133, 182, 0, 228, 42, 7, 29, 133, 182, 0, 228, 177]
abbrev dktX5_counts_0 : List UInt8 := dkwX5_counts_0 ++ []
theorem dksX5_counts_0 : cX5_counts.data.toList.drop 0 = dktX5_counts_0 := by decide +kernel
theorem dX5_counts_0 : decode cX5_counts 0 = .ok (.aload_n 0, 1) := dk_42 (dk_at dksX5_counts_0 0 rfl rfl)
theorem dX5_counts_1 : decode cX5_counts 1 = .ok (.iconst 2, 1) := dk_5 (dk_at dksX5_counts_0 1 rfl rfl)
theorem dX5_counts_2 : decode cX5_counts 2 = .ok (.iload_n 1, 1) := dk_27 (dk_at dksX5_counts_0 2 rfl rfl)
theorem dX5_counts_3 : decode cX5_counts 3 = .ok (.i2l, 1) := dk_133 (dk_at dksX5_counts_0 3 rfl rfl)
theorem dX5_counts_4 : decode cX5_counts 4 = .ok (.invokevirtual 228, 3) := dk_182 0 228 (dk_at dksX5_counts_0 4 rfl rfl)
theorem dX5_counts_7 : decode cX5_counts 7 = .ok (.aload_n 0, 1) := dk_42 (dk_at dksX5_counts_0 7 rfl rfl)
theorem dX5_counts_8 : decode cX5_counts 8 = .ok (.iconst 3, 1) := dk_6 (dk_at dksX5_counts_0 8 rfl rfl)
theorem dX5_counts_9 : decode cX5_counts 9 = .ok (.iload_n 2, 1) := dk_28 (dk_at dksX5_counts_0 9 rfl rfl)
theorem dX5_counts_10 : decode cX5_counts 10 = .ok (.i2l, 1) := dk_133 (dk_at dksX5_counts_0 10 rfl rfl)
theorem dX5_counts_11 : decode cX5_counts 11 = .ok (.invokevirtual 228, 3) := dk_182 0 228 (dk_at dksX5_counts_0 11 rfl rfl)
theorem dX5_counts_14 : decode cX5_counts 14 = .ok (.aload_n 0, 1) := dk_42 (dk_at dksX5_counts_0 14 rfl rfl)
theorem dX5_counts_15 : decode cX5_counts 15 = .ok (.iconst 4, 1) := dk_7 (dk_at dksX5_counts_0 15 rfl rfl)
theorem dX5_counts_16 : decode cX5_counts 16 = .ok (.iload_n 3, 1) := dk_29 (dk_at dksX5_counts_0 16 rfl rfl)
theorem dX5_counts_17 : decode cX5_counts 17 = .ok (.i2l, 1) := dk_133 (dk_at dksX5_counts_0 17 rfl rfl)
theorem dX5_counts_18 : decode cX5_counts 18 = .ok (.invokevirtual 228, 3) := dk_182 0 228 (dk_at dksX5_counts_0 18 rfl rfl)
theorem dX5_counts_21 : decode cX5_counts 21 = .ok (.return_, 1) := dk_177 (dk_at dksX5_counts_0 21 rfl rfl)
abbrev cX5_ruleMany : ByteArray := prog_17_method_8_code
def yX5_ruleMany : MethodName := ⟨RX5, "ruleMany", "()I"⟩
def dkwX5_ruleMany_0 : List UInt8 := [42, 4, 182, 0, 97, 172]
abbrev dktX5_ruleMany_0 : List UInt8 := dkwX5_ruleMany_0 ++ []
theorem dksX5_ruleMany_0 : cX5_ruleMany.data.toList.drop 0 = dktX5_ruleMany_0 := by decide +kernel
theorem dX5_ruleMany_0 : decode cX5_ruleMany 0 = .ok (.aload_n 0, 1) := dk_42 (dk_at dksX5_ruleMany_0 0 rfl rfl)
theorem dX5_ruleMany_1 : decode cX5_ruleMany 1 = .ok (.iconst 1, 1) := dk_4 (dk_at dksX5_ruleMany_0 1 rfl rfl)
theorem dX5_ruleMany_2 : decode cX5_ruleMany 2 = .ok (.invokevirtual 97, 3) := dk_182 0 97 (dk_at dksX5_ruleMany_0 2 rfl rfl)
theorem dX5_ruleMany_5 : decode cX5_ruleMany 5 = .ok (.ireturn, 1) := dk_172 (dk_at dksX5_ruleMany_0 5 rfl rfl)
abbrev cX5_readRule : ByteArray := prog_17_method_44_code
def yX5_readRule : MethodName := ⟨RX5, "readRule", "()V"⟩
def dkwX5_readRule_6 : List UInt8 := [27, 4, 96, 133, 182, 0, 228, 177]
abbrev dktX5_readRule_6 : List UInt8 := dkwX5_readRule_6 ++ []
def dkwX5_readRule_5 : List UInt8 := [42, 27, 182, 0, 124, 7, 96, 42, 4, 28, 182, 0, 225, 133, 80, 42, 182, 0, 165, 153, 0, 12, 42, 4]
abbrev dktX5_readRule_5 : List UInt8 := dkwX5_readRule_5 ++ dktX5_readRule_6
def dkwX5_readRule_4 : List UInt8 := [182, 0, 213, 42, 182, 0, 169, 42, 18, 219, 182, 0, 221, 153, 0, 26, 42, 182, 0, 169, 42, 180, 0, 7]
abbrev dktX5_readRule_4 : List UInt8 := dkwX5_readRule_4 ++ dktX5_readRule_5
def dkwX5_readRule_3 : List UInt8 := [182, 0, 216, 182, 0, 203, 42, 182, 0, 165, 154, 0, 4, 177, 42, 42, 27, 182, 0, 124, 5, 96]
abbrev dktX5_readRule_3 : List UInt8 := dkwX5_readRule_3 ++ dktX5_readRule_4
def dkwX5_readRule_2 : List UInt8 := [27, 182, 0, 124, 8, 184, 0, 188, 42, 42, 27, 182, 0, 124, 182, 0, 213, 42, 182, 0, 169, 42, 42, 28]
abbrev dktX5_readRule_2 : List UInt8 := dkwX5_readRule_2 ++ dktX5_readRule_3
def dkwX5_readRule_1 : List UInt8 := [159, 0, 7, 4, 167, 0, 4, 3, 182, 0, 203, 42, 182, 0, 165, 154, 0, 4, 177, 42, 180, 0, 7, 42]
abbrev dktX5_readRule_1 : List UInt8 := dkwX5_readRule_1 ++ dktX5_readRule_2
def dkwX5_readRule_0 : List UInt8 := [42, 182, 0, 109, 60, 42, 182, 0, 165, 153, 0, 10, 42, 182, 0, 210, 167, 0, 4, 2, 61, 42, 28, 2]
abbrev dktX5_readRule_0 : List UInt8 := dkwX5_readRule_0 ++ dktX5_readRule_1
theorem dksX5_readRule_0 : cX5_readRule.data.toList.drop 0 = dktX5_readRule_0 := by decide +kernel
theorem dksX5_readRule_1 : cX5_readRule.data.toList.drop 24 = dktX5_readRule_1 := dk_seg dksX5_readRule_0 24 rfl rfl
theorem dksX5_readRule_2 : cX5_readRule.data.toList.drop 48 = dktX5_readRule_2 := dk_seg dksX5_readRule_1 24 rfl rfl
theorem dksX5_readRule_3 : cX5_readRule.data.toList.drop 72 = dktX5_readRule_3 := dk_seg dksX5_readRule_2 24 rfl rfl
theorem dksX5_readRule_4 : cX5_readRule.data.toList.drop 94 = dktX5_readRule_4 := dk_seg dksX5_readRule_3 22 rfl rfl
theorem dksX5_readRule_5 : cX5_readRule.data.toList.drop 118 = dktX5_readRule_5 := dk_seg dksX5_readRule_4 24 rfl rfl
theorem dksX5_readRule_6 : cX5_readRule.data.toList.drop 142 = dktX5_readRule_6 := dk_seg dksX5_readRule_5 24 rfl rfl
theorem dX5_readRule_0 : decode cX5_readRule 0 = .ok (.aload_n 0, 1) := dk_42 (dk_at dksX5_readRule_0 0 rfl rfl)
theorem dX5_readRule_1 : decode cX5_readRule 1 = .ok (.invokevirtual 109, 3) := dk_182 0 109 (dk_at dksX5_readRule_0 1 rfl rfl)
theorem dX5_readRule_4 : decode cX5_readRule 4 = .ok (.istore_n 1, 1) := dk_60 (dk_at dksX5_readRule_0 4 rfl rfl)
theorem dX5_readRule_5 : decode cX5_readRule 5 = .ok (.aload_n 0, 1) := dk_42 (dk_at dksX5_readRule_0 5 rfl rfl)
theorem dX5_readRule_6 : decode cX5_readRule 6 = .ok (.invokevirtual 165, 3) := dk_182 0 165 (dk_at dksX5_readRule_0 6 rfl rfl)
theorem dX5_readRule_9 : decode cX5_readRule 9 = .ok (.ifCond .eq 10, 3) := dk_153 0 10 (dk_at dksX5_readRule_0 9 rfl rfl)
theorem dX5_readRule_12 : decode cX5_readRule 12 = .ok (.aload_n 0, 1) := dk_42 (dk_at dksX5_readRule_0 12 rfl rfl)
theorem dX5_readRule_13 : decode cX5_readRule 13 = .ok (.invokevirtual 210, 3) := dk_182 0 210 (dk_at dksX5_readRule_0 13 rfl rfl)
theorem dX5_readRule_16 : decode cX5_readRule 16 = .ok (.goto 4, 3) := dk_167 0 4 (dk_at dksX5_readRule_0 16 rfl rfl)
theorem dX5_readRule_19 : decode cX5_readRule 19 = .ok (.iconst (-1), 1) := dk_2 (dk_at dksX5_readRule_0 19 rfl rfl)
theorem dX5_readRule_20 : decode cX5_readRule 20 = .ok (.istore_n 2, 1) := dk_61 (dk_at dksX5_readRule_0 20 rfl rfl)
theorem dX5_readRule_21 : decode cX5_readRule 21 = .ok (.aload_n 0, 1) := dk_42 (dk_at dksX5_readRule_0 21 rfl rfl)
theorem dX5_readRule_22 : decode cX5_readRule 22 = .ok (.iload_n 2, 1) := dk_28 (dk_at dksX5_readRule_0 22 rfl rfl)
theorem dX5_readRule_23 : decode cX5_readRule 23 = .ok (.iconst (-1), 1) := dk_2 (dk_at dksX5_readRule_0 23 rfl rfl)
theorem dX5_readRule_24 : decode cX5_readRule 24 = .ok (.if_icmp .eq 7, 3) := dk_159 0 7 (dk_at dksX5_readRule_1 0 rfl rfl)
theorem dX5_readRule_27 : decode cX5_readRule 27 = .ok (.iconst 1, 1) := dk_4 (dk_at dksX5_readRule_1 3 rfl rfl)
theorem dX5_readRule_28 : decode cX5_readRule 28 = .ok (.goto 4, 3) := dk_167 0 4 (dk_at dksX5_readRule_1 4 rfl rfl)
theorem dX5_readRule_31 : decode cX5_readRule 31 = .ok (.iconst 0, 1) := dk_3 (dk_at dksX5_readRule_1 7 rfl rfl)
theorem dX5_readRule_32 : decode cX5_readRule 32 = .ok (.invokevirtual 203, 3) := dk_182 0 203 (dk_at dksX5_readRule_1 8 rfl rfl)
theorem dX5_readRule_35 : decode cX5_readRule 35 = .ok (.aload_n 0, 1) := dk_42 (dk_at dksX5_readRule_1 11 rfl rfl)
theorem dX5_readRule_36 : decode cX5_readRule 36 = .ok (.invokevirtual 165, 3) := dk_182 0 165 (dk_at dksX5_readRule_1 12 rfl rfl)
theorem dX5_readRule_39 : decode cX5_readRule 39 = .ok (.ifCond .ne 4, 3) := dk_154 0 4 (dk_at dksX5_readRule_1 15 rfl rfl)
theorem dX5_readRule_42 : decode cX5_readRule 42 = .ok (.return_, 1) := dk_177 (dk_at dksX5_readRule_1 18 rfl rfl)
theorem dX5_readRule_43 : decode cX5_readRule 43 = .ok (.aload_n 0, 1) := dk_42 (dk_at dksX5_readRule_1 19 rfl rfl)
theorem dX5_readRule_44 : decode cX5_readRule 44 = .ok (.getfield 7, 3) := dk_180 0 7 (dk_at dksX5_readRule_1 20 rfl rfl)
theorem dX5_readRule_47 : decode cX5_readRule 47 = .ok (.aload_n 0, 1) := dk_42 (dk_at dksX5_readRule_1 23 rfl rfl)
theorem dX5_readRule_48 : decode cX5_readRule 48 = .ok (.iload_n 1, 1) := dk_27 (dk_at dksX5_readRule_2 0 rfl rfl)
theorem dX5_readRule_49 : decode cX5_readRule 49 = .ok (.invokevirtual 124, 3) := dk_182 0 124 (dk_at dksX5_readRule_2 1 rfl rfl)
theorem dX5_readRule_52 : decode cX5_readRule 52 = .ok (.iconst 5, 1) := dk_8 (dk_at dksX5_readRule_2 4 rfl rfl)
theorem dX5_readRule_53 : decode cX5_readRule 53 = .ok (.invokestatic 188, 3) := dk_184 0 188 (dk_at dksX5_readRule_2 5 rfl rfl)
theorem dX5_readRule_56 : decode cX5_readRule 56 = .ok (.aload_n 0, 1) := dk_42 (dk_at dksX5_readRule_2 8 rfl rfl)
theorem dX5_readRule_57 : decode cX5_readRule 57 = .ok (.aload_n 0, 1) := dk_42 (dk_at dksX5_readRule_2 9 rfl rfl)
theorem dX5_readRule_58 : decode cX5_readRule 58 = .ok (.iload_n 1, 1) := dk_27 (dk_at dksX5_readRule_2 10 rfl rfl)
theorem dX5_readRule_59 : decode cX5_readRule 59 = .ok (.invokevirtual 124, 3) := dk_182 0 124 (dk_at dksX5_readRule_2 11 rfl rfl)
theorem dX5_readRule_62 : decode cX5_readRule 62 = .ok (.invokevirtual 213, 3) := dk_182 0 213 (dk_at dksX5_readRule_2 14 rfl rfl)
theorem dX5_readRule_65 : decode cX5_readRule 65 = .ok (.aload_n 0, 1) := dk_42 (dk_at dksX5_readRule_2 17 rfl rfl)
theorem dX5_readRule_66 : decode cX5_readRule 66 = .ok (.invokevirtual 169, 3) := dk_182 0 169 (dk_at dksX5_readRule_2 18 rfl rfl)
theorem dX5_readRule_69 : decode cX5_readRule 69 = .ok (.aload_n 0, 1) := dk_42 (dk_at dksX5_readRule_2 21 rfl rfl)
theorem dX5_readRule_70 : decode cX5_readRule 70 = .ok (.aload_n 0, 1) := dk_42 (dk_at dksX5_readRule_2 22 rfl rfl)
theorem dX5_readRule_71 : decode cX5_readRule 71 = .ok (.iload_n 2, 1) := dk_28 (dk_at dksX5_readRule_2 23 rfl rfl)
theorem dX5_readRule_72 : decode cX5_readRule 72 = .ok (.invokevirtual 216, 3) := dk_182 0 216 (dk_at dksX5_readRule_3 0 rfl rfl)
theorem dX5_readRule_75 : decode cX5_readRule 75 = .ok (.invokevirtual 203, 3) := dk_182 0 203 (dk_at dksX5_readRule_3 3 rfl rfl)
theorem dX5_readRule_78 : decode cX5_readRule 78 = .ok (.aload_n 0, 1) := dk_42 (dk_at dksX5_readRule_3 6 rfl rfl)
theorem dX5_readRule_79 : decode cX5_readRule 79 = .ok (.invokevirtual 165, 3) := dk_182 0 165 (dk_at dksX5_readRule_3 7 rfl rfl)
theorem dX5_readRule_82 : decode cX5_readRule 82 = .ok (.ifCond .ne 4, 3) := dk_154 0 4 (dk_at dksX5_readRule_3 10 rfl rfl)
theorem dX5_readRule_85 : decode cX5_readRule 85 = .ok (.return_, 1) := dk_177 (dk_at dksX5_readRule_3 13 rfl rfl)
theorem dX5_readRule_86 : decode cX5_readRule 86 = .ok (.aload_n 0, 1) := dk_42 (dk_at dksX5_readRule_3 14 rfl rfl)
theorem dX5_readRule_87 : decode cX5_readRule 87 = .ok (.aload_n 0, 1) := dk_42 (dk_at dksX5_readRule_3 15 rfl rfl)
theorem dX5_readRule_88 : decode cX5_readRule 88 = .ok (.iload_n 1, 1) := dk_27 (dk_at dksX5_readRule_3 16 rfl rfl)
theorem dX5_readRule_89 : decode cX5_readRule 89 = .ok (.invokevirtual 124, 3) := dk_182 0 124 (dk_at dksX5_readRule_3 17 rfl rfl)
theorem dX5_readRule_92 : decode cX5_readRule 92 = .ok (.iconst 2, 1) := dk_5 (dk_at dksX5_readRule_3 20 rfl rfl)
theorem dX5_readRule_93 : decode cX5_readRule 93 = .ok (.iadd, 1) := dk_96 (dk_at dksX5_readRule_3 21 rfl rfl)
theorem dX5_readRule_94 : decode cX5_readRule 94 = .ok (.invokevirtual 213, 3) := dk_182 0 213 (dk_at dksX5_readRule_4 0 rfl rfl)
theorem dX5_readRule_97 : decode cX5_readRule 97 = .ok (.aload_n 0, 1) := dk_42 (dk_at dksX5_readRule_4 3 rfl rfl)
theorem dX5_readRule_98 : decode cX5_readRule 98 = .ok (.invokevirtual 169, 3) := dk_182 0 169 (dk_at dksX5_readRule_4 4 rfl rfl)
theorem dX5_readRule_101 : decode cX5_readRule 101 = .ok (.aload_n 0, 1) := dk_42 (dk_at dksX5_readRule_4 7 rfl rfl)
theorem dX5_readRule_102 : decode cX5_readRule 102 = .ok (.ldc 219, 2) := dk_18 219 (dk_at dksX5_readRule_4 8 rfl rfl)
theorem dX5_readRule_104 : decode cX5_readRule 104 = .ok (.invokevirtual 221, 3) := dk_182 0 221 (dk_at dksX5_readRule_4 10 rfl rfl)
theorem dX5_readRule_107 : decode cX5_readRule 107 = .ok (.ifCond .eq 26, 3) := dk_153 0 26 (dk_at dksX5_readRule_4 13 rfl rfl)
theorem dX5_readRule_110 : decode cX5_readRule 110 = .ok (.aload_n 0, 1) := dk_42 (dk_at dksX5_readRule_4 16 rfl rfl)
theorem dX5_readRule_111 : decode cX5_readRule 111 = .ok (.invokevirtual 169, 3) := dk_182 0 169 (dk_at dksX5_readRule_4 17 rfl rfl)
theorem dX5_readRule_114 : decode cX5_readRule 114 = .ok (.aload_n 0, 1) := dk_42 (dk_at dksX5_readRule_4 20 rfl rfl)
theorem dX5_readRule_115 : decode cX5_readRule 115 = .ok (.getfield 7, 3) := dk_180 0 7 (dk_at dksX5_readRule_4 21 rfl rfl)
theorem dX5_readRule_118 : decode cX5_readRule 118 = .ok (.aload_n 0, 1) := dk_42 (dk_at dksX5_readRule_5 0 rfl rfl)
theorem dX5_readRule_119 : decode cX5_readRule 119 = .ok (.iload_n 1, 1) := dk_27 (dk_at dksX5_readRule_5 1 rfl rfl)
theorem dX5_readRule_120 : decode cX5_readRule 120 = .ok (.invokevirtual 124, 3) := dk_182 0 124 (dk_at dksX5_readRule_5 2 rfl rfl)
theorem dX5_readRule_123 : decode cX5_readRule 123 = .ok (.iconst 4, 1) := dk_7 (dk_at dksX5_readRule_5 5 rfl rfl)
theorem dX5_readRule_124 : decode cX5_readRule 124 = .ok (.iadd, 1) := dk_96 (dk_at dksX5_readRule_5 6 rfl rfl)
theorem dX5_readRule_125 : decode cX5_readRule 125 = .ok (.aload_n 0, 1) := dk_42 (dk_at dksX5_readRule_5 7 rfl rfl)
theorem dX5_readRule_126 : decode cX5_readRule 126 = .ok (.iconst 1, 1) := dk_4 (dk_at dksX5_readRule_5 8 rfl rfl)
theorem dX5_readRule_127 : decode cX5_readRule 127 = .ok (.iload_n 2, 1) := dk_28 (dk_at dksX5_readRule_5 9 rfl rfl)
theorem dX5_readRule_128 : decode cX5_readRule 128 = .ok (.invokevirtual 225, 3) := dk_182 0 225 (dk_at dksX5_readRule_5 10 rfl rfl)
theorem dX5_readRule_131 : decode cX5_readRule 131 = .ok (.i2l, 1) := dk_133 (dk_at dksX5_readRule_5 13 rfl rfl)
theorem dX5_readRule_132 : decode cX5_readRule 132 = .ok (.lastore, 1) := dk_80 (dk_at dksX5_readRule_5 14 rfl rfl)
theorem dX5_readRule_133 : decode cX5_readRule 133 = .ok (.aload_n 0, 1) := dk_42 (dk_at dksX5_readRule_5 15 rfl rfl)
theorem dX5_readRule_134 : decode cX5_readRule 134 = .ok (.invokevirtual 165, 3) := dk_182 0 165 (dk_at dksX5_readRule_5 16 rfl rfl)
theorem dX5_readRule_137 : decode cX5_readRule 137 = .ok (.ifCond .eq 12, 3) := dk_153 0 12 (dk_at dksX5_readRule_5 19 rfl rfl)
theorem dX5_readRule_140 : decode cX5_readRule 140 = .ok (.aload_n 0, 1) := dk_42 (dk_at dksX5_readRule_5 22 rfl rfl)
theorem dX5_readRule_141 : decode cX5_readRule 141 = .ok (.iconst 1, 1) := dk_4 (dk_at dksX5_readRule_5 23 rfl rfl)
theorem dX5_readRule_142 : decode cX5_readRule 142 = .ok (.iload_n 1, 1) := dk_27 (dk_at dksX5_readRule_6 0 rfl rfl)
theorem dX5_readRule_143 : decode cX5_readRule 143 = .ok (.iconst 1, 1) := dk_4 (dk_at dksX5_readRule_6 1 rfl rfl)
theorem dX5_readRule_144 : decode cX5_readRule 144 = .ok (.iadd, 1) := dk_96 (dk_at dksX5_readRule_6 2 rfl rfl)
theorem dX5_readRule_145 : decode cX5_readRule 145 = .ok (.i2l, 1) := dk_133 (dk_at dksX5_readRule_6 3 rfl rfl)
theorem dX5_readRule_146 : decode cX5_readRule 146 = .ok (.invokevirtual 228, 3) := dk_182 0 228 (dk_at dksX5_readRule_6 4 rfl rfl)
theorem dX5_readRule_149 : decode cX5_readRule 149 = .ok (.return_, 1) := dk_177 (dk_at dksX5_readRule_6 7 rfl rfl)
abbrev cX5_patternHere : ByteArray := prog_17_method_39_code
def yX5_patternHere : MethodName := ⟨RX5, "patternHere", "()I"⟩
def dkwX5_patternHere_3 : List UInt8 := [164, 0, 7, 2, 167, 0, 4, 27, 172]
abbrev dktX5_patternHere_3 : List UInt8 := dkwX5_patternHere_3 ++ []
def dkwX5_patternHere_2 : List UInt8 := [42, 28, 182, 0, 150, 184, 0, 196, 153, 0, 6, 132, 1, 1, 132, 2, 1, 167, 255, 219, 27, 7]
abbrev dktX5_patternHere_2 : List UInt8 := dkwX5_patternHere_2 ++ dktX5_patternHere_3
def dkwX5_patternHere_1 : List UInt8 := [180, 0, 153, 61, 28, 42, 180, 0, 147, 162, 0, 35, 42, 28, 182, 0, 150, 16, 37, 160, 0, 5, 2, 172]
abbrev dktX5_patternHere_1 : List UInt8 := dkwX5_patternHere_1 ++ dktX5_patternHere_2
def dkwX5_patternHere_0 : List UInt8 := [42, 180, 0, 156, 4, 160, 0, 12, 42, 182, 0, 172, 16, 12, 164, 0, 5, 2, 172, 3, 60, 42]
abbrev dktX5_patternHere_0 : List UInt8 := dkwX5_patternHere_0 ++ dktX5_patternHere_1
theorem dksX5_patternHere_0 : cX5_patternHere.data.toList.drop 0 = dktX5_patternHere_0 := by decide +kernel
theorem dksX5_patternHere_1 : cX5_patternHere.data.toList.drop 22 = dktX5_patternHere_1 := dk_seg dksX5_patternHere_0 22 rfl rfl
theorem dksX5_patternHere_2 : cX5_patternHere.data.toList.drop 46 = dktX5_patternHere_2 := dk_seg dksX5_patternHere_1 24 rfl rfl
theorem dksX5_patternHere_3 : cX5_patternHere.data.toList.drop 68 = dktX5_patternHere_3 := dk_seg dksX5_patternHere_2 22 rfl rfl
theorem dX5_patternHere_0 : decode cX5_patternHere 0 = .ok (.aload_n 0, 1) := dk_42 (dk_at dksX5_patternHere_0 0 rfl rfl)
theorem dX5_patternHere_1 : decode cX5_patternHere 1 = .ok (.getfield 156, 3) := dk_180 0 156 (dk_at dksX5_patternHere_0 1 rfl rfl)
theorem dX5_patternHere_4 : decode cX5_patternHere 4 = .ok (.iconst 1, 1) := dk_4 (dk_at dksX5_patternHere_0 4 rfl rfl)
theorem dX5_patternHere_5 : decode cX5_patternHere 5 = .ok (.if_icmp .ne 12, 3) := dk_160 0 12 (dk_at dksX5_patternHere_0 5 rfl rfl)
theorem dX5_patternHere_8 : decode cX5_patternHere 8 = .ok (.aload_n 0, 1) := dk_42 (dk_at dksX5_patternHere_0 8 rfl rfl)
theorem dX5_patternHere_9 : decode cX5_patternHere 9 = .ok (.invokevirtual 172, 3) := dk_182 0 172 (dk_at dksX5_patternHere_0 9 rfl rfl)
theorem dX5_patternHere_12 : decode cX5_patternHere 12 = .ok (.bipush 12, 2) := dk_16 12 (dk_at dksX5_patternHere_0 12 rfl rfl)
theorem dX5_patternHere_14 : decode cX5_patternHere 14 = .ok (.if_icmp .le 5, 3) := dk_164 0 5 (dk_at dksX5_patternHere_0 14 rfl rfl)
theorem dX5_patternHere_17 : decode cX5_patternHere 17 = .ok (.iconst (-1), 1) := dk_2 (dk_at dksX5_patternHere_0 17 rfl rfl)
theorem dX5_patternHere_18 : decode cX5_patternHere 18 = .ok (.ireturn, 1) := dk_172 (dk_at dksX5_patternHere_0 18 rfl rfl)
theorem dX5_patternHere_19 : decode cX5_patternHere 19 = .ok (.iconst 0, 1) := dk_3 (dk_at dksX5_patternHere_0 19 rfl rfl)
theorem dX5_patternHere_20 : decode cX5_patternHere 20 = .ok (.istore_n 1, 1) := dk_60 (dk_at dksX5_patternHere_0 20 rfl rfl)
theorem dX5_patternHere_21 : decode cX5_patternHere 21 = .ok (.aload_n 0, 1) := dk_42 (dk_at dksX5_patternHere_0 21 rfl rfl)
theorem dX5_patternHere_22 : decode cX5_patternHere 22 = .ok (.getfield 153, 3) := dk_180 0 153 (dk_at dksX5_patternHere_1 0 rfl rfl)
theorem dX5_patternHere_25 : decode cX5_patternHere 25 = .ok (.istore_n 2, 1) := dk_61 (dk_at dksX5_patternHere_1 3 rfl rfl)
theorem dX5_patternHere_26 : decode cX5_patternHere 26 = .ok (.iload_n 2, 1) := dk_28 (dk_at dksX5_patternHere_1 4 rfl rfl)
theorem dX5_patternHere_27 : decode cX5_patternHere 27 = .ok (.aload_n 0, 1) := dk_42 (dk_at dksX5_patternHere_1 5 rfl rfl)
theorem dX5_patternHere_28 : decode cX5_patternHere 28 = .ok (.getfield 147, 3) := dk_180 0 147 (dk_at dksX5_patternHere_1 6 rfl rfl)
theorem dX5_patternHere_31 : decode cX5_patternHere 31 = .ok (.if_icmp .ge 35, 3) := dk_162 0 35 (dk_at dksX5_patternHere_1 9 rfl rfl)
theorem dX5_patternHere_34 : decode cX5_patternHere 34 = .ok (.aload_n 0, 1) := dk_42 (dk_at dksX5_patternHere_1 12 rfl rfl)
theorem dX5_patternHere_35 : decode cX5_patternHere 35 = .ok (.iload_n 2, 1) := dk_28 (dk_at dksX5_patternHere_1 13 rfl rfl)
theorem dX5_patternHere_36 : decode cX5_patternHere 36 = .ok (.invokevirtual 150, 3) := dk_182 0 150 (dk_at dksX5_patternHere_1 14 rfl rfl)
theorem dX5_patternHere_39 : decode cX5_patternHere 39 = .ok (.bipush 37, 2) := dk_16 37 (dk_at dksX5_patternHere_1 17 rfl rfl)
theorem dX5_patternHere_41 : decode cX5_patternHere 41 = .ok (.if_icmp .ne 5, 3) := dk_160 0 5 (dk_at dksX5_patternHere_1 19 rfl rfl)
theorem dX5_patternHere_44 : decode cX5_patternHere 44 = .ok (.iconst (-1), 1) := dk_2 (dk_at dksX5_patternHere_1 22 rfl rfl)
theorem dX5_patternHere_45 : decode cX5_patternHere 45 = .ok (.ireturn, 1) := dk_172 (dk_at dksX5_patternHere_1 23 rfl rfl)
theorem dX5_patternHere_46 : decode cX5_patternHere 46 = .ok (.aload_n 0, 1) := dk_42 (dk_at dksX5_patternHere_2 0 rfl rfl)
theorem dX5_patternHere_47 : decode cX5_patternHere 47 = .ok (.iload_n 2, 1) := dk_28 (dk_at dksX5_patternHere_2 1 rfl rfl)
theorem dX5_patternHere_48 : decode cX5_patternHere 48 = .ok (.invokevirtual 150, 3) := dk_182 0 150 (dk_at dksX5_patternHere_2 2 rfl rfl)
theorem dX5_patternHere_51 : decode cX5_patternHere 51 = .ok (.invokestatic 196, 3) := dk_184 0 196 (dk_at dksX5_patternHere_2 5 rfl rfl)
theorem dX5_patternHere_54 : decode cX5_patternHere 54 = .ok (.ifCond .eq 6, 3) := dk_153 0 6 (dk_at dksX5_patternHere_2 8 rfl rfl)
theorem dX5_patternHere_57 : decode cX5_patternHere 57 = .ok (.iinc 1 1, 3) := dk_132 1 1 (dk_at dksX5_patternHere_2 11 rfl rfl)
theorem dX5_patternHere_60 : decode cX5_patternHere 60 = .ok (.iinc 2 1, 3) := dk_132 2 1 (dk_at dksX5_patternHere_2 14 rfl rfl)
theorem dX5_patternHere_63 : decode cX5_patternHere 63 = .ok (.goto (-37), 3) := dk_167 255 219 (dk_at dksX5_patternHere_2 17 rfl rfl)
theorem dX5_patternHere_66 : decode cX5_patternHere 66 = .ok (.iload_n 1, 1) := dk_27 (dk_at dksX5_patternHere_2 20 rfl rfl)
theorem dX5_patternHere_67 : decode cX5_patternHere 67 = .ok (.iconst 4, 1) := dk_7 (dk_at dksX5_patternHere_2 21 rfl rfl)
theorem dX5_patternHere_68 : decode cX5_patternHere 68 = .ok (.if_icmp .le 7, 3) := dk_164 0 7 (dk_at dksX5_patternHere_3 0 rfl rfl)
theorem dX5_patternHere_71 : decode cX5_patternHere 71 = .ok (.iconst (-1), 1) := dk_2 (dk_at dksX5_patternHere_3 3 rfl rfl)
theorem dX5_patternHere_72 : decode cX5_patternHere 72 = .ok (.goto 4, 3) := dk_167 0 4 (dk_at dksX5_patternHere_3 4 rfl rfl)
theorem dX5_patternHere_75 : decode cX5_patternHere 75 = .ok (.iload_n 1, 1) := dk_27 (dk_at dksX5_patternHere_3 7 rfl rfl)
theorem dX5_patternHere_76 : decode cX5_patternHere 76 = .ok (.ireturn, 1) := dk_172 (dk_at dksX5_patternHere_3 8 rfl rfl)
abbrev cX5_isWildcard : ByteArray := prog_17_method_38_code
def yX5_isWildcard : MethodName := ⟨RX5, "isWildcard", "(I)Z"⟩
def dkwX5_isWildcard_0 : List UInt8 := [26, 16, 42, 159, 0, 9, 26, 16, 63, 160, 0, 7, 4, 167, 0, 4, 3, 172]
abbrev dktX5_isWildcard_0 : List UInt8 := dkwX5_isWildcard_0 ++ []
theorem dksX5_isWildcard_0 : cX5_isWildcard.data.toList.drop 0 = dktX5_isWildcard_0 := by decide +kernel
theorem dX5_isWildcard_0 : decode cX5_isWildcard 0 = .ok (.iload_n 0, 1) := dk_26 (dk_at dksX5_isWildcard_0 0 rfl rfl)
theorem dX5_isWildcard_1 : decode cX5_isWildcard 1 = .ok (.bipush 42, 2) := dk_16 42 (dk_at dksX5_isWildcard_0 1 rfl rfl)
theorem dX5_isWildcard_3 : decode cX5_isWildcard 3 = .ok (.if_icmp .eq 9, 3) := dk_159 0 9 (dk_at dksX5_isWildcard_0 3 rfl rfl)
theorem dX5_isWildcard_6 : decode cX5_isWildcard 6 = .ok (.iload_n 0, 1) := dk_26 (dk_at dksX5_isWildcard_0 6 rfl rfl)
theorem dX5_isWildcard_7 : decode cX5_isWildcard 7 = .ok (.bipush 63, 2) := dk_16 63 (dk_at dksX5_isWildcard_0 7 rfl rfl)
theorem dX5_isWildcard_9 : decode cX5_isWildcard 9 = .ok (.if_icmp .ne 7, 3) := dk_160 0 7 (dk_at dksX5_isWildcard_0 9 rfl rfl)
theorem dX5_isWildcard_12 : decode cX5_isWildcard 12 = .ok (.iconst 1, 1) := dk_4 (dk_at dksX5_isWildcard_0 12 rfl rfl)
theorem dX5_isWildcard_13 : decode cX5_isWildcard 13 = .ok (.goto 4, 3) := dk_167 0 4 (dk_at dksX5_isWildcard_0 13 rfl rfl)
theorem dX5_isWildcard_16 : decode cX5_isWildcard 16 = .ok (.iconst 0, 1) := dk_3 (dk_at dksX5_isWildcard_0 16 rfl rfl)
theorem dX5_isWildcard_17 : decode cX5_isWildcard 17 = .ok (.ireturn, 1) := dk_172 (dk_at dksX5_isWildcard_0 17 rfl rfl)
abbrev cX5_ruleAt : ByteArray := prog_17_method_19_code
def yX5_ruleAt : MethodName := ⟨RX5, "ruleAt", "(I)I"⟩
def dkwX5_ruleAt_0 : List UInt8 := [42, 180, 0, 94, 16, 86, 96, 8, 27, 104, 96, 172]
abbrev dktX5_ruleAt_0 : List UInt8 := dkwX5_ruleAt_0 ++ []
theorem dksX5_ruleAt_0 : cX5_ruleAt.data.toList.drop 0 = dktX5_ruleAt_0 := by decide +kernel
theorem dX5_ruleAt_0 : decode cX5_ruleAt 0 = .ok (.aload_n 0, 1) := dk_42 (dk_at dksX5_ruleAt_0 0 rfl rfl)
theorem dX5_ruleAt_1 : decode cX5_ruleAt 1 = .ok (.getfield 94, 3) := dk_180 0 94 (dk_at dksX5_ruleAt_0 1 rfl rfl)
theorem dX5_ruleAt_4 : decode cX5_ruleAt 4 = .ok (.bipush 86, 2) := dk_16 86 (dk_at dksX5_ruleAt_0 4 rfl rfl)
theorem dX5_ruleAt_6 : decode cX5_ruleAt 6 = .ok (.iadd, 1) := dk_96 (dk_at dksX5_ruleAt_0 6 rfl rfl)
theorem dX5_ruleAt_7 : decode cX5_ruleAt 7 = .ok (.iconst 5, 1) := dk_8 (dk_at dksX5_ruleAt_0 7 rfl rfl)
theorem dX5_ruleAt_8 : decode cX5_ruleAt 8 = .ok (.iload_n 1, 1) := dk_27 (dk_at dksX5_ruleAt_0 8 rfl rfl)
theorem dX5_ruleAt_9 : decode cX5_ruleAt 9 = .ok (.imul, 1) := dk_104 (dk_at dksX5_ruleAt_0 9 rfl rfl)
theorem dX5_ruleAt_10 : decode cX5_ruleAt 10 = .ok (.iadd, 1) := dk_96 (dk_at dksX5_ruleAt_0 10 rfl rfl)
theorem dX5_ruleAt_11 : decode cX5_ruleAt 11 = .ok (.ireturn, 1) := dk_172 (dk_at dksX5_ruleAt_0 11 rfl rfl)
abbrev cX5_takesHere : ByteArray := prog_17_method_43_code
def yX5_takesHere : MethodName := ⟨RX5, "takesHere", "(I)V"⟩
def dkwX5_takesHere_1 : List UInt8 := [182, 0, 150, 184, 0, 192, 132, 2, 1, 167, 255, 226, 177]
abbrev dktX5_takesHere_1 : List UInt8 := dkwX5_takesHere_1 ++ []
def dkwX5_takesHere_0 : List UInt8 := [3, 61, 28, 42, 182, 0, 172, 162, 0, 28, 42, 180, 0, 7, 27, 28, 42, 42, 180, 0, 153, 28, 96]
abbrev dktX5_takesHere_0 : List UInt8 := dkwX5_takesHere_0 ++ dktX5_takesHere_1
theorem dksX5_takesHere_0 : cX5_takesHere.data.toList.drop 0 = dktX5_takesHere_0 := by decide +kernel
theorem dksX5_takesHere_1 : cX5_takesHere.data.toList.drop 23 = dktX5_takesHere_1 := dk_seg dksX5_takesHere_0 23 rfl rfl
theorem dX5_takesHere_0 : decode cX5_takesHere 0 = .ok (.iconst 0, 1) := dk_3 (dk_at dksX5_takesHere_0 0 rfl rfl)
theorem dX5_takesHere_1 : decode cX5_takesHere 1 = .ok (.istore_n 2, 1) := dk_61 (dk_at dksX5_takesHere_0 1 rfl rfl)
theorem dX5_takesHere_2 : decode cX5_takesHere 2 = .ok (.iload_n 2, 1) := dk_28 (dk_at dksX5_takesHere_0 2 rfl rfl)
theorem dX5_takesHere_3 : decode cX5_takesHere 3 = .ok (.aload_n 0, 1) := dk_42 (dk_at dksX5_takesHere_0 3 rfl rfl)
theorem dX5_takesHere_4 : decode cX5_takesHere 4 = .ok (.invokevirtual 172, 3) := dk_182 0 172 (dk_at dksX5_takesHere_0 4 rfl rfl)
theorem dX5_takesHere_7 : decode cX5_takesHere 7 = .ok (.if_icmp .ge 28, 3) := dk_162 0 28 (dk_at dksX5_takesHere_0 7 rfl rfl)
theorem dX5_takesHere_10 : decode cX5_takesHere 10 = .ok (.aload_n 0, 1) := dk_42 (dk_at dksX5_takesHere_0 10 rfl rfl)
theorem dX5_takesHere_11 : decode cX5_takesHere 11 = .ok (.getfield 7, 3) := dk_180 0 7 (dk_at dksX5_takesHere_0 11 rfl rfl)
theorem dX5_takesHere_14 : decode cX5_takesHere 14 = .ok (.iload_n 1, 1) := dk_27 (dk_at dksX5_takesHere_0 14 rfl rfl)
theorem dX5_takesHere_15 : decode cX5_takesHere 15 = .ok (.iload_n 2, 1) := dk_28 (dk_at dksX5_takesHere_0 15 rfl rfl)
theorem dX5_takesHere_16 : decode cX5_takesHere 16 = .ok (.aload_n 0, 1) := dk_42 (dk_at dksX5_takesHere_0 16 rfl rfl)
theorem dX5_takesHere_17 : decode cX5_takesHere 17 = .ok (.aload_n 0, 1) := dk_42 (dk_at dksX5_takesHere_0 17 rfl rfl)
theorem dX5_takesHere_18 : decode cX5_takesHere 18 = .ok (.getfield 153, 3) := dk_180 0 153 (dk_at dksX5_takesHere_0 18 rfl rfl)
theorem dX5_takesHere_21 : decode cX5_takesHere 21 = .ok (.iload_n 2, 1) := dk_28 (dk_at dksX5_takesHere_0 21 rfl rfl)
theorem dX5_takesHere_22 : decode cX5_takesHere 22 = .ok (.iadd, 1) := dk_96 (dk_at dksX5_takesHere_0 22 rfl rfl)
theorem dX5_takesHere_23 : decode cX5_takesHere 23 = .ok (.invokevirtual 150, 3) := dk_182 0 150 (dk_at dksX5_takesHere_1 0 rfl rfl)
theorem dX5_takesHere_26 : decode cX5_takesHere 26 = .ok (.invokestatic 192, 3) := dk_184 0 192 (dk_at dksX5_takesHere_1 3 rfl rfl)
theorem dX5_takesHere_29 : decode cX5_takesHere 29 = .ok (.iinc 2 1, 3) := dk_132 2 1 (dk_at dksX5_takesHere_1 6 rfl rfl)
theorem dX5_takesHere_32 : decode cX5_takesHere 32 = .ok (.goto (-30), 3) := dk_167 255 226 (dk_at dksX5_takesHere_1 9 rfl rfl)
theorem dX5_takesHere_35 : decode cX5_takesHere 35 = .ok (.return_, 1) := dk_177 (dk_at dksX5_takesHere_1 12 rfl rfl)
abbrev cX5_isTemplateHere : ByteArray := prog_17_method_40_code
def yX5_isTemplateHere : MethodName := ⟨RX5, "isTemplateHere", "(I)Z"⟩
def dkwX5_isTemplateHere_4 : List UInt8 := [3, 54, 4, 21, 4, 154, 0, 5, 3, 172, 132, 2, 1, 167, 255, 172, 4, 172]
abbrev dktX5_isTemplateHere_4 : List UInt8 := dkwX5_isTemplateHere_4 ++ []
def dkwX5_isTemplateHere_3 : List UInt8 := [159, 0, 20, 42, 28, 182, 0, 150, 16, 49, 16, 48, 27, 96, 184, 0, 105, 153, 0, 7, 4, 167, 0, 4]
abbrev dktX5_isTemplateHere_3 : List UInt8 := dkwX5_isTemplateHere_3 ++ dktX5_isTemplateHere_4
def dkwX5_isTemplateHere_2 : List UInt8 := [16, 37, 160, 0, 55, 132, 2, 1, 28, 42, 180, 0, 147, 162, 0, 34, 42, 28, 182, 0, 150, 16, 110]
abbrev dktX5_isTemplateHere_2 : List UInt8 := dkwX5_isTemplateHere_2 ++ dktX5_isTemplateHere_3
def dkwX5_isTemplateHere_1 : List UInt8 := [28, 42, 180, 0, 147, 162, 0, 82, 42, 28, 182, 0, 150, 62, 29, 184, 0, 196, 153, 0, 5, 3, 172, 29]
abbrev dktX5_isTemplateHere_1 : List UInt8 := dkwX5_isTemplateHere_1 ++ dktX5_isTemplateHere_2
def dkwX5_isTemplateHere_0 : List UInt8 := [42, 180, 0, 156, 4, 160, 0, 12, 42, 182, 0, 172, 16, 16, 164, 0, 5, 3, 172, 42, 180, 0, 153, 61]
abbrev dktX5_isTemplateHere_0 : List UInt8 := dkwX5_isTemplateHere_0 ++ dktX5_isTemplateHere_1
theorem dksX5_isTemplateHere_0 : cX5_isTemplateHere.data.toList.drop 0 = dktX5_isTemplateHere_0 := by decide +kernel
theorem dksX5_isTemplateHere_1 : cX5_isTemplateHere.data.toList.drop 24 = dktX5_isTemplateHere_1 := dk_seg dksX5_isTemplateHere_0 24 rfl rfl
theorem dksX5_isTemplateHere_2 : cX5_isTemplateHere.data.toList.drop 48 = dktX5_isTemplateHere_2 := dk_seg dksX5_isTemplateHere_1 24 rfl rfl
theorem dksX5_isTemplateHere_3 : cX5_isTemplateHere.data.toList.drop 71 = dktX5_isTemplateHere_3 := dk_seg dksX5_isTemplateHere_2 23 rfl rfl
theorem dksX5_isTemplateHere_4 : cX5_isTemplateHere.data.toList.drop 95 = dktX5_isTemplateHere_4 := dk_seg dksX5_isTemplateHere_3 24 rfl rfl
theorem dX5_isTemplateHere_0 : decode cX5_isTemplateHere 0 = .ok (.aload_n 0, 1) := dk_42 (dk_at dksX5_isTemplateHere_0 0 rfl rfl)
theorem dX5_isTemplateHere_1 : decode cX5_isTemplateHere 1 = .ok (.getfield 156, 3) := dk_180 0 156 (dk_at dksX5_isTemplateHere_0 1 rfl rfl)
theorem dX5_isTemplateHere_4 : decode cX5_isTemplateHere 4 = .ok (.iconst 1, 1) := dk_4 (dk_at dksX5_isTemplateHere_0 4 rfl rfl)
theorem dX5_isTemplateHere_5 : decode cX5_isTemplateHere 5 = .ok (.if_icmp .ne 12, 3) := dk_160 0 12 (dk_at dksX5_isTemplateHere_0 5 rfl rfl)
theorem dX5_isTemplateHere_8 : decode cX5_isTemplateHere 8 = .ok (.aload_n 0, 1) := dk_42 (dk_at dksX5_isTemplateHere_0 8 rfl rfl)
theorem dX5_isTemplateHere_9 : decode cX5_isTemplateHere 9 = .ok (.invokevirtual 172, 3) := dk_182 0 172 (dk_at dksX5_isTemplateHere_0 9 rfl rfl)
theorem dX5_isTemplateHere_12 : decode cX5_isTemplateHere 12 = .ok (.bipush 16, 2) := dk_16 16 (dk_at dksX5_isTemplateHere_0 12 rfl rfl)
theorem dX5_isTemplateHere_14 : decode cX5_isTemplateHere 14 = .ok (.if_icmp .le 5, 3) := dk_164 0 5 (dk_at dksX5_isTemplateHere_0 14 rfl rfl)
theorem dX5_isTemplateHere_17 : decode cX5_isTemplateHere 17 = .ok (.iconst 0, 1) := dk_3 (dk_at dksX5_isTemplateHere_0 17 rfl rfl)
theorem dX5_isTemplateHere_18 : decode cX5_isTemplateHere 18 = .ok (.ireturn, 1) := dk_172 (dk_at dksX5_isTemplateHere_0 18 rfl rfl)
theorem dX5_isTemplateHere_19 : decode cX5_isTemplateHere 19 = .ok (.aload_n 0, 1) := dk_42 (dk_at dksX5_isTemplateHere_0 19 rfl rfl)
theorem dX5_isTemplateHere_20 : decode cX5_isTemplateHere 20 = .ok (.getfield 153, 3) := dk_180 0 153 (dk_at dksX5_isTemplateHere_0 20 rfl rfl)
theorem dX5_isTemplateHere_23 : decode cX5_isTemplateHere 23 = .ok (.istore_n 2, 1) := dk_61 (dk_at dksX5_isTemplateHere_0 23 rfl rfl)
theorem dX5_isTemplateHere_24 : decode cX5_isTemplateHere 24 = .ok (.iload_n 2, 1) := dk_28 (dk_at dksX5_isTemplateHere_1 0 rfl rfl)
theorem dX5_isTemplateHere_25 : decode cX5_isTemplateHere 25 = .ok (.aload_n 0, 1) := dk_42 (dk_at dksX5_isTemplateHere_1 1 rfl rfl)
theorem dX5_isTemplateHere_26 : decode cX5_isTemplateHere 26 = .ok (.getfield 147, 3) := dk_180 0 147 (dk_at dksX5_isTemplateHere_1 2 rfl rfl)
theorem dX5_isTemplateHere_29 : decode cX5_isTemplateHere 29 = .ok (.if_icmp .ge 82, 3) := dk_162 0 82 (dk_at dksX5_isTemplateHere_1 5 rfl rfl)
theorem dX5_isTemplateHere_32 : decode cX5_isTemplateHere 32 = .ok (.aload_n 0, 1) := dk_42 (dk_at dksX5_isTemplateHere_1 8 rfl rfl)
theorem dX5_isTemplateHere_33 : decode cX5_isTemplateHere 33 = .ok (.iload_n 2, 1) := dk_28 (dk_at dksX5_isTemplateHere_1 9 rfl rfl)
theorem dX5_isTemplateHere_34 : decode cX5_isTemplateHere 34 = .ok (.invokevirtual 150, 3) := dk_182 0 150 (dk_at dksX5_isTemplateHere_1 10 rfl rfl)
theorem dX5_isTemplateHere_37 : decode cX5_isTemplateHere 37 = .ok (.istore_n 3, 1) := dk_62 (dk_at dksX5_isTemplateHere_1 13 rfl rfl)
theorem dX5_isTemplateHere_38 : decode cX5_isTemplateHere 38 = .ok (.iload_n 3, 1) := dk_29 (dk_at dksX5_isTemplateHere_1 14 rfl rfl)
theorem dX5_isTemplateHere_39 : decode cX5_isTemplateHere 39 = .ok (.invokestatic 196, 3) := dk_184 0 196 (dk_at dksX5_isTemplateHere_1 15 rfl rfl)
theorem dX5_isTemplateHere_42 : decode cX5_isTemplateHere 42 = .ok (.ifCond .eq 5, 3) := dk_153 0 5 (dk_at dksX5_isTemplateHere_1 18 rfl rfl)
theorem dX5_isTemplateHere_45 : decode cX5_isTemplateHere 45 = .ok (.iconst 0, 1) := dk_3 (dk_at dksX5_isTemplateHere_1 21 rfl rfl)
theorem dX5_isTemplateHere_46 : decode cX5_isTemplateHere 46 = .ok (.ireturn, 1) := dk_172 (dk_at dksX5_isTemplateHere_1 22 rfl rfl)
theorem dX5_isTemplateHere_47 : decode cX5_isTemplateHere 47 = .ok (.iload_n 3, 1) := dk_29 (dk_at dksX5_isTemplateHere_1 23 rfl rfl)
theorem dX5_isTemplateHere_48 : decode cX5_isTemplateHere 48 = .ok (.bipush 37, 2) := dk_16 37 (dk_at dksX5_isTemplateHere_2 0 rfl rfl)
theorem dX5_isTemplateHere_50 : decode cX5_isTemplateHere 50 = .ok (.if_icmp .ne 55, 3) := dk_160 0 55 (dk_at dksX5_isTemplateHere_2 2 rfl rfl)
theorem dX5_isTemplateHere_53 : decode cX5_isTemplateHere 53 = .ok (.iinc 2 1, 3) := dk_132 2 1 (dk_at dksX5_isTemplateHere_2 5 rfl rfl)
theorem dX5_isTemplateHere_56 : decode cX5_isTemplateHere 56 = .ok (.iload_n 2, 1) := dk_28 (dk_at dksX5_isTemplateHere_2 8 rfl rfl)
theorem dX5_isTemplateHere_57 : decode cX5_isTemplateHere 57 = .ok (.aload_n 0, 1) := dk_42 (dk_at dksX5_isTemplateHere_2 9 rfl rfl)
theorem dX5_isTemplateHere_58 : decode cX5_isTemplateHere 58 = .ok (.getfield 147, 3) := dk_180 0 147 (dk_at dksX5_isTemplateHere_2 10 rfl rfl)
theorem dX5_isTemplateHere_61 : decode cX5_isTemplateHere 61 = .ok (.if_icmp .ge 34, 3) := dk_162 0 34 (dk_at dksX5_isTemplateHere_2 13 rfl rfl)
theorem dX5_isTemplateHere_64 : decode cX5_isTemplateHere 64 = .ok (.aload_n 0, 1) := dk_42 (dk_at dksX5_isTemplateHere_2 16 rfl rfl)
theorem dX5_isTemplateHere_65 : decode cX5_isTemplateHere 65 = .ok (.iload_n 2, 1) := dk_28 (dk_at dksX5_isTemplateHere_2 17 rfl rfl)
theorem dX5_isTemplateHere_66 : decode cX5_isTemplateHere 66 = .ok (.invokevirtual 150, 3) := dk_182 0 150 (dk_at dksX5_isTemplateHere_2 18 rfl rfl)
theorem dX5_isTemplateHere_69 : decode cX5_isTemplateHere 69 = .ok (.bipush 110, 2) := dk_16 110 (dk_at dksX5_isTemplateHere_2 21 rfl rfl)
theorem dX5_isTemplateHere_71 : decode cX5_isTemplateHere 71 = .ok (.if_icmp .eq 20, 3) := dk_159 0 20 (dk_at dksX5_isTemplateHere_3 0 rfl rfl)
theorem dX5_isTemplateHere_74 : decode cX5_isTemplateHere 74 = .ok (.aload_n 0, 1) := dk_42 (dk_at dksX5_isTemplateHere_3 3 rfl rfl)
theorem dX5_isTemplateHere_75 : decode cX5_isTemplateHere 75 = .ok (.iload_n 2, 1) := dk_28 (dk_at dksX5_isTemplateHere_3 4 rfl rfl)
theorem dX5_isTemplateHere_76 : decode cX5_isTemplateHere 76 = .ok (.invokevirtual 150, 3) := dk_182 0 150 (dk_at dksX5_isTemplateHere_3 5 rfl rfl)
theorem dX5_isTemplateHere_79 : decode cX5_isTemplateHere 79 = .ok (.bipush 49, 2) := dk_16 49 (dk_at dksX5_isTemplateHere_3 8 rfl rfl)
theorem dX5_isTemplateHere_81 : decode cX5_isTemplateHere 81 = .ok (.bipush 48, 2) := dk_16 48 (dk_at dksX5_isTemplateHere_3 10 rfl rfl)
theorem dX5_isTemplateHere_83 : decode cX5_isTemplateHere 83 = .ok (.iload_n 1, 1) := dk_27 (dk_at dksX5_isTemplateHere_3 12 rfl rfl)
theorem dX5_isTemplateHere_84 : decode cX5_isTemplateHere 84 = .ok (.iadd, 1) := dk_96 (dk_at dksX5_isTemplateHere_3 13 rfl rfl)
theorem dX5_isTemplateHere_85 : decode cX5_isTemplateHere 85 = .ok (.invokestatic 105, 3) := dk_184 0 105 (dk_at dksX5_isTemplateHere_3 14 rfl rfl)
theorem dX5_isTemplateHere_88 : decode cX5_isTemplateHere 88 = .ok (.ifCond .eq 7, 3) := dk_153 0 7 (dk_at dksX5_isTemplateHere_3 17 rfl rfl)
theorem dX5_isTemplateHere_91 : decode cX5_isTemplateHere 91 = .ok (.iconst 1, 1) := dk_4 (dk_at dksX5_isTemplateHere_3 20 rfl rfl)
theorem dX5_isTemplateHere_92 : decode cX5_isTemplateHere 92 = .ok (.goto 4, 3) := dk_167 0 4 (dk_at dksX5_isTemplateHere_3 21 rfl rfl)
theorem dX5_isTemplateHere_95 : decode cX5_isTemplateHere 95 = .ok (.iconst 0, 1) := dk_3 (dk_at dksX5_isTemplateHere_4 0 rfl rfl)
theorem dX5_isTemplateHere_96 : decode cX5_isTemplateHere 96 = .ok (.istore 4, 2) := dk_54 4 (dk_at dksX5_isTemplateHere_4 1 rfl rfl)
theorem dX5_isTemplateHere_98 : decode cX5_isTemplateHere 98 = .ok (.iload 4, 2) := dk_21 4 (dk_at dksX5_isTemplateHere_4 3 rfl rfl)
theorem dX5_isTemplateHere_100 : decode cX5_isTemplateHere 100 = .ok (.ifCond .ne 5, 3) := dk_154 0 5 (dk_at dksX5_isTemplateHere_4 5 rfl rfl)
theorem dX5_isTemplateHere_103 : decode cX5_isTemplateHere 103 = .ok (.iconst 0, 1) := dk_3 (dk_at dksX5_isTemplateHere_4 8 rfl rfl)
theorem dX5_isTemplateHere_104 : decode cX5_isTemplateHere 104 = .ok (.ireturn, 1) := dk_172 (dk_at dksX5_isTemplateHere_4 9 rfl rfl)
theorem dX5_isTemplateHere_105 : decode cX5_isTemplateHere 105 = .ok (.iinc 2 1, 3) := dk_132 2 1 (dk_at dksX5_isTemplateHere_4 10 rfl rfl)
theorem dX5_isTemplateHere_108 : decode cX5_isTemplateHere 108 = .ok (.goto (-84), 3) := dk_167 255 172 (dk_at dksX5_isTemplateHere_4 13 rfl rfl)
theorem dX5_isTemplateHere_111 : decode cX5_isTemplateHere 111 = .ok (.iconst 1, 1) := dk_4 (dk_at dksX5_isTemplateHere_4 16 rfl rfl)
theorem dX5_isTemplateHere_112 : decode cX5_isTemplateHere 112 = .ok (.ireturn, 1) := dk_172 (dk_at dksX5_isTemplateHere_4 17 rfl rfl)
abbrev cX5_errorOffset : ByteArray := prog_17_method_55_code
def yX5_errorOffset : MethodName := ⟨RX5, "errorOffset", "()I"⟩
def dkwX5_errorOffset_0 : List UInt8 := [42, 3, 181, 0, 91, 42, 180, 0, 80, 172]
abbrev dktX5_errorOffset_0 : List UInt8 := dkwX5_errorOffset_0 ++ []
theorem dksX5_errorOffset_0 : cX5_errorOffset.data.toList.drop 0 = dktX5_errorOffset_0 := by decide +kernel
theorem dX5_errorOffset_0 : decode cX5_errorOffset 0 = .ok (.aload_n 0, 1) := dk_42 (dk_at dksX5_errorOffset_0 0 rfl rfl)
theorem dX5_errorOffset_1 : decode cX5_errorOffset 1 = .ok (.iconst 0, 1) := dk_3 (dk_at dksX5_errorOffset_0 1 rfl rfl)
theorem dX5_errorOffset_2 : decode cX5_errorOffset 2 = .ok (.putfield 91, 3) := dk_181 0 91 (dk_at dksX5_errorOffset_0 2 rfl rfl)
theorem dX5_errorOffset_5 : decode cX5_errorOffset 5 = .ok (.aload_n 0, 1) := dk_42 (dk_at dksX5_errorOffset_0 5 rfl rfl)
theorem dX5_errorOffset_6 : decode cX5_errorOffset 6 = .ok (.getfield 80, 3) := dk_180 0 80 (dk_at dksX5_errorOffset_0 6 rfl rfl)
theorem dX5_errorOffset_9 : decode cX5_errorOffset 9 = .ok (.ireturn, 1) := dk_172 (dk_at dksX5_errorOffset_0 9 rfl rfl)
abbrev cX5_files : ByteArray := prog_17_method_56_code
def yX5_files : MethodName := ⟨RX5, "files", "()I"⟩
def dkwX5_files_0 : List UInt8 := [42, 3, 181, 0, 91, 42, 182, 0, 101, 172]
abbrev dktX5_files_0 : List UInt8 := dkwX5_files_0 ++ []
theorem dksX5_files_0 : cX5_files.data.toList.drop 0 = dktX5_files_0 := by decide +kernel
theorem dX5_files_0 : decode cX5_files 0 = .ok (.aload_n 0, 1) := dk_42 (dk_at dksX5_files_0 0 rfl rfl)
theorem dX5_files_1 : decode cX5_files 1 = .ok (.iconst 0, 1) := dk_3 (dk_at dksX5_files_0 1 rfl rfl)
theorem dX5_files_2 : decode cX5_files 2 = .ok (.putfield 91, 3) := dk_181 0 91 (dk_at dksX5_files_0 2 rfl rfl)
theorem dX5_files_5 : decode cX5_files 5 = .ok (.aload_n 0, 1) := dk_42 (dk_at dksX5_files_0 5 rfl rfl)
theorem dX5_files_6 : decode cX5_files 6 = .ok (.invokevirtual 101, 3) := dk_182 0 101 (dk_at dksX5_files_0 6 rfl rfl)
theorem dX5_files_9 : decode cX5_files 9 = .ok (.ireturn, 1) := dk_172 (dk_at dksX5_files_0 9 rfl rfl)
abbrev cX5_rules : ByteArray := prog_17_method_57_code
def yX5_rules : MethodName := ⟨RX5, "rules", "()I"⟩
def dkwX5_rules_0 : List UInt8 := [42, 3, 181, 0, 91, 42, 182, 0, 109, 172]
abbrev dktX5_rules_0 : List UInt8 := dkwX5_rules_0 ++ []
theorem dksX5_rules_0 : cX5_rules.data.toList.drop 0 = dktX5_rules_0 := by decide +kernel
theorem dX5_rules_0 : decode cX5_rules 0 = .ok (.aload_n 0, 1) := dk_42 (dk_at dksX5_rules_0 0 rfl rfl)
theorem dX5_rules_1 : decode cX5_rules 1 = .ok (.iconst 0, 1) := dk_3 (dk_at dksX5_rules_0 1 rfl rfl)
theorem dX5_rules_2 : decode cX5_rules 2 = .ok (.putfield 91, 3) := dk_181 0 91 (dk_at dksX5_rules_0 2 rfl rfl)
theorem dX5_rules_5 : decode cX5_rules 5 = .ok (.aload_n 0, 1) := dk_42 (dk_at dksX5_rules_0 5 rfl rfl)
theorem dX5_rules_6 : decode cX5_rules 6 = .ok (.invokevirtual 109, 3) := dk_182 0 109 (dk_at dksX5_rules_0 6 rfl rfl)
theorem dX5_rules_9 : decode cX5_rules 9 = .ok (.ireturn, 1) := dk_172 (dk_at dksX5_rules_0 9 rfl rfl)
abbrev cX5_isKept : ByteArray := prog_17_method_58_code
def yX5_isKept : MethodName := ⟨RX5, "isKept", "(I)Z"⟩
def dkwX5_isKept_1 : List UInt8 := [42, 16, 66, 27, 96, 182, 0, 97, 4, 160, 0, 7, 4, 167, 0, 4, 3, 172]
abbrev dktX5_isKept_1 : List UInt8 := dkwX5_isKept_1 ++ []
def dkwX5_isKept_0 : List UInt8 := [42, 42, 27, 182, 1, 32, 153, 0, 7, 3, 167, 0, 4, 4, 181, 0, 91, 42, 180, 0, 91, 154, 0, 19]
abbrev dktX5_isKept_0 : List UInt8 := dkwX5_isKept_0 ++ dktX5_isKept_1
theorem dksX5_isKept_0 : cX5_isKept.data.toList.drop 0 = dktX5_isKept_0 := by decide +kernel
theorem dksX5_isKept_1 : cX5_isKept.data.toList.drop 24 = dktX5_isKept_1 := dk_seg dksX5_isKept_0 24 rfl rfl
theorem dX5_isKept_0 : decode cX5_isKept 0 = .ok (.aload_n 0, 1) := dk_42 (dk_at dksX5_isKept_0 0 rfl rfl)
theorem dX5_isKept_1 : decode cX5_isKept 1 = .ok (.aload_n 0, 1) := dk_42 (dk_at dksX5_isKept_0 1 rfl rfl)
theorem dX5_isKept_2 : decode cX5_isKept 2 = .ok (.iload_n 1, 1) := dk_27 (dk_at dksX5_isKept_0 2 rfl rfl)
theorem dX5_isKept_3 : decode cX5_isKept 3 = .ok (.invokevirtual 288, 3) := dk_182 1 32 (dk_at dksX5_isKept_0 3 rfl rfl)
theorem dX5_isKept_6 : decode cX5_isKept 6 = .ok (.ifCond .eq 7, 3) := dk_153 0 7 (dk_at dksX5_isKept_0 6 rfl rfl)
theorem dX5_isKept_9 : decode cX5_isKept 9 = .ok (.iconst 0, 1) := dk_3 (dk_at dksX5_isKept_0 9 rfl rfl)
theorem dX5_isKept_10 : decode cX5_isKept 10 = .ok (.goto 4, 3) := dk_167 0 4 (dk_at dksX5_isKept_0 10 rfl rfl)
theorem dX5_isKept_13 : decode cX5_isKept 13 = .ok (.iconst 1, 1) := dk_4 (dk_at dksX5_isKept_0 13 rfl rfl)
theorem dX5_isKept_14 : decode cX5_isKept 14 = .ok (.putfield 91, 3) := dk_181 0 91 (dk_at dksX5_isKept_0 14 rfl rfl)
theorem dX5_isKept_17 : decode cX5_isKept 17 = .ok (.aload_n 0, 1) := dk_42 (dk_at dksX5_isKept_0 17 rfl rfl)
theorem dX5_isKept_18 : decode cX5_isKept 18 = .ok (.getfield 91, 3) := dk_180 0 91 (dk_at dksX5_isKept_0 18 rfl rfl)
theorem dX5_isKept_21 : decode cX5_isKept 21 = .ok (.ifCond .ne 19, 3) := dk_154 0 19 (dk_at dksX5_isKept_0 21 rfl rfl)
theorem dX5_isKept_24 : decode cX5_isKept 24 = .ok (.aload_n 0, 1) := dk_42 (dk_at dksX5_isKept_1 0 rfl rfl)
theorem dX5_isKept_25 : decode cX5_isKept 25 = .ok (.bipush 66, 2) := dk_16 66 (dk_at dksX5_isKept_1 1 rfl rfl)
theorem dX5_isKept_27 : decode cX5_isKept 27 = .ok (.iload_n 1, 1) := dk_27 (dk_at dksX5_isKept_1 3 rfl rfl)
theorem dX5_isKept_28 : decode cX5_isKept 28 = .ok (.iadd, 1) := dk_96 (dk_at dksX5_isKept_1 4 rfl rfl)
theorem dX5_isKept_29 : decode cX5_isKept 29 = .ok (.invokevirtual 97, 3) := dk_182 0 97 (dk_at dksX5_isKept_1 5 rfl rfl)
theorem dX5_isKept_32 : decode cX5_isKept 32 = .ok (.iconst 1, 1) := dk_4 (dk_at dksX5_isKept_1 8 rfl rfl)
theorem dX5_isKept_33 : decode cX5_isKept 33 = .ok (.if_icmp .ne 7, 3) := dk_160 0 7 (dk_at dksX5_isKept_1 9 rfl rfl)
theorem dX5_isKept_36 : decode cX5_isKept 36 = .ok (.iconst 1, 1) := dk_4 (dk_at dksX5_isKept_1 12 rfl rfl)
theorem dX5_isKept_37 : decode cX5_isKept 37 = .ok (.goto 4, 3) := dk_167 0 4 (dk_at dksX5_isKept_1 13 rfl rfl)
theorem dX5_isKept_40 : decode cX5_isKept 40 = .ok (.iconst 0, 1) := dk_3 (dk_at dksX5_isKept_1 16 rfl rfl)
theorem dX5_isKept_41 : decode cX5_isKept 41 = .ok (.ireturn, 1) := dk_172 (dk_at dksX5_isKept_1 17 rfl rfl)
abbrev cX5_isFile : ByteArray := prog_17_method_9_code
def yX5_isFile : MethodName := ⟨RX5, "isFile", "(I)Z"⟩
def dkwX5_isFile_0 : List UInt8 := [27, 3, 42, 182, 0, 101, 4, 100, 184, 0, 105, 172]
abbrev dktX5_isFile_0 : List UInt8 := dkwX5_isFile_0 ++ []
theorem dksX5_isFile_0 : cX5_isFile.data.toList.drop 0 = dktX5_isFile_0 := by decide +kernel
theorem dX5_isFile_0 : decode cX5_isFile 0 = .ok (.iload_n 1, 1) := dk_27 (dk_at dksX5_isFile_0 0 rfl rfl)
theorem dX5_isFile_1 : decode cX5_isFile 1 = .ok (.iconst 0, 1) := dk_3 (dk_at dksX5_isFile_0 1 rfl rfl)
theorem dX5_isFile_2 : decode cX5_isFile 2 = .ok (.aload_n 0, 1) := dk_42 (dk_at dksX5_isFile_0 2 rfl rfl)
theorem dX5_isFile_3 : decode cX5_isFile 3 = .ok (.invokevirtual 101, 3) := dk_182 0 101 (dk_at dksX5_isFile_0 3 rfl rfl)
theorem dX5_isFile_6 : decode cX5_isFile 6 = .ok (.iconst 1, 1) := dk_4 (dk_at dksX5_isFile_0 6 rfl rfl)
theorem dX5_isFile_7 : decode cX5_isFile 7 = .ok (.isub, 1) := dk_100 (dk_at dksX5_isFile_0 7 rfl rfl)
theorem dX5_isFile_8 : decode cX5_isFile 8 = .ok (.invokestatic 105, 3) := dk_184 0 105 (dk_at dksX5_isFile_0 8 rfl rfl)
theorem dX5_isFile_11 : decode cX5_isFile 11 = .ok (.ireturn, 1) := dk_172 (dk_at dksX5_isFile_0 11 rfl rfl)
abbrev cX5_length : ByteArray := prog_17_method_59_code
def yX5_length : MethodName := ⟨RX5, "length", "(I)I"⟩
def dkwX5_length_1 : List UInt8 := [182, 0, 130, 172]
abbrev dktX5_length_1 : List UInt8 := dkwX5_length_1 ++ []
def dkwX5_length_0 : List UInt8 := [42, 3, 181, 0, 91, 42, 27, 182, 1, 32, 153, 0, 11, 42, 27, 182, 1, 35, 167, 0, 8, 42, 4]
abbrev dktX5_length_0 : List UInt8 := dkwX5_length_0 ++ dktX5_length_1
theorem dksX5_length_0 : cX5_length.data.toList.drop 0 = dktX5_length_0 := by decide +kernel
theorem dksX5_length_1 : cX5_length.data.toList.drop 23 = dktX5_length_1 := dk_seg dksX5_length_0 23 rfl rfl
theorem dX5_length_0 : decode cX5_length 0 = .ok (.aload_n 0, 1) := dk_42 (dk_at dksX5_length_0 0 rfl rfl)
theorem dX5_length_1 : decode cX5_length 1 = .ok (.iconst 0, 1) := dk_3 (dk_at dksX5_length_0 1 rfl rfl)
theorem dX5_length_2 : decode cX5_length 2 = .ok (.putfield 91, 3) := dk_181 0 91 (dk_at dksX5_length_0 2 rfl rfl)
theorem dX5_length_5 : decode cX5_length 5 = .ok (.aload_n 0, 1) := dk_42 (dk_at dksX5_length_0 5 rfl rfl)
theorem dX5_length_6 : decode cX5_length 6 = .ok (.iload_n 1, 1) := dk_27 (dk_at dksX5_length_0 6 rfl rfl)
theorem dX5_length_7 : decode cX5_length 7 = .ok (.invokevirtual 288, 3) := dk_182 1 32 (dk_at dksX5_length_0 7 rfl rfl)
theorem dX5_length_10 : decode cX5_length 10 = .ok (.ifCond .eq 11, 3) := dk_153 0 11 (dk_at dksX5_length_0 10 rfl rfl)
theorem dX5_length_13 : decode cX5_length 13 = .ok (.aload_n 0, 1) := dk_42 (dk_at dksX5_length_0 13 rfl rfl)
theorem dX5_length_14 : decode cX5_length 14 = .ok (.iload_n 1, 1) := dk_27 (dk_at dksX5_length_0 14 rfl rfl)
theorem dX5_length_15 : decode cX5_length 15 = .ok (.invokevirtual 291, 3) := dk_182 1 35 (dk_at dksX5_length_0 15 rfl rfl)
theorem dX5_length_18 : decode cX5_length 18 = .ok (.goto 8, 3) := dk_167 0 8 (dk_at dksX5_length_0 18 rfl rfl)
theorem dX5_length_21 : decode cX5_length 21 = .ok (.aload_n 0, 1) := dk_42 (dk_at dksX5_length_0 21 rfl rfl)
theorem dX5_length_22 : decode cX5_length 22 = .ok (.iconst 1, 1) := dk_4 (dk_at dksX5_length_0 22 rfl rfl)
theorem dX5_length_23 : decode cX5_length 23 = .ok (.invokevirtual 130, 3) := dk_182 0 130 (dk_at dksX5_length_1 0 rfl rfl)
theorem dX5_length_26 : decode cX5_length 26 = .ok (.ireturn, 1) := dk_172 (dk_at dksX5_length_1 3 rfl rfl)
abbrev cX5_nameLong : ByteArray := prog_17_method_18_code
def yX5_nameLong : MethodName := ⟨RX5, "nameLong", "(I)I"⟩
def dkwX5_nameLong_0 : List UInt8 := [42, 180, 0, 7, 42, 27, 182, 0, 118, 16, 24, 184, 0, 121, 172]
abbrev dktX5_nameLong_0 : List UInt8 := dkwX5_nameLong_0 ++ []
theorem dksX5_nameLong_0 : cX5_nameLong.data.toList.drop 0 = dktX5_nameLong_0 := by decide +kernel
theorem dX5_nameLong_0 : decode cX5_nameLong 0 = .ok (.aload_n 0, 1) := dk_42 (dk_at dksX5_nameLong_0 0 rfl rfl)
theorem dX5_nameLong_1 : decode cX5_nameLong 1 = .ok (.getfield 7, 3) := dk_180 0 7 (dk_at dksX5_nameLong_0 1 rfl rfl)
theorem dX5_nameLong_4 : decode cX5_nameLong 4 = .ok (.aload_n 0, 1) := dk_42 (dk_at dksX5_nameLong_0 4 rfl rfl)
theorem dX5_nameLong_5 : decode cX5_nameLong 5 = .ok (.iload_n 1, 1) := dk_27 (dk_at dksX5_nameLong_0 5 rfl rfl)
theorem dX5_nameLong_6 : decode cX5_nameLong 6 = .ok (.invokevirtual 118, 3) := dk_182 0 118 (dk_at dksX5_nameLong_0 6 rfl rfl)
theorem dX5_nameLong_9 : decode cX5_nameLong 9 = .ok (.bipush 24, 2) := dk_16 24 (dk_at dksX5_nameLong_0 9 rfl rfl)
theorem dX5_nameLong_11 : decode cX5_nameLong 11 = .ok (.invokestatic 121, 3) := dk_184 0 121 (dk_at dksX5_nameLong_0 11 rfl rfl)
theorem dX5_nameLong_14 : decode cX5_nameLong 14 = .ok (.ireturn, 1) := dk_172 (dk_at dksX5_nameLong_0 14 rfl rfl)
abbrev cX5_longIn : ByteArray := prog_17_method_12_code
def yX5_longIn : MethodName := ⟨RX5, "longIn", "([JII)I"⟩
def dkwX5_longIn_0 : List UInt8 := [3, 62, 29, 28, 162, 0, 18, 42, 27, 29, 184, 0, 114, 153, 0, 9, 132, 3, 1, 167, 255, 239, 29, 172]
abbrev dktX5_longIn_0 : List UInt8 := dkwX5_longIn_0 ++ []
theorem dksX5_longIn_0 : cX5_longIn.data.toList.drop 0 = dktX5_longIn_0 := by decide +kernel
theorem dX5_longIn_0 : decode cX5_longIn 0 = .ok (.iconst 0, 1) := dk_3 (dk_at dksX5_longIn_0 0 rfl rfl)
theorem dX5_longIn_1 : decode cX5_longIn 1 = .ok (.istore_n 3, 1) := dk_62 (dk_at dksX5_longIn_0 1 rfl rfl)
theorem dX5_longIn_2 : decode cX5_longIn 2 = .ok (.iload_n 3, 1) := dk_29 (dk_at dksX5_longIn_0 2 rfl rfl)
theorem dX5_longIn_3 : decode cX5_longIn 3 = .ok (.iload_n 2, 1) := dk_28 (dk_at dksX5_longIn_0 3 rfl rfl)
theorem dX5_longIn_4 : decode cX5_longIn 4 = .ok (.if_icmp .ge 18, 3) := dk_162 0 18 (dk_at dksX5_longIn_0 4 rfl rfl)
theorem dX5_longIn_7 : decode cX5_longIn 7 = .ok (.aload_n 0, 1) := dk_42 (dk_at dksX5_longIn_0 7 rfl rfl)
theorem dX5_longIn_8 : decode cX5_longIn 8 = .ok (.iload_n 1, 1) := dk_27 (dk_at dksX5_longIn_0 8 rfl rfl)
theorem dX5_longIn_9 : decode cX5_longIn 9 = .ok (.iload_n 3, 1) := dk_29 (dk_at dksX5_longIn_0 9 rfl rfl)
theorem dX5_longIn_10 : decode cX5_longIn 10 = .ok (.invokestatic 114, 3) := dk_184 0 114 (dk_at dksX5_longIn_0 10 rfl rfl)
theorem dX5_longIn_13 : decode cX5_longIn 13 = .ok (.ifCond .eq 9, 3) := dk_153 0 9 (dk_at dksX5_longIn_0 13 rfl rfl)
theorem dX5_longIn_16 : decode cX5_longIn 16 = .ok (.iinc 3 1, 3) := dk_132 3 1 (dk_at dksX5_longIn_0 16 rfl rfl)
theorem dX5_longIn_19 : decode cX5_longIn 19 = .ok (.goto (-17), 3) := dk_167 255 239 (dk_at dksX5_longIn_0 19 rfl rfl)
theorem dX5_longIn_22 : decode cX5_longIn 22 = .ok (.iload_n 3, 1) := dk_29 (dk_at dksX5_longIn_0 22 rfl rfl)
theorem dX5_longIn_23 : decode cX5_longIn 23 = .ok (.ireturn, 1) := dk_172 (dk_at dksX5_longIn_0 23 rfl rfl)
abbrev cX5_signIn : ByteArray := prog_17_method_11_code
def yX5_signIn : MethodName := ⟨RX5, "signIn", "([JII)I"⟩
def dkwX5_signIn_1 : List UInt8 := [16, 8, 112, 104, 100, 123, 20, 0, 112, 127, 136, 172]
abbrev dktX5_signIn_1 : List UInt8 := dkwX5_signIn_1 ++ []
def dkwX5_signIn_0 : List UInt8 := [28, 16, 24, 161, 0, 7, 3, 167, 0, 27, 42, 27, 28, 16, 8, 108, 96, 47, 16, 56, 16, 8, 28]
abbrev dktX5_signIn_0 : List UInt8 := dkwX5_signIn_0 ++ dktX5_signIn_1
theorem dksX5_signIn_0 : cX5_signIn.data.toList.drop 0 = dktX5_signIn_0 := by decide +kernel
theorem dksX5_signIn_1 : cX5_signIn.data.toList.drop 23 = dktX5_signIn_1 := dk_seg dksX5_signIn_0 23 rfl rfl
theorem dX5_signIn_0 : decode cX5_signIn 0 = .ok (.iload_n 2, 1) := dk_28 (dk_at dksX5_signIn_0 0 rfl rfl)
theorem dX5_signIn_1 : decode cX5_signIn 1 = .ok (.bipush 24, 2) := dk_16 24 (dk_at dksX5_signIn_0 1 rfl rfl)
theorem dX5_signIn_3 : decode cX5_signIn 3 = .ok (.if_icmp .lt 7, 3) := dk_161 0 7 (dk_at dksX5_signIn_0 3 rfl rfl)
theorem dX5_signIn_6 : decode cX5_signIn 6 = .ok (.iconst 0, 1) := dk_3 (dk_at dksX5_signIn_0 6 rfl rfl)
theorem dX5_signIn_7 : decode cX5_signIn 7 = .ok (.goto 27, 3) := dk_167 0 27 (dk_at dksX5_signIn_0 7 rfl rfl)
theorem dX5_signIn_10 : decode cX5_signIn 10 = .ok (.aload_n 0, 1) := dk_42 (dk_at dksX5_signIn_0 10 rfl rfl)
theorem dX5_signIn_11 : decode cX5_signIn 11 = .ok (.iload_n 1, 1) := dk_27 (dk_at dksX5_signIn_0 11 rfl rfl)
theorem dX5_signIn_12 : decode cX5_signIn 12 = .ok (.iload_n 2, 1) := dk_28 (dk_at dksX5_signIn_0 12 rfl rfl)
theorem dX5_signIn_13 : decode cX5_signIn 13 = .ok (.bipush 8, 2) := dk_16 8 (dk_at dksX5_signIn_0 13 rfl rfl)
theorem dX5_signIn_15 : decode cX5_signIn 15 = .ok (.idiv, 1) := dk_108 (dk_at dksX5_signIn_0 15 rfl rfl)
theorem dX5_signIn_16 : decode cX5_signIn 16 = .ok (.iadd, 1) := dk_96 (dk_at dksX5_signIn_0 16 rfl rfl)
theorem dX5_signIn_17 : decode cX5_signIn 17 = .ok (.laload, 1) := dk_47 (dk_at dksX5_signIn_0 17 rfl rfl)
theorem dX5_signIn_18 : decode cX5_signIn 18 = .ok (.bipush 56, 2) := dk_16 56 (dk_at dksX5_signIn_0 18 rfl rfl)
theorem dX5_signIn_20 : decode cX5_signIn 20 = .ok (.bipush 8, 2) := dk_16 8 (dk_at dksX5_signIn_0 20 rfl rfl)
theorem dX5_signIn_22 : decode cX5_signIn 22 = .ok (.iload_n 2, 1) := dk_28 (dk_at dksX5_signIn_0 22 rfl rfl)
theorem dX5_signIn_23 : decode cX5_signIn 23 = .ok (.bipush 8, 2) := dk_16 8 (dk_at dksX5_signIn_1 0 rfl rfl)
theorem dX5_signIn_25 : decode cX5_signIn 25 = .ok (.irem, 1) := dk_112 (dk_at dksX5_signIn_1 2 rfl rfl)
theorem dX5_signIn_26 : decode cX5_signIn 26 = .ok (.imul, 1) := dk_104 (dk_at dksX5_signIn_1 3 rfl rfl)
theorem dX5_signIn_27 : decode cX5_signIn 27 = .ok (.isub, 1) := dk_100 (dk_at dksX5_signIn_1 4 rfl rfl)
theorem dX5_signIn_28 : decode cX5_signIn 28 = .ok (.lshr, 1) := dk_123 (dk_at dksX5_signIn_1 5 rfl rfl)
theorem dX5_signIn_29 : decode cX5_signIn 29 = .ok (.ldc2_w 112, 3) := dk_20 0 112 (dk_at dksX5_signIn_1 6 rfl rfl)
theorem dX5_signIn_32 : decode cX5_signIn 32 = .ok (.land, 1) := dk_127 (dk_at dksX5_signIn_1 9 rfl rfl)
theorem dX5_signIn_33 : decode cX5_signIn 33 = .ok (.l2i, 1) := dk_136 (dk_at dksX5_signIn_1 10 rfl rfl)
theorem dX5_signIn_34 : decode cX5_signIn 34 = .ok (.ireturn, 1) := dk_172 (dk_at dksX5_signIn_1 11 rfl rfl)
abbrev cX5_rank : ByteArray := prog_17_method_60_code
def yX5_rank : MethodName := ⟨RX5, "rank", "(I)I"⟩
def dkwX5_rank_2 : List UInt8 := [182, 0, 118, 184, 0, 232, 156, 0, 6, 132, 2, 1, 132, 3, 1, 167, 255, 218, 28, 172]
abbrev dktX5_rank_2 : List UInt8 := dkwX5_rank_2 ++ []
def dkwX5_rank_1 : List UInt8 := [42, 182, 0, 101, 162, 0, 36, 42, 180, 0, 7, 42, 29, 182, 0, 118, 42, 180, 0, 7, 42, 27]
abbrev dktX5_rank_1 : List UInt8 := dkwX5_rank_1 ++ dktX5_rank_2
def dkwX5_rank_0 : List UInt8 := [42, 3, 181, 0, 91, 42, 27, 182, 1, 32, 154, 0, 9, 42, 4, 182, 0, 130, 172, 3, 61, 3, 62, 29]
abbrev dktX5_rank_0 : List UInt8 := dkwX5_rank_0 ++ dktX5_rank_1
theorem dksX5_rank_0 : cX5_rank.data.toList.drop 0 = dktX5_rank_0 := by decide +kernel
theorem dksX5_rank_1 : cX5_rank.data.toList.drop 24 = dktX5_rank_1 := dk_seg dksX5_rank_0 24 rfl rfl
theorem dksX5_rank_2 : cX5_rank.data.toList.drop 46 = dktX5_rank_2 := dk_seg dksX5_rank_1 22 rfl rfl
theorem dX5_rank_0 : decode cX5_rank 0 = .ok (.aload_n 0, 1) := dk_42 (dk_at dksX5_rank_0 0 rfl rfl)
theorem dX5_rank_1 : decode cX5_rank 1 = .ok (.iconst 0, 1) := dk_3 (dk_at dksX5_rank_0 1 rfl rfl)
theorem dX5_rank_2 : decode cX5_rank 2 = .ok (.putfield 91, 3) := dk_181 0 91 (dk_at dksX5_rank_0 2 rfl rfl)
theorem dX5_rank_5 : decode cX5_rank 5 = .ok (.aload_n 0, 1) := dk_42 (dk_at dksX5_rank_0 5 rfl rfl)
theorem dX5_rank_6 : decode cX5_rank 6 = .ok (.iload_n 1, 1) := dk_27 (dk_at dksX5_rank_0 6 rfl rfl)
theorem dX5_rank_7 : decode cX5_rank 7 = .ok (.invokevirtual 288, 3) := dk_182 1 32 (dk_at dksX5_rank_0 7 rfl rfl)
theorem dX5_rank_10 : decode cX5_rank 10 = .ok (.ifCond .ne 9, 3) := dk_154 0 9 (dk_at dksX5_rank_0 10 rfl rfl)
theorem dX5_rank_13 : decode cX5_rank 13 = .ok (.aload_n 0, 1) := dk_42 (dk_at dksX5_rank_0 13 rfl rfl)
theorem dX5_rank_14 : decode cX5_rank 14 = .ok (.iconst 1, 1) := dk_4 (dk_at dksX5_rank_0 14 rfl rfl)
theorem dX5_rank_15 : decode cX5_rank 15 = .ok (.invokevirtual 130, 3) := dk_182 0 130 (dk_at dksX5_rank_0 15 rfl rfl)
theorem dX5_rank_18 : decode cX5_rank 18 = .ok (.ireturn, 1) := dk_172 (dk_at dksX5_rank_0 18 rfl rfl)
theorem dX5_rank_19 : decode cX5_rank 19 = .ok (.iconst 0, 1) := dk_3 (dk_at dksX5_rank_0 19 rfl rfl)
theorem dX5_rank_20 : decode cX5_rank 20 = .ok (.istore_n 2, 1) := dk_61 (dk_at dksX5_rank_0 20 rfl rfl)
theorem dX5_rank_21 : decode cX5_rank 21 = .ok (.iconst 0, 1) := dk_3 (dk_at dksX5_rank_0 21 rfl rfl)
theorem dX5_rank_22 : decode cX5_rank 22 = .ok (.istore_n 3, 1) := dk_62 (dk_at dksX5_rank_0 22 rfl rfl)
theorem dX5_rank_23 : decode cX5_rank 23 = .ok (.iload_n 3, 1) := dk_29 (dk_at dksX5_rank_0 23 rfl rfl)
theorem dX5_rank_24 : decode cX5_rank 24 = .ok (.aload_n 0, 1) := dk_42 (dk_at dksX5_rank_1 0 rfl rfl)
theorem dX5_rank_25 : decode cX5_rank 25 = .ok (.invokevirtual 101, 3) := dk_182 0 101 (dk_at dksX5_rank_1 1 rfl rfl)
theorem dX5_rank_28 : decode cX5_rank 28 = .ok (.if_icmp .ge 36, 3) := dk_162 0 36 (dk_at dksX5_rank_1 4 rfl rfl)
theorem dX5_rank_31 : decode cX5_rank 31 = .ok (.aload_n 0, 1) := dk_42 (dk_at dksX5_rank_1 7 rfl rfl)
theorem dX5_rank_32 : decode cX5_rank 32 = .ok (.getfield 7, 3) := dk_180 0 7 (dk_at dksX5_rank_1 8 rfl rfl)
theorem dX5_rank_35 : decode cX5_rank 35 = .ok (.aload_n 0, 1) := dk_42 (dk_at dksX5_rank_1 11 rfl rfl)
theorem dX5_rank_36 : decode cX5_rank 36 = .ok (.iload_n 3, 1) := dk_29 (dk_at dksX5_rank_1 12 rfl rfl)
theorem dX5_rank_37 : decode cX5_rank 37 = .ok (.invokevirtual 118, 3) := dk_182 0 118 (dk_at dksX5_rank_1 13 rfl rfl)
theorem dX5_rank_40 : decode cX5_rank 40 = .ok (.aload_n 0, 1) := dk_42 (dk_at dksX5_rank_1 16 rfl rfl)
theorem dX5_rank_41 : decode cX5_rank 41 = .ok (.getfield 7, 3) := dk_180 0 7 (dk_at dksX5_rank_1 17 rfl rfl)
theorem dX5_rank_44 : decode cX5_rank 44 = .ok (.aload_n 0, 1) := dk_42 (dk_at dksX5_rank_1 20 rfl rfl)
theorem dX5_rank_45 : decode cX5_rank 45 = .ok (.iload_n 1, 1) := dk_27 (dk_at dksX5_rank_1 21 rfl rfl)
theorem dX5_rank_46 : decode cX5_rank 46 = .ok (.invokevirtual 118, 3) := dk_182 0 118 (dk_at dksX5_rank_2 0 rfl rfl)
theorem dX5_rank_49 : decode cX5_rank 49 = .ok (.invokestatic 232, 3) := dk_184 0 232 (dk_at dksX5_rank_2 3 rfl rfl)
theorem dX5_rank_52 : decode cX5_rank 52 = .ok (.ifCond .ge 6, 3) := dk_156 0 6 (dk_at dksX5_rank_2 6 rfl rfl)
theorem dX5_rank_55 : decode cX5_rank 55 = .ok (.iinc 2 1, 3) := dk_132 2 1 (dk_at dksX5_rank_2 9 rfl rfl)
theorem dX5_rank_58 : decode cX5_rank 58 = .ok (.iinc 3 1, 3) := dk_132 3 1 (dk_at dksX5_rank_2 12 rfl rfl)
theorem dX5_rank_61 : decode cX5_rank 61 = .ok (.goto (-38), 3) := dk_167 255 218 (dk_at dksX5_rank_2 15 rfl rfl)
theorem dX5_rank_64 : decode cX5_rank 64 = .ok (.iload_n 2, 1) := dk_28 (dk_at dksX5_rank_2 18 rfl rfl)
theorem dX5_rank_65 : decode cX5_rank 65 = .ok (.ireturn, 1) := dk_172 (dk_at dksX5_rank_2 19 rfl rfl)
abbrev cX5_counting : ByteArray := prog_17_method_61_code
def yX5_counting : MethodName := ⟨RX5, "counting", "(I)I"⟩
def dkwX5_counting_1 : List UInt8 := [42, 4, 182, 0, 130, 172]
abbrev dktX5_counting_1 : List UInt8 := dkwX5_counting_1 ++ []
def dkwX5_counting_0 : List UInt8 := [42, 3, 181, 0, 91, 27, 3, 5, 184, 0, 105, 153, 0, 13, 42, 5, 27, 96, 182, 0, 97, 167, 0, 8]
abbrev dktX5_counting_0 : List UInt8 := dkwX5_counting_0 ++ dktX5_counting_1
theorem dksX5_counting_0 : cX5_counting.data.toList.drop 0 = dktX5_counting_0 := by decide +kernel
theorem dksX5_counting_1 : cX5_counting.data.toList.drop 24 = dktX5_counting_1 := dk_seg dksX5_counting_0 24 rfl rfl
theorem dX5_counting_0 : decode cX5_counting 0 = .ok (.aload_n 0, 1) := dk_42 (dk_at dksX5_counting_0 0 rfl rfl)
theorem dX5_counting_1 : decode cX5_counting 1 = .ok (.iconst 0, 1) := dk_3 (dk_at dksX5_counting_0 1 rfl rfl)
theorem dX5_counting_2 : decode cX5_counting 2 = .ok (.putfield 91, 3) := dk_181 0 91 (dk_at dksX5_counting_0 2 rfl rfl)
theorem dX5_counting_5 : decode cX5_counting 5 = .ok (.iload_n 1, 1) := dk_27 (dk_at dksX5_counting_0 5 rfl rfl)
theorem dX5_counting_6 : decode cX5_counting 6 = .ok (.iconst 0, 1) := dk_3 (dk_at dksX5_counting_0 6 rfl rfl)
theorem dX5_counting_7 : decode cX5_counting 7 = .ok (.iconst 2, 1) := dk_5 (dk_at dksX5_counting_0 7 rfl rfl)
theorem dX5_counting_8 : decode cX5_counting 8 = .ok (.invokestatic 105, 3) := dk_184 0 105 (dk_at dksX5_counting_0 8 rfl rfl)
theorem dX5_counting_11 : decode cX5_counting 11 = .ok (.ifCond .eq 13, 3) := dk_153 0 13 (dk_at dksX5_counting_0 11 rfl rfl)
theorem dX5_counting_14 : decode cX5_counting 14 = .ok (.aload_n 0, 1) := dk_42 (dk_at dksX5_counting_0 14 rfl rfl)
theorem dX5_counting_15 : decode cX5_counting 15 = .ok (.iconst 2, 1) := dk_5 (dk_at dksX5_counting_0 15 rfl rfl)
theorem dX5_counting_16 : decode cX5_counting 16 = .ok (.iload_n 1, 1) := dk_27 (dk_at dksX5_counting_0 16 rfl rfl)
theorem dX5_counting_17 : decode cX5_counting 17 = .ok (.iadd, 1) := dk_96 (dk_at dksX5_counting_0 17 rfl rfl)
theorem dX5_counting_18 : decode cX5_counting 18 = .ok (.invokevirtual 97, 3) := dk_182 0 97 (dk_at dksX5_counting_0 18 rfl rfl)
theorem dX5_counting_21 : decode cX5_counting 21 = .ok (.goto 8, 3) := dk_167 0 8 (dk_at dksX5_counting_0 21 rfl rfl)
theorem dX5_counting_24 : decode cX5_counting 24 = .ok (.aload_n 0, 1) := dk_42 (dk_at dksX5_counting_1 0 rfl rfl)
theorem dX5_counting_25 : decode cX5_counting 25 = .ok (.iconst 1, 1) := dk_4 (dk_at dksX5_counting_1 1 rfl rfl)
theorem dX5_counting_26 : decode cX5_counting 26 = .ok (.invokevirtual 130, 3) := dk_182 0 130 (dk_at dksX5_counting_1 2 rfl rfl)
theorem dX5_counting_29 : decode cX5_counting 29 = .ok (.ireturn, 1) := dk_172 (dk_at dksX5_counting_1 5 rfl rfl)
abbrev cX5_wildcards : ByteArray := prog_17_method_63_code
def yX5_wildcards : MethodName := ⟨RX5, "wildcards", "(I)I"⟩
def dkwX5_wildcards_1 : List UInt8 := [182, 0, 130, 172]
abbrev dktX5_wildcards_1 : List UInt8 := dkwX5_wildcards_1 ++ []
def dkwX5_wildcards_0 : List UInt8 := [42, 3, 181, 0, 91, 42, 27, 182, 1, 41, 153, 0, 11, 42, 27, 182, 1, 44, 167, 0, 8, 42, 4]
abbrev dktX5_wildcards_0 : List UInt8 := dkwX5_wildcards_0 ++ dktX5_wildcards_1
theorem dksX5_wildcards_0 : cX5_wildcards.data.toList.drop 0 = dktX5_wildcards_0 := by decide +kernel
theorem dksX5_wildcards_1 : cX5_wildcards.data.toList.drop 23 = dktX5_wildcards_1 := dk_seg dksX5_wildcards_0 23 rfl rfl
theorem dX5_wildcards_0 : decode cX5_wildcards 0 = .ok (.aload_n 0, 1) := dk_42 (dk_at dksX5_wildcards_0 0 rfl rfl)
theorem dX5_wildcards_1 : decode cX5_wildcards 1 = .ok (.iconst 0, 1) := dk_3 (dk_at dksX5_wildcards_0 1 rfl rfl)
theorem dX5_wildcards_2 : decode cX5_wildcards 2 = .ok (.putfield 91, 3) := dk_181 0 91 (dk_at dksX5_wildcards_0 2 rfl rfl)
theorem dX5_wildcards_5 : decode cX5_wildcards 5 = .ok (.aload_n 0, 1) := dk_42 (dk_at dksX5_wildcards_0 5 rfl rfl)
theorem dX5_wildcards_6 : decode cX5_wildcards 6 = .ok (.iload_n 1, 1) := dk_27 (dk_at dksX5_wildcards_0 6 rfl rfl)
theorem dX5_wildcards_7 : decode cX5_wildcards 7 = .ok (.invokevirtual 297, 3) := dk_182 1 41 (dk_at dksX5_wildcards_0 7 rfl rfl)
theorem dX5_wildcards_10 : decode cX5_wildcards 10 = .ok (.ifCond .eq 11, 3) := dk_153 0 11 (dk_at dksX5_wildcards_0 10 rfl rfl)
theorem dX5_wildcards_13 : decode cX5_wildcards 13 = .ok (.aload_n 0, 1) := dk_42 (dk_at dksX5_wildcards_0 13 rfl rfl)
theorem dX5_wildcards_14 : decode cX5_wildcards 14 = .ok (.iload_n 1, 1) := dk_27 (dk_at dksX5_wildcards_0 14 rfl rfl)
theorem dX5_wildcards_15 : decode cX5_wildcards 15 = .ok (.invokevirtual 300, 3) := dk_182 1 44 (dk_at dksX5_wildcards_0 15 rfl rfl)
theorem dX5_wildcards_18 : decode cX5_wildcards 18 = .ok (.goto 8, 3) := dk_167 0 8 (dk_at dksX5_wildcards_0 18 rfl rfl)
theorem dX5_wildcards_21 : decode cX5_wildcards 21 = .ok (.aload_n 0, 1) := dk_42 (dk_at dksX5_wildcards_0 21 rfl rfl)
theorem dX5_wildcards_22 : decode cX5_wildcards 22 = .ok (.iconst 1, 1) := dk_4 (dk_at dksX5_wildcards_0 22 rfl rfl)
theorem dX5_wildcards_23 : decode cX5_wildcards 23 = .ok (.invokevirtual 130, 3) := dk_182 0 130 (dk_at dksX5_wildcards_1 0 rfl rfl)
theorem dX5_wildcards_26 : decode cX5_wildcards 26 = .ok (.ireturn, 1) := dk_172 (dk_at dksX5_wildcards_1 3 rfl rfl)
abbrev cX5_isRule : ByteArray := prog_17_method_10_code
def yX5_isRule : MethodName := ⟨RX5, "isRule", "(I)Z"⟩
def dkwX5_isRule_0 : List UInt8 := [27, 3, 42, 182, 0, 109, 4, 100, 184, 0, 105, 172]
abbrev dktX5_isRule_0 : List UInt8 := dkwX5_isRule_0 ++ []
theorem dksX5_isRule_0 : cX5_isRule.data.toList.drop 0 = dktX5_isRule_0 := by decide +kernel
theorem dX5_isRule_0 : decode cX5_isRule 0 = .ok (.iload_n 1, 1) := dk_27 (dk_at dksX5_isRule_0 0 rfl rfl)
theorem dX5_isRule_1 : decode cX5_isRule 1 = .ok (.iconst 0, 1) := dk_3 (dk_at dksX5_isRule_0 1 rfl rfl)
theorem dX5_isRule_2 : decode cX5_isRule 2 = .ok (.aload_n 0, 1) := dk_42 (dk_at dksX5_isRule_0 2 rfl rfl)
theorem dX5_isRule_3 : decode cX5_isRule 3 = .ok (.invokevirtual 109, 3) := dk_182 0 109 (dk_at dksX5_isRule_0 3 rfl rfl)
theorem dX5_isRule_6 : decode cX5_isRule 6 = .ok (.iconst 1, 1) := dk_4 (dk_at dksX5_isRule_0 6 rfl rfl)
theorem dX5_isRule_7 : decode cX5_isRule 7 = .ok (.isub, 1) := dk_100 (dk_at dksX5_isRule_0 7 rfl rfl)
theorem dX5_isRule_8 : decode cX5_isRule 8 = .ok (.invokestatic 105, 3) := dk_184 0 105 (dk_at dksX5_isRule_0 8 rfl rfl)
theorem dX5_isRule_11 : decode cX5_isRule 11 = .ok (.ireturn, 1) := dk_172 (dk_at dksX5_isRule_0 11 rfl rfl)
abbrev cX5_wildcardsOf : ByteArray := prog_17_method_62_code
def yX5_wildcardsOf : MethodName := ⟨RX5, "wildcardsOf", "(I)I"⟩
def dkwX5_wildcardsOf_1 : List UInt8 := [153, 0, 6, 132, 2, 1, 132, 3, 1, 167, 255, 229, 28, 172]
abbrev dktX5_wildcardsOf_1 : List UInt8 := dkwX5_wildcardsOf_1 ++ []
def dkwX5_wildcardsOf_0 : List UInt8 := [3, 61, 3, 62, 42, 27, 29, 182, 1, 38, 153, 0, 24, 42, 27, 29, 182, 1, 38, 184, 0, 196]
abbrev dktX5_wildcardsOf_0 : List UInt8 := dkwX5_wildcardsOf_0 ++ dktX5_wildcardsOf_1
theorem dksX5_wildcardsOf_0 : cX5_wildcardsOf.data.toList.drop 0 = dktX5_wildcardsOf_0 := by decide +kernel
theorem dksX5_wildcardsOf_1 : cX5_wildcardsOf.data.toList.drop 22 = dktX5_wildcardsOf_1 := dk_seg dksX5_wildcardsOf_0 22 rfl rfl
theorem dX5_wildcardsOf_0 : decode cX5_wildcardsOf 0 = .ok (.iconst 0, 1) := dk_3 (dk_at dksX5_wildcardsOf_0 0 rfl rfl)
theorem dX5_wildcardsOf_1 : decode cX5_wildcardsOf 1 = .ok (.istore_n 2, 1) := dk_61 (dk_at dksX5_wildcardsOf_0 1 rfl rfl)
theorem dX5_wildcardsOf_2 : decode cX5_wildcardsOf 2 = .ok (.iconst 0, 1) := dk_3 (dk_at dksX5_wildcardsOf_0 2 rfl rfl)
theorem dX5_wildcardsOf_3 : decode cX5_wildcardsOf 3 = .ok (.istore_n 3, 1) := dk_62 (dk_at dksX5_wildcardsOf_0 3 rfl rfl)
theorem dX5_wildcardsOf_4 : decode cX5_wildcardsOf 4 = .ok (.aload_n 0, 1) := dk_42 (dk_at dksX5_wildcardsOf_0 4 rfl rfl)
theorem dX5_wildcardsOf_5 : decode cX5_wildcardsOf 5 = .ok (.iload_n 1, 1) := dk_27 (dk_at dksX5_wildcardsOf_0 5 rfl rfl)
theorem dX5_wildcardsOf_6 : decode cX5_wildcardsOf 6 = .ok (.iload_n 3, 1) := dk_29 (dk_at dksX5_wildcardsOf_0 6 rfl rfl)
theorem dX5_wildcardsOf_7 : decode cX5_wildcardsOf 7 = .ok (.invokevirtual 294, 3) := dk_182 1 38 (dk_at dksX5_wildcardsOf_0 7 rfl rfl)
theorem dX5_wildcardsOf_10 : decode cX5_wildcardsOf 10 = .ok (.ifCond .eq 24, 3) := dk_153 0 24 (dk_at dksX5_wildcardsOf_0 10 rfl rfl)
theorem dX5_wildcardsOf_13 : decode cX5_wildcardsOf 13 = .ok (.aload_n 0, 1) := dk_42 (dk_at dksX5_wildcardsOf_0 13 rfl rfl)
theorem dX5_wildcardsOf_14 : decode cX5_wildcardsOf 14 = .ok (.iload_n 1, 1) := dk_27 (dk_at dksX5_wildcardsOf_0 14 rfl rfl)
theorem dX5_wildcardsOf_15 : decode cX5_wildcardsOf 15 = .ok (.iload_n 3, 1) := dk_29 (dk_at dksX5_wildcardsOf_0 15 rfl rfl)
theorem dX5_wildcardsOf_16 : decode cX5_wildcardsOf 16 = .ok (.invokevirtual 294, 3) := dk_182 1 38 (dk_at dksX5_wildcardsOf_0 16 rfl rfl)
theorem dX5_wildcardsOf_19 : decode cX5_wildcardsOf 19 = .ok (.invokestatic 196, 3) := dk_184 0 196 (dk_at dksX5_wildcardsOf_0 19 rfl rfl)
theorem dX5_wildcardsOf_22 : decode cX5_wildcardsOf 22 = .ok (.ifCond .eq 6, 3) := dk_153 0 6 (dk_at dksX5_wildcardsOf_1 0 rfl rfl)
theorem dX5_wildcardsOf_25 : decode cX5_wildcardsOf 25 = .ok (.iinc 2 1, 3) := dk_132 2 1 (dk_at dksX5_wildcardsOf_1 3 rfl rfl)
theorem dX5_wildcardsOf_28 : decode cX5_wildcardsOf 28 = .ok (.iinc 3 1, 3) := dk_132 3 1 (dk_at dksX5_wildcardsOf_1 6 rfl rfl)
theorem dX5_wildcardsOf_31 : decode cX5_wildcardsOf 31 = .ok (.goto (-27), 3) := dk_167 255 229 (dk_at dksX5_wildcardsOf_1 9 rfl rfl)
theorem dX5_wildcardsOf_34 : decode cX5_wildcardsOf 34 = .ok (.iload_n 2, 1) := dk_28 (dk_at dksX5_wildcardsOf_1 12 rfl rfl)
theorem dX5_wildcardsOf_35 : decode cX5_wildcardsOf 35 = .ok (.ireturn, 1) := dk_172 (dk_at dksX5_wildcardsOf_1 13 rfl rfl)
abbrev cX5_patternSign : ByteArray := prog_17_method_20_code
def yX5_patternSign : MethodName := ⟨RX5, "patternSign", "(II)I"⟩
def dkwX5_patternSign_0 : List UInt8 := [28, 16, 12, 161, 0, 7, 3, 167, 0, 16, 42, 180, 0, 7, 42, 27, 182, 0, 124, 28, 184, 0, 114, 172]
abbrev dktX5_patternSign_0 : List UInt8 := dkwX5_patternSign_0 ++ []
theorem dksX5_patternSign_0 : cX5_patternSign.data.toList.drop 0 = dktX5_patternSign_0 := by decide +kernel
theorem dX5_patternSign_0 : decode cX5_patternSign 0 = .ok (.iload_n 2, 1) := dk_28 (dk_at dksX5_patternSign_0 0 rfl rfl)
theorem dX5_patternSign_1 : decode cX5_patternSign 1 = .ok (.bipush 12, 2) := dk_16 12 (dk_at dksX5_patternSign_0 1 rfl rfl)
theorem dX5_patternSign_3 : decode cX5_patternSign 3 = .ok (.if_icmp .lt 7, 3) := dk_161 0 7 (dk_at dksX5_patternSign_0 3 rfl rfl)
theorem dX5_patternSign_6 : decode cX5_patternSign 6 = .ok (.iconst 0, 1) := dk_3 (dk_at dksX5_patternSign_0 6 rfl rfl)
theorem dX5_patternSign_7 : decode cX5_patternSign 7 = .ok (.goto 16, 3) := dk_167 0 16 (dk_at dksX5_patternSign_0 7 rfl rfl)
theorem dX5_patternSign_10 : decode cX5_patternSign 10 = .ok (.aload_n 0, 1) := dk_42 (dk_at dksX5_patternSign_0 10 rfl rfl)
theorem dX5_patternSign_11 : decode cX5_patternSign 11 = .ok (.getfield 7, 3) := dk_180 0 7 (dk_at dksX5_patternSign_0 11 rfl rfl)
theorem dX5_patternSign_14 : decode cX5_patternSign 14 = .ok (.aload_n 0, 1) := dk_42 (dk_at dksX5_patternSign_0 14 rfl rfl)
theorem dX5_patternSign_15 : decode cX5_patternSign 15 = .ok (.iload_n 1, 1) := dk_27 (dk_at dksX5_patternSign_0 15 rfl rfl)
theorem dX5_patternSign_16 : decode cX5_patternSign 16 = .ok (.invokevirtual 124, 3) := dk_182 0 124 (dk_at dksX5_patternSign_0 16 rfl rfl)
theorem dX5_patternSign_19 : decode cX5_patternSign 19 = .ok (.iload_n 2, 1) := dk_28 (dk_at dksX5_patternSign_0 19 rfl rfl)
theorem dX5_patternSign_20 : decode cX5_patternSign 20 = .ok (.invokestatic 114, 3) := dk_184 0 114 (dk_at dksX5_patternSign_0 20 rfl rfl)
theorem dX5_patternSign_23 : decode cX5_patternSign 23 = .ok (.ireturn, 1) := dk_172 (dk_at dksX5_patternSign_0 23 rfl rfl)
abbrev cX5_matches : ByteArray := prog_17_method_67_code
def yX5_matches : MethodName := ⟨RX5, "matches", "(II)Z"⟩
def dkwX5_matches_2 : List UInt8 := [172]
abbrev dktX5_matches_2 : List UInt8 := dkwX5_matches_2 ++ []
def dkwX5_matches_1 : List UInt8 := [181, 0, 91, 42, 180, 0, 91, 154, 0, 16, 42, 27, 28, 182, 1, 54, 153, 0, 7, 4, 167, 0, 4, 3]
abbrev dktX5_matches_1 : List UInt8 := dkwX5_matches_1 ++ dktX5_matches_2
def dkwX5_matches_0 : List UInt8 := [42, 42, 27, 182, 1, 41, 153, 0, 15, 42, 28, 182, 1, 32, 153, 0, 7, 3, 167, 0, 4, 4]
abbrev dktX5_matches_0 : List UInt8 := dkwX5_matches_0 ++ dktX5_matches_1
theorem dksX5_matches_0 : cX5_matches.data.toList.drop 0 = dktX5_matches_0 := by decide +kernel
theorem dksX5_matches_1 : cX5_matches.data.toList.drop 22 = dktX5_matches_1 := dk_seg dksX5_matches_0 22 rfl rfl
theorem dksX5_matches_2 : cX5_matches.data.toList.drop 46 = dktX5_matches_2 := dk_seg dksX5_matches_1 24 rfl rfl
theorem dX5_matches_0 : decode cX5_matches 0 = .ok (.aload_n 0, 1) := dk_42 (dk_at dksX5_matches_0 0 rfl rfl)
theorem dX5_matches_1 : decode cX5_matches 1 = .ok (.aload_n 0, 1) := dk_42 (dk_at dksX5_matches_0 1 rfl rfl)
theorem dX5_matches_2 : decode cX5_matches 2 = .ok (.iload_n 1, 1) := dk_27 (dk_at dksX5_matches_0 2 rfl rfl)
theorem dX5_matches_3 : decode cX5_matches 3 = .ok (.invokevirtual 297, 3) := dk_182 1 41 (dk_at dksX5_matches_0 3 rfl rfl)
theorem dX5_matches_6 : decode cX5_matches 6 = .ok (.ifCond .eq 15, 3) := dk_153 0 15 (dk_at dksX5_matches_0 6 rfl rfl)
theorem dX5_matches_9 : decode cX5_matches 9 = .ok (.aload_n 0, 1) := dk_42 (dk_at dksX5_matches_0 9 rfl rfl)
theorem dX5_matches_10 : decode cX5_matches 10 = .ok (.iload_n 2, 1) := dk_28 (dk_at dksX5_matches_0 10 rfl rfl)
theorem dX5_matches_11 : decode cX5_matches 11 = .ok (.invokevirtual 288, 3) := dk_182 1 32 (dk_at dksX5_matches_0 11 rfl rfl)
theorem dX5_matches_14 : decode cX5_matches 14 = .ok (.ifCond .eq 7, 3) := dk_153 0 7 (dk_at dksX5_matches_0 14 rfl rfl)
theorem dX5_matches_17 : decode cX5_matches 17 = .ok (.iconst 0, 1) := dk_3 (dk_at dksX5_matches_0 17 rfl rfl)
theorem dX5_matches_18 : decode cX5_matches 18 = .ok (.goto 4, 3) := dk_167 0 4 (dk_at dksX5_matches_0 18 rfl rfl)
theorem dX5_matches_21 : decode cX5_matches 21 = .ok (.iconst 1, 1) := dk_4 (dk_at dksX5_matches_0 21 rfl rfl)
theorem dX5_matches_22 : decode cX5_matches 22 = .ok (.putfield 91, 3) := dk_181 0 91 (dk_at dksX5_matches_1 0 rfl rfl)
theorem dX5_matches_25 : decode cX5_matches 25 = .ok (.aload_n 0, 1) := dk_42 (dk_at dksX5_matches_1 3 rfl rfl)
theorem dX5_matches_26 : decode cX5_matches 26 = .ok (.getfield 91, 3) := dk_180 0 91 (dk_at dksX5_matches_1 4 rfl rfl)
theorem dX5_matches_29 : decode cX5_matches 29 = .ok (.ifCond .ne 16, 3) := dk_154 0 16 (dk_at dksX5_matches_1 7 rfl rfl)
theorem dX5_matches_32 : decode cX5_matches 32 = .ok (.aload_n 0, 1) := dk_42 (dk_at dksX5_matches_1 10 rfl rfl)
theorem dX5_matches_33 : decode cX5_matches 33 = .ok (.iload_n 1, 1) := dk_27 (dk_at dksX5_matches_1 11 rfl rfl)
theorem dX5_matches_34 : decode cX5_matches 34 = .ok (.iload_n 2, 1) := dk_28 (dk_at dksX5_matches_1 12 rfl rfl)
theorem dX5_matches_35 : decode cX5_matches 35 = .ok (.invokevirtual 310, 3) := dk_182 1 54 (dk_at dksX5_matches_1 13 rfl rfl)
theorem dX5_matches_38 : decode cX5_matches 38 = .ok (.ifCond .eq 7, 3) := dk_153 0 7 (dk_at dksX5_matches_1 16 rfl rfl)
theorem dX5_matches_41 : decode cX5_matches 41 = .ok (.iconst 1, 1) := dk_4 (dk_at dksX5_matches_1 19 rfl rfl)
theorem dX5_matches_42 : decode cX5_matches 42 = .ok (.goto 4, 3) := dk_167 0 4 (dk_at dksX5_matches_1 20 rfl rfl)
theorem dX5_matches_45 : decode cX5_matches 45 = .ok (.iconst 0, 1) := dk_3 (dk_at dksX5_matches_1 23 rfl rfl)
theorem dX5_matches_46 : decode cX5_matches 46 = .ok (.ireturn, 1) := dk_172 (dk_at dksX5_matches_2 0 rfl rfl)
abbrev cX5_fits : ByteArray := prog_17_method_66_code
def yX5_fits : MethodName := ⟨RX5, "fits", "(II)Z"⟩
def dkwX5_fits_0 : List UInt8 := [42, 27, 3, 28, 3, 3, 182, 1, 47, 172]
abbrev dktX5_fits_0 : List UInt8 := dkwX5_fits_0 ++ []
theorem dksX5_fits_0 : cX5_fits.data.toList.drop 0 = dktX5_fits_0 := by decide +kernel
theorem dX5_fits_0 : decode cX5_fits 0 = .ok (.aload_n 0, 1) := dk_42 (dk_at dksX5_fits_0 0 rfl rfl)
theorem dX5_fits_1 : decode cX5_fits 1 = .ok (.iload_n 1, 1) := dk_27 (dk_at dksX5_fits_0 1 rfl rfl)
theorem dX5_fits_2 : decode cX5_fits 2 = .ok (.iconst 0, 1) := dk_3 (dk_at dksX5_fits_0 2 rfl rfl)
theorem dX5_fits_3 : decode cX5_fits 3 = .ok (.iload_n 2, 1) := dk_28 (dk_at dksX5_fits_0 3 rfl rfl)
theorem dX5_fits_4 : decode cX5_fits 4 = .ok (.iconst 0, 1) := dk_3 (dk_at dksX5_fits_0 4 rfl rfl)
theorem dX5_fits_5 : decode cX5_fits 5 = .ok (.iconst 0, 1) := dk_3 (dk_at dksX5_fits_0 5 rfl rfl)
theorem dX5_fits_6 : decode cX5_fits 6 = .ok (.invokevirtual 303, 3) := dk_182 1 47 (dk_at dksX5_fits_0 6 rfl rfl)
theorem dX5_fits_9 : decode cX5_fits 9 = .ok (.ireturn, 1) := dk_172 (dk_at dksX5_fits_0 9 rfl rfl)
abbrev cX5_goesThrough : ByteArray := prog_17_method_64_code
def yX5_goesThrough : MethodName := ⟨RX5, "goesThrough", "(IIIII)Z"⟩
def dkwX5_goesThrough_7 : List UInt8 := [21, 4, 21, 8, 182, 1, 51, 4, 172, 132, 8, 1, 167, 255, 210, 3, 172]
abbrev dktX5_goesThrough_7 : List UInt8 := dkwX5_goesThrough_7 ++ []
def dkwX5_goesThrough_6 : List UInt8 := [96, 29, 21, 4, 21, 8, 96, 21, 5, 4, 96, 182, 1, 47, 154, 0, 6, 167, 0, 15, 42, 21, 5]
abbrev dktX5_goesThrough_6 : List UInt8 := dkwX5_goesThrough_6 ++ dktX5_goesThrough_7
def dkwX5_goesThrough_5 : List UInt8 := [21, 5, 21, 4, 4, 182, 1, 51, 4, 172, 3, 54, 8, 21, 8, 21, 7, 163, 0, 45, 42, 27, 28, 4]
abbrev dktX5_goesThrough_5 : List UInt8 := dkwX5_goesThrough_5 ++ dktX5_goesThrough_6
def dkwX5_goesThrough_4 : List UInt8 := [4, 96, 167, 0, 5, 21, 5, 182, 1, 47, 154, 0, 5, 3, 172, 21, 6, 16, 63, 160, 0, 12, 42]
abbrev dktX5_goesThrough_4 : List UInt8 := dkwX5_goesThrough_4 ++ dktX5_goesThrough_5
def dkwX5_goesThrough_3 : List UInt8 := [159, 0, 5, 3, 172, 42, 27, 28, 4, 96, 29, 21, 4, 4, 96, 21, 6, 16, 63, 160, 0, 10, 21, 5]
abbrev dktX5_goesThrough_3 : List UInt8 := dkwX5_goesThrough_3 ++ dktX5_goesThrough_4
def dkwX5_goesThrough_2 : List UInt8 := [21, 6, 16, 63, 159, 0, 24, 21, 6, 42, 180, 0, 7, 42, 29, 182, 0, 118, 21, 4, 184, 0, 114]
abbrev dktX5_goesThrough_2 : List UInt8 := dkwX5_goesThrough_2 ++ dktX5_goesThrough_3
def dkwX5_goesThrough_1 : List UInt8 := [21, 7, 154, 0, 7, 4, 167, 0, 4, 3, 172, 21, 6, 16, 42, 159, 0, 88, 21, 7, 153, 0, 29]
abbrev dktX5_goesThrough_1 : List UInt8 := dkwX5_goesThrough_1 ++ dktX5_goesThrough_2
def dkwX5_goesThrough_0 : List UInt8 := [42, 27, 28, 182, 1, 38, 54, 6, 42, 29, 182, 1, 35, 21, 4, 100, 54, 7, 21, 6, 154, 0, 14]
abbrev dktX5_goesThrough_0 : List UInt8 := dkwX5_goesThrough_0 ++ dktX5_goesThrough_1
theorem dksX5_goesThrough_0 : cX5_goesThrough.data.toList.drop 0 = dktX5_goesThrough_0 := by decide +kernel
theorem dksX5_goesThrough_1 : cX5_goesThrough.data.toList.drop 23 = dktX5_goesThrough_1 := dk_seg dksX5_goesThrough_0 23 rfl rfl
theorem dksX5_goesThrough_2 : cX5_goesThrough.data.toList.drop 46 = dktX5_goesThrough_2 := dk_seg dksX5_goesThrough_1 23 rfl rfl
theorem dksX5_goesThrough_3 : cX5_goesThrough.data.toList.drop 69 = dktX5_goesThrough_3 := dk_seg dksX5_goesThrough_2 23 rfl rfl
theorem dksX5_goesThrough_4 : cX5_goesThrough.data.toList.drop 93 = dktX5_goesThrough_4 := dk_seg dksX5_goesThrough_3 24 rfl rfl
theorem dksX5_goesThrough_5 : cX5_goesThrough.data.toList.drop 116 = dktX5_goesThrough_5 := dk_seg dksX5_goesThrough_4 23 rfl rfl
theorem dksX5_goesThrough_6 : cX5_goesThrough.data.toList.drop 140 = dktX5_goesThrough_6 := dk_seg dksX5_goesThrough_5 24 rfl rfl
theorem dksX5_goesThrough_7 : cX5_goesThrough.data.toList.drop 163 = dktX5_goesThrough_7 := dk_seg dksX5_goesThrough_6 23 rfl rfl
theorem dX5_goesThrough_0 : decode cX5_goesThrough 0 = .ok (.aload_n 0, 1) := dk_42 (dk_at dksX5_goesThrough_0 0 rfl rfl)
theorem dX5_goesThrough_1 : decode cX5_goesThrough 1 = .ok (.iload_n 1, 1) := dk_27 (dk_at dksX5_goesThrough_0 1 rfl rfl)
theorem dX5_goesThrough_2 : decode cX5_goesThrough 2 = .ok (.iload_n 2, 1) := dk_28 (dk_at dksX5_goesThrough_0 2 rfl rfl)
theorem dX5_goesThrough_3 : decode cX5_goesThrough 3 = .ok (.invokevirtual 294, 3) := dk_182 1 38 (dk_at dksX5_goesThrough_0 3 rfl rfl)
theorem dX5_goesThrough_6 : decode cX5_goesThrough 6 = .ok (.istore 6, 2) := dk_54 6 (dk_at dksX5_goesThrough_0 6 rfl rfl)
theorem dX5_goesThrough_8 : decode cX5_goesThrough 8 = .ok (.aload_n 0, 1) := dk_42 (dk_at dksX5_goesThrough_0 8 rfl rfl)
theorem dX5_goesThrough_9 : decode cX5_goesThrough 9 = .ok (.iload_n 3, 1) := dk_29 (dk_at dksX5_goesThrough_0 9 rfl rfl)
theorem dX5_goesThrough_10 : decode cX5_goesThrough 10 = .ok (.invokevirtual 291, 3) := dk_182 1 35 (dk_at dksX5_goesThrough_0 10 rfl rfl)
theorem dX5_goesThrough_13 : decode cX5_goesThrough 13 = .ok (.iload 4, 2) := dk_21 4 (dk_at dksX5_goesThrough_0 13 rfl rfl)
theorem dX5_goesThrough_15 : decode cX5_goesThrough 15 = .ok (.isub, 1) := dk_100 (dk_at dksX5_goesThrough_0 15 rfl rfl)
theorem dX5_goesThrough_16 : decode cX5_goesThrough 16 = .ok (.istore 7, 2) := dk_54 7 (dk_at dksX5_goesThrough_0 16 rfl rfl)
theorem dX5_goesThrough_18 : decode cX5_goesThrough 18 = .ok (.iload 6, 2) := dk_21 6 (dk_at dksX5_goesThrough_0 18 rfl rfl)
theorem dX5_goesThrough_20 : decode cX5_goesThrough 20 = .ok (.ifCond .ne 14, 3) := dk_154 0 14 (dk_at dksX5_goesThrough_0 20 rfl rfl)
theorem dX5_goesThrough_23 : decode cX5_goesThrough 23 = .ok (.iload 7, 2) := dk_21 7 (dk_at dksX5_goesThrough_1 0 rfl rfl)
theorem dX5_goesThrough_25 : decode cX5_goesThrough 25 = .ok (.ifCond .ne 7, 3) := dk_154 0 7 (dk_at dksX5_goesThrough_1 2 rfl rfl)
theorem dX5_goesThrough_28 : decode cX5_goesThrough 28 = .ok (.iconst 1, 1) := dk_4 (dk_at dksX5_goesThrough_1 5 rfl rfl)
theorem dX5_goesThrough_29 : decode cX5_goesThrough 29 = .ok (.goto 4, 3) := dk_167 0 4 (dk_at dksX5_goesThrough_1 6 rfl rfl)
theorem dX5_goesThrough_32 : decode cX5_goesThrough 32 = .ok (.iconst 0, 1) := dk_3 (dk_at dksX5_goesThrough_1 9 rfl rfl)
theorem dX5_goesThrough_33 : decode cX5_goesThrough 33 = .ok (.ireturn, 1) := dk_172 (dk_at dksX5_goesThrough_1 10 rfl rfl)
theorem dX5_goesThrough_34 : decode cX5_goesThrough 34 = .ok (.iload 6, 2) := dk_21 6 (dk_at dksX5_goesThrough_1 11 rfl rfl)
theorem dX5_goesThrough_36 : decode cX5_goesThrough 36 = .ok (.bipush 42, 2) := dk_16 42 (dk_at dksX5_goesThrough_1 13 rfl rfl)
theorem dX5_goesThrough_38 : decode cX5_goesThrough 38 = .ok (.if_icmp .eq 88, 3) := dk_159 0 88 (dk_at dksX5_goesThrough_1 15 rfl rfl)
theorem dX5_goesThrough_41 : decode cX5_goesThrough 41 = .ok (.iload 7, 2) := dk_21 7 (dk_at dksX5_goesThrough_1 18 rfl rfl)
theorem dX5_goesThrough_43 : decode cX5_goesThrough 43 = .ok (.ifCond .eq 29, 3) := dk_153 0 29 (dk_at dksX5_goesThrough_1 20 rfl rfl)
theorem dX5_goesThrough_46 : decode cX5_goesThrough 46 = .ok (.iload 6, 2) := dk_21 6 (dk_at dksX5_goesThrough_2 0 rfl rfl)
theorem dX5_goesThrough_48 : decode cX5_goesThrough 48 = .ok (.bipush 63, 2) := dk_16 63 (dk_at dksX5_goesThrough_2 2 rfl rfl)
theorem dX5_goesThrough_50 : decode cX5_goesThrough 50 = .ok (.if_icmp .eq 24, 3) := dk_159 0 24 (dk_at dksX5_goesThrough_2 4 rfl rfl)
theorem dX5_goesThrough_53 : decode cX5_goesThrough 53 = .ok (.iload 6, 2) := dk_21 6 (dk_at dksX5_goesThrough_2 7 rfl rfl)
theorem dX5_goesThrough_55 : decode cX5_goesThrough 55 = .ok (.aload_n 0, 1) := dk_42 (dk_at dksX5_goesThrough_2 9 rfl rfl)
theorem dX5_goesThrough_56 : decode cX5_goesThrough 56 = .ok (.getfield 7, 3) := dk_180 0 7 (dk_at dksX5_goesThrough_2 10 rfl rfl)
theorem dX5_goesThrough_59 : decode cX5_goesThrough 59 = .ok (.aload_n 0, 1) := dk_42 (dk_at dksX5_goesThrough_2 13 rfl rfl)
theorem dX5_goesThrough_60 : decode cX5_goesThrough 60 = .ok (.iload_n 3, 1) := dk_29 (dk_at dksX5_goesThrough_2 14 rfl rfl)
theorem dX5_goesThrough_61 : decode cX5_goesThrough 61 = .ok (.invokevirtual 118, 3) := dk_182 0 118 (dk_at dksX5_goesThrough_2 15 rfl rfl)
theorem dX5_goesThrough_64 : decode cX5_goesThrough 64 = .ok (.iload 4, 2) := dk_21 4 (dk_at dksX5_goesThrough_2 18 rfl rfl)
theorem dX5_goesThrough_66 : decode cX5_goesThrough 66 = .ok (.invokestatic 114, 3) := dk_184 0 114 (dk_at dksX5_goesThrough_2 20 rfl rfl)
theorem dX5_goesThrough_69 : decode cX5_goesThrough 69 = .ok (.if_icmp .eq 5, 3) := dk_159 0 5 (dk_at dksX5_goesThrough_3 0 rfl rfl)
theorem dX5_goesThrough_72 : decode cX5_goesThrough 72 = .ok (.iconst 0, 1) := dk_3 (dk_at dksX5_goesThrough_3 3 rfl rfl)
theorem dX5_goesThrough_73 : decode cX5_goesThrough 73 = .ok (.ireturn, 1) := dk_172 (dk_at dksX5_goesThrough_3 4 rfl rfl)
theorem dX5_goesThrough_74 : decode cX5_goesThrough 74 = .ok (.aload_n 0, 1) := dk_42 (dk_at dksX5_goesThrough_3 5 rfl rfl)
theorem dX5_goesThrough_75 : decode cX5_goesThrough 75 = .ok (.iload_n 1, 1) := dk_27 (dk_at dksX5_goesThrough_3 6 rfl rfl)
theorem dX5_goesThrough_76 : decode cX5_goesThrough 76 = .ok (.iload_n 2, 1) := dk_28 (dk_at dksX5_goesThrough_3 7 rfl rfl)
theorem dX5_goesThrough_77 : decode cX5_goesThrough 77 = .ok (.iconst 1, 1) := dk_4 (dk_at dksX5_goesThrough_3 8 rfl rfl)
theorem dX5_goesThrough_78 : decode cX5_goesThrough 78 = .ok (.iadd, 1) := dk_96 (dk_at dksX5_goesThrough_3 9 rfl rfl)
theorem dX5_goesThrough_79 : decode cX5_goesThrough 79 = .ok (.iload_n 3, 1) := dk_29 (dk_at dksX5_goesThrough_3 10 rfl rfl)
theorem dX5_goesThrough_80 : decode cX5_goesThrough 80 = .ok (.iload 4, 2) := dk_21 4 (dk_at dksX5_goesThrough_3 11 rfl rfl)
theorem dX5_goesThrough_82 : decode cX5_goesThrough 82 = .ok (.iconst 1, 1) := dk_4 (dk_at dksX5_goesThrough_3 13 rfl rfl)
theorem dX5_goesThrough_83 : decode cX5_goesThrough 83 = .ok (.iadd, 1) := dk_96 (dk_at dksX5_goesThrough_3 14 rfl rfl)
theorem dX5_goesThrough_84 : decode cX5_goesThrough 84 = .ok (.iload 6, 2) := dk_21 6 (dk_at dksX5_goesThrough_3 15 rfl rfl)
theorem dX5_goesThrough_86 : decode cX5_goesThrough 86 = .ok (.bipush 63, 2) := dk_16 63 (dk_at dksX5_goesThrough_3 17 rfl rfl)
theorem dX5_goesThrough_88 : decode cX5_goesThrough 88 = .ok (.if_icmp .ne 10, 3) := dk_160 0 10 (dk_at dksX5_goesThrough_3 19 rfl rfl)
theorem dX5_goesThrough_91 : decode cX5_goesThrough 91 = .ok (.iload 5, 2) := dk_21 5 (dk_at dksX5_goesThrough_3 22 rfl rfl)
theorem dX5_goesThrough_93 : decode cX5_goesThrough 93 = .ok (.iconst 1, 1) := dk_4 (dk_at dksX5_goesThrough_4 0 rfl rfl)
theorem dX5_goesThrough_94 : decode cX5_goesThrough 94 = .ok (.iadd, 1) := dk_96 (dk_at dksX5_goesThrough_4 1 rfl rfl)
theorem dX5_goesThrough_95 : decode cX5_goesThrough 95 = .ok (.goto 5, 3) := dk_167 0 5 (dk_at dksX5_goesThrough_4 2 rfl rfl)
theorem dX5_goesThrough_98 : decode cX5_goesThrough 98 = .ok (.iload 5, 2) := dk_21 5 (dk_at dksX5_goesThrough_4 5 rfl rfl)
theorem dX5_goesThrough_100 : decode cX5_goesThrough 100 = .ok (.invokevirtual 303, 3) := dk_182 1 47 (dk_at dksX5_goesThrough_4 7 rfl rfl)
theorem dX5_goesThrough_103 : decode cX5_goesThrough 103 = .ok (.ifCond .ne 5, 3) := dk_154 0 5 (dk_at dksX5_goesThrough_4 10 rfl rfl)
theorem dX5_goesThrough_106 : decode cX5_goesThrough 106 = .ok (.iconst 0, 1) := dk_3 (dk_at dksX5_goesThrough_4 13 rfl rfl)
theorem dX5_goesThrough_107 : decode cX5_goesThrough 107 = .ok (.ireturn, 1) := dk_172 (dk_at dksX5_goesThrough_4 14 rfl rfl)
theorem dX5_goesThrough_108 : decode cX5_goesThrough 108 = .ok (.iload 6, 2) := dk_21 6 (dk_at dksX5_goesThrough_4 15 rfl rfl)
theorem dX5_goesThrough_110 : decode cX5_goesThrough 110 = .ok (.bipush 63, 2) := dk_16 63 (dk_at dksX5_goesThrough_4 17 rfl rfl)
theorem dX5_goesThrough_112 : decode cX5_goesThrough 112 = .ok (.if_icmp .ne 12, 3) := dk_160 0 12 (dk_at dksX5_goesThrough_4 19 rfl rfl)
theorem dX5_goesThrough_115 : decode cX5_goesThrough 115 = .ok (.aload_n 0, 1) := dk_42 (dk_at dksX5_goesThrough_4 22 rfl rfl)
theorem dX5_goesThrough_116 : decode cX5_goesThrough 116 = .ok (.iload 5, 2) := dk_21 5 (dk_at dksX5_goesThrough_5 0 rfl rfl)
theorem dX5_goesThrough_118 : decode cX5_goesThrough 118 = .ok (.iload 4, 2) := dk_21 4 (dk_at dksX5_goesThrough_5 2 rfl rfl)
theorem dX5_goesThrough_120 : decode cX5_goesThrough 120 = .ok (.iconst 1, 1) := dk_4 (dk_at dksX5_goesThrough_5 4 rfl rfl)
theorem dX5_goesThrough_121 : decode cX5_goesThrough 121 = .ok (.invokevirtual 307, 3) := dk_182 1 51 (dk_at dksX5_goesThrough_5 5 rfl rfl)
theorem dX5_goesThrough_124 : decode cX5_goesThrough 124 = .ok (.iconst 1, 1) := dk_4 (dk_at dksX5_goesThrough_5 8 rfl rfl)
theorem dX5_goesThrough_125 : decode cX5_goesThrough 125 = .ok (.ireturn, 1) := dk_172 (dk_at dksX5_goesThrough_5 9 rfl rfl)
theorem dX5_goesThrough_126 : decode cX5_goesThrough 126 = .ok (.iconst 0, 1) := dk_3 (dk_at dksX5_goesThrough_5 10 rfl rfl)
theorem dX5_goesThrough_127 : decode cX5_goesThrough 127 = .ok (.istore 8, 2) := dk_54 8 (dk_at dksX5_goesThrough_5 11 rfl rfl)
theorem dX5_goesThrough_129 : decode cX5_goesThrough 129 = .ok (.iload 8, 2) := dk_21 8 (dk_at dksX5_goesThrough_5 13 rfl rfl)
theorem dX5_goesThrough_131 : decode cX5_goesThrough 131 = .ok (.iload 7, 2) := dk_21 7 (dk_at dksX5_goesThrough_5 15 rfl rfl)
theorem dX5_goesThrough_133 : decode cX5_goesThrough 133 = .ok (.if_icmp .gt 45, 3) := dk_163 0 45 (dk_at dksX5_goesThrough_5 17 rfl rfl)
theorem dX5_goesThrough_136 : decode cX5_goesThrough 136 = .ok (.aload_n 0, 1) := dk_42 (dk_at dksX5_goesThrough_5 20 rfl rfl)
theorem dX5_goesThrough_137 : decode cX5_goesThrough 137 = .ok (.iload_n 1, 1) := dk_27 (dk_at dksX5_goesThrough_5 21 rfl rfl)
theorem dX5_goesThrough_138 : decode cX5_goesThrough 138 = .ok (.iload_n 2, 1) := dk_28 (dk_at dksX5_goesThrough_5 22 rfl rfl)
theorem dX5_goesThrough_139 : decode cX5_goesThrough 139 = .ok (.iconst 1, 1) := dk_4 (dk_at dksX5_goesThrough_5 23 rfl rfl)
theorem dX5_goesThrough_140 : decode cX5_goesThrough 140 = .ok (.iadd, 1) := dk_96 (dk_at dksX5_goesThrough_6 0 rfl rfl)
theorem dX5_goesThrough_141 : decode cX5_goesThrough 141 = .ok (.iload_n 3, 1) := dk_29 (dk_at dksX5_goesThrough_6 1 rfl rfl)
theorem dX5_goesThrough_142 : decode cX5_goesThrough 142 = .ok (.iload 4, 2) := dk_21 4 (dk_at dksX5_goesThrough_6 2 rfl rfl)
theorem dX5_goesThrough_144 : decode cX5_goesThrough 144 = .ok (.iload 8, 2) := dk_21 8 (dk_at dksX5_goesThrough_6 4 rfl rfl)
theorem dX5_goesThrough_146 : decode cX5_goesThrough 146 = .ok (.iadd, 1) := dk_96 (dk_at dksX5_goesThrough_6 6 rfl rfl)
theorem dX5_goesThrough_147 : decode cX5_goesThrough 147 = .ok (.iload 5, 2) := dk_21 5 (dk_at dksX5_goesThrough_6 7 rfl rfl)
theorem dX5_goesThrough_149 : decode cX5_goesThrough 149 = .ok (.iconst 1, 1) := dk_4 (dk_at dksX5_goesThrough_6 9 rfl rfl)
theorem dX5_goesThrough_150 : decode cX5_goesThrough 150 = .ok (.iadd, 1) := dk_96 (dk_at dksX5_goesThrough_6 10 rfl rfl)
theorem dX5_goesThrough_151 : decode cX5_goesThrough 151 = .ok (.invokevirtual 303, 3) := dk_182 1 47 (dk_at dksX5_goesThrough_6 11 rfl rfl)
theorem dX5_goesThrough_154 : decode cX5_goesThrough 154 = .ok (.ifCond .ne 6, 3) := dk_154 0 6 (dk_at dksX5_goesThrough_6 14 rfl rfl)
theorem dX5_goesThrough_157 : decode cX5_goesThrough 157 = .ok (.goto 15, 3) := dk_167 0 15 (dk_at dksX5_goesThrough_6 17 rfl rfl)
theorem dX5_goesThrough_160 : decode cX5_goesThrough 160 = .ok (.aload_n 0, 1) := dk_42 (dk_at dksX5_goesThrough_6 20 rfl rfl)
theorem dX5_goesThrough_161 : decode cX5_goesThrough 161 = .ok (.iload 5, 2) := dk_21 5 (dk_at dksX5_goesThrough_6 21 rfl rfl)
theorem dX5_goesThrough_163 : decode cX5_goesThrough 163 = .ok (.iload 4, 2) := dk_21 4 (dk_at dksX5_goesThrough_7 0 rfl rfl)
theorem dX5_goesThrough_165 : decode cX5_goesThrough 165 = .ok (.iload 8, 2) := dk_21 8 (dk_at dksX5_goesThrough_7 2 rfl rfl)
theorem dX5_goesThrough_167 : decode cX5_goesThrough 167 = .ok (.invokevirtual 307, 3) := dk_182 1 51 (dk_at dksX5_goesThrough_7 4 rfl rfl)
theorem dX5_goesThrough_170 : decode cX5_goesThrough 170 = .ok (.iconst 1, 1) := dk_4 (dk_at dksX5_goesThrough_7 7 rfl rfl)
theorem dX5_goesThrough_171 : decode cX5_goesThrough 171 = .ok (.ireturn, 1) := dk_172 (dk_at dksX5_goesThrough_7 8 rfl rfl)
theorem dX5_goesThrough_172 : decode cX5_goesThrough 172 = .ok (.iinc 8 1, 3) := dk_132 8 1 (dk_at dksX5_goesThrough_7 9 rfl rfl)
theorem dX5_goesThrough_175 : decode cX5_goesThrough 175 = .ok (.goto (-46), 3) := dk_167 255 210 (dk_at dksX5_goesThrough_7 12 rfl rfl)
theorem dX5_goesThrough_178 : decode cX5_goesThrough 178 = .ok (.iconst 0, 1) := dk_3 (dk_at dksX5_goesThrough_7 15 rfl rfl)
theorem dX5_goesThrough_179 : decode cX5_goesThrough 179 = .ok (.ireturn, 1) := dk_172 (dk_at dksX5_goesThrough_7 16 rfl rfl)
abbrev cX5_keepsCapture : ByteArray := prog_17_method_65_code
def yX5_keepsCapture : MethodName := ⟨RX5, "keepsCapture", "(III)V"⟩
def dkwX5_keepsCapture_0 : List UInt8 := [42, 180, 0, 24, 27, 28, 79, 42, 180, 0, 28, 27, 29, 79, 177]
abbrev dktX5_keepsCapture_0 : List UInt8 := dkwX5_keepsCapture_0 ++ []
theorem dksX5_keepsCapture_0 : cX5_keepsCapture.data.toList.drop 0 = dktX5_keepsCapture_0 := by decide +kernel
theorem dX5_keepsCapture_0 : decode cX5_keepsCapture 0 = .ok (.aload_n 0, 1) := dk_42 (dk_at dksX5_keepsCapture_0 0 rfl rfl)
theorem dX5_keepsCapture_1 : decode cX5_keepsCapture 1 = .ok (.getfield 24, 3) := dk_180 0 24 (dk_at dksX5_keepsCapture_0 1 rfl rfl)
theorem dX5_keepsCapture_4 : decode cX5_keepsCapture 4 = .ok (.iload_n 1, 1) := dk_27 (dk_at dksX5_keepsCapture_0 4 rfl rfl)
theorem dX5_keepsCapture_5 : decode cX5_keepsCapture 5 = .ok (.iload_n 2, 1) := dk_28 (dk_at dksX5_keepsCapture_0 5 rfl rfl)
theorem dX5_keepsCapture_6 : decode cX5_keepsCapture 6 = .ok (.iastore, 1) := dk_79 (dk_at dksX5_keepsCapture_0 6 rfl rfl)
theorem dX5_keepsCapture_7 : decode cX5_keepsCapture 7 = .ok (.aload_n 0, 1) := dk_42 (dk_at dksX5_keepsCapture_0 7 rfl rfl)
theorem dX5_keepsCapture_8 : decode cX5_keepsCapture 8 = .ok (.getfield 28, 3) := dk_180 0 28 (dk_at dksX5_keepsCapture_0 8 rfl rfl)
theorem dX5_keepsCapture_11 : decode cX5_keepsCapture 11 = .ok (.iload_n 1, 1) := dk_27 (dk_at dksX5_keepsCapture_0 11 rfl rfl)
theorem dX5_keepsCapture_12 : decode cX5_keepsCapture 12 = .ok (.iload_n 3, 1) := dk_29 (dk_at dksX5_keepsCapture_0 12 rfl rfl)
theorem dX5_keepsCapture_13 : decode cX5_keepsCapture 13 = .ok (.iastore, 1) := dk_79 (dk_at dksX5_keepsCapture_0 13 rfl rfl)
theorem dX5_keepsCapture_14 : decode cX5_keepsCapture 14 = .ok (.return_, 1) := dk_177 (dk_at dksX5_keepsCapture_0 14 rfl rfl)
abbrev cX5_capture : ByteArray := prog_17_method_68_code
def yX5_capture : MethodName := ⟨RX5, "capture", "(IIII)I"⟩
def dkwX5_capture_3 : List UInt8 := [154, 0, 14, 42, 180, 0, 24, 29, 4, 100, 46, 167, 0, 11, 42, 180, 0, 28, 29, 4, 100, 46, 172]
abbrev dktX5_capture_3 : List UInt8 := dkwX5_capture_3 ++ []
def dkwX5_capture_2 : List UInt8 := [154, 0, 9, 42, 5, 182, 0, 130, 172, 42, 27, 28, 182, 1, 54, 154, 0, 5, 2, 172, 21, 4]
abbrev dktX5_capture_2 : List UInt8 := dkwX5_capture_2 ++ dktX5_capture_3
def dkwX5_capture_1 : List UInt8 := [182, 0, 130, 172, 29, 4, 42, 27, 182, 1, 44, 184, 0, 105, 153, 0, 13, 21, 4, 3, 4, 184, 0, 105]
abbrev dktX5_capture_1 : List UInt8 := dkwX5_capture_1 ++ dktX5_capture_2
def dkwX5_capture_0 : List UInt8 := [42, 3, 181, 0, 91, 42, 27, 182, 1, 41, 153, 0, 11, 42, 28, 182, 1, 32, 154, 0, 9, 42, 4]
abbrev dktX5_capture_0 : List UInt8 := dkwX5_capture_0 ++ dktX5_capture_1
theorem dksX5_capture_0 : cX5_capture.data.toList.drop 0 = dktX5_capture_0 := by decide +kernel
theorem dksX5_capture_1 : cX5_capture.data.toList.drop 23 = dktX5_capture_1 := dk_seg dksX5_capture_0 23 rfl rfl
theorem dksX5_capture_2 : cX5_capture.data.toList.drop 47 = dktX5_capture_2 := dk_seg dksX5_capture_1 24 rfl rfl
theorem dksX5_capture_3 : cX5_capture.data.toList.drop 69 = dktX5_capture_3 := dk_seg dksX5_capture_2 22 rfl rfl
theorem dX5_capture_0 : decode cX5_capture 0 = .ok (.aload_n 0, 1) := dk_42 (dk_at dksX5_capture_0 0 rfl rfl)
theorem dX5_capture_1 : decode cX5_capture 1 = .ok (.iconst 0, 1) := dk_3 (dk_at dksX5_capture_0 1 rfl rfl)
theorem dX5_capture_2 : decode cX5_capture 2 = .ok (.putfield 91, 3) := dk_181 0 91 (dk_at dksX5_capture_0 2 rfl rfl)
theorem dX5_capture_5 : decode cX5_capture 5 = .ok (.aload_n 0, 1) := dk_42 (dk_at dksX5_capture_0 5 rfl rfl)
theorem dX5_capture_6 : decode cX5_capture 6 = .ok (.iload_n 1, 1) := dk_27 (dk_at dksX5_capture_0 6 rfl rfl)
theorem dX5_capture_7 : decode cX5_capture 7 = .ok (.invokevirtual 297, 3) := dk_182 1 41 (dk_at dksX5_capture_0 7 rfl rfl)
theorem dX5_capture_10 : decode cX5_capture 10 = .ok (.ifCond .eq 11, 3) := dk_153 0 11 (dk_at dksX5_capture_0 10 rfl rfl)
theorem dX5_capture_13 : decode cX5_capture 13 = .ok (.aload_n 0, 1) := dk_42 (dk_at dksX5_capture_0 13 rfl rfl)
theorem dX5_capture_14 : decode cX5_capture 14 = .ok (.iload_n 2, 1) := dk_28 (dk_at dksX5_capture_0 14 rfl rfl)
theorem dX5_capture_15 : decode cX5_capture 15 = .ok (.invokevirtual 288, 3) := dk_182 1 32 (dk_at dksX5_capture_0 15 rfl rfl)
theorem dX5_capture_18 : decode cX5_capture 18 = .ok (.ifCond .ne 9, 3) := dk_154 0 9 (dk_at dksX5_capture_0 18 rfl rfl)
theorem dX5_capture_21 : decode cX5_capture 21 = .ok (.aload_n 0, 1) := dk_42 (dk_at dksX5_capture_0 21 rfl rfl)
theorem dX5_capture_22 : decode cX5_capture 22 = .ok (.iconst 1, 1) := dk_4 (dk_at dksX5_capture_0 22 rfl rfl)
theorem dX5_capture_23 : decode cX5_capture 23 = .ok (.invokevirtual 130, 3) := dk_182 0 130 (dk_at dksX5_capture_1 0 rfl rfl)
theorem dX5_capture_26 : decode cX5_capture 26 = .ok (.ireturn, 1) := dk_172 (dk_at dksX5_capture_1 3 rfl rfl)
theorem dX5_capture_27 : decode cX5_capture 27 = .ok (.iload_n 3, 1) := dk_29 (dk_at dksX5_capture_1 4 rfl rfl)
theorem dX5_capture_28 : decode cX5_capture 28 = .ok (.iconst 1, 1) := dk_4 (dk_at dksX5_capture_1 5 rfl rfl)
theorem dX5_capture_29 : decode cX5_capture 29 = .ok (.aload_n 0, 1) := dk_42 (dk_at dksX5_capture_1 6 rfl rfl)
theorem dX5_capture_30 : decode cX5_capture 30 = .ok (.iload_n 1, 1) := dk_27 (dk_at dksX5_capture_1 7 rfl rfl)
theorem dX5_capture_31 : decode cX5_capture 31 = .ok (.invokevirtual 300, 3) := dk_182 1 44 (dk_at dksX5_capture_1 8 rfl rfl)
theorem dX5_capture_34 : decode cX5_capture 34 = .ok (.invokestatic 105, 3) := dk_184 0 105 (dk_at dksX5_capture_1 11 rfl rfl)
theorem dX5_capture_37 : decode cX5_capture 37 = .ok (.ifCond .eq 13, 3) := dk_153 0 13 (dk_at dksX5_capture_1 14 rfl rfl)
theorem dX5_capture_40 : decode cX5_capture 40 = .ok (.iload 4, 2) := dk_21 4 (dk_at dksX5_capture_1 17 rfl rfl)
theorem dX5_capture_42 : decode cX5_capture 42 = .ok (.iconst 0, 1) := dk_3 (dk_at dksX5_capture_1 19 rfl rfl)
theorem dX5_capture_43 : decode cX5_capture 43 = .ok (.iconst 1, 1) := dk_4 (dk_at dksX5_capture_1 20 rfl rfl)
theorem dX5_capture_44 : decode cX5_capture 44 = .ok (.invokestatic 105, 3) := dk_184 0 105 (dk_at dksX5_capture_1 21 rfl rfl)
theorem dX5_capture_47 : decode cX5_capture 47 = .ok (.ifCond .ne 9, 3) := dk_154 0 9 (dk_at dksX5_capture_2 0 rfl rfl)
theorem dX5_capture_50 : decode cX5_capture 50 = .ok (.aload_n 0, 1) := dk_42 (dk_at dksX5_capture_2 3 rfl rfl)
theorem dX5_capture_51 : decode cX5_capture 51 = .ok (.iconst 2, 1) := dk_5 (dk_at dksX5_capture_2 4 rfl rfl)
theorem dX5_capture_52 : decode cX5_capture 52 = .ok (.invokevirtual 130, 3) := dk_182 0 130 (dk_at dksX5_capture_2 5 rfl rfl)
theorem dX5_capture_55 : decode cX5_capture 55 = .ok (.ireturn, 1) := dk_172 (dk_at dksX5_capture_2 8 rfl rfl)
theorem dX5_capture_56 : decode cX5_capture 56 = .ok (.aload_n 0, 1) := dk_42 (dk_at dksX5_capture_2 9 rfl rfl)
theorem dX5_capture_57 : decode cX5_capture 57 = .ok (.iload_n 1, 1) := dk_27 (dk_at dksX5_capture_2 10 rfl rfl)
theorem dX5_capture_58 : decode cX5_capture 58 = .ok (.iload_n 2, 1) := dk_28 (dk_at dksX5_capture_2 11 rfl rfl)
theorem dX5_capture_59 : decode cX5_capture 59 = .ok (.invokevirtual 310, 3) := dk_182 1 54 (dk_at dksX5_capture_2 12 rfl rfl)
theorem dX5_capture_62 : decode cX5_capture 62 = .ok (.ifCond .ne 5, 3) := dk_154 0 5 (dk_at dksX5_capture_2 15 rfl rfl)
theorem dX5_capture_65 : decode cX5_capture 65 = .ok (.iconst (-1), 1) := dk_2 (dk_at dksX5_capture_2 18 rfl rfl)
theorem dX5_capture_66 : decode cX5_capture 66 = .ok (.ireturn, 1) := dk_172 (dk_at dksX5_capture_2 19 rfl rfl)
theorem dX5_capture_67 : decode cX5_capture 67 = .ok (.iload 4, 2) := dk_21 4 (dk_at dksX5_capture_2 20 rfl rfl)
theorem dX5_capture_69 : decode cX5_capture 69 = .ok (.ifCond .ne 14, 3) := dk_154 0 14 (dk_at dksX5_capture_3 0 rfl rfl)
theorem dX5_capture_72 : decode cX5_capture 72 = .ok (.aload_n 0, 1) := dk_42 (dk_at dksX5_capture_3 3 rfl rfl)
theorem dX5_capture_73 : decode cX5_capture 73 = .ok (.getfield 24, 3) := dk_180 0 24 (dk_at dksX5_capture_3 4 rfl rfl)
theorem dX5_capture_76 : decode cX5_capture 76 = .ok (.iload_n 3, 1) := dk_29 (dk_at dksX5_capture_3 7 rfl rfl)
theorem dX5_capture_77 : decode cX5_capture 77 = .ok (.iconst 1, 1) := dk_4 (dk_at dksX5_capture_3 8 rfl rfl)
theorem dX5_capture_78 : decode cX5_capture 78 = .ok (.isub, 1) := dk_100 (dk_at dksX5_capture_3 9 rfl rfl)
theorem dX5_capture_79 : decode cX5_capture 79 = .ok (.iaload, 1) := dk_46 (dk_at dksX5_capture_3 10 rfl rfl)
theorem dX5_capture_80 : decode cX5_capture 80 = .ok (.goto 11, 3) := dk_167 0 11 (dk_at dksX5_capture_3 11 rfl rfl)
theorem dX5_capture_83 : decode cX5_capture 83 = .ok (.aload_n 0, 1) := dk_42 (dk_at dksX5_capture_3 14 rfl rfl)
theorem dX5_capture_84 : decode cX5_capture 84 = .ok (.getfield 28, 3) := dk_180 0 28 (dk_at dksX5_capture_3 15 rfl rfl)
theorem dX5_capture_87 : decode cX5_capture 87 = .ok (.iload_n 3, 1) := dk_29 (dk_at dksX5_capture_3 18 rfl rfl)
theorem dX5_capture_88 : decode cX5_capture 88 = .ok (.iconst 1, 1) := dk_4 (dk_at dksX5_capture_3 19 rfl rfl)
theorem dX5_capture_89 : decode cX5_capture 89 = .ok (.isub, 1) := dk_100 (dk_at dksX5_capture_3 20 rfl rfl)
theorem dX5_capture_90 : decode cX5_capture 90 = .ok (.iaload, 1) := dk_46 (dk_at dksX5_capture_3 21 rfl rfl)
theorem dX5_capture_91 : decode cX5_capture 91 = .ok (.ireturn, 1) := dk_172 (dk_at dksX5_capture_3 22 rfl rfl)
abbrev cX5_ruleOf : ByteArray := prog_17_method_83_code
def yX5_ruleOf : MethodName := ⟨RX5, "ruleOf", "(I)I"⟩
def dkwX5_ruleOf_0 : List UInt8 := [42, 27, 182, 1, 103, 153, 0, 12, 42, 180, 0, 31, 27, 46, 167, 0, 4, 3, 172]
abbrev dktX5_ruleOf_0 : List UInt8 := dkwX5_ruleOf_0 ++ []
theorem dksX5_ruleOf_0 : cX5_ruleOf.data.toList.drop 0 = dktX5_ruleOf_0 := by decide +kernel
theorem dX5_ruleOf_0 : decode cX5_ruleOf 0 = .ok (.aload_n 0, 1) := dk_42 (dk_at dksX5_ruleOf_0 0 rfl rfl)
theorem dX5_ruleOf_1 : decode cX5_ruleOf 1 = .ok (.iload_n 1, 1) := dk_27 (dk_at dksX5_ruleOf_0 1 rfl rfl)
theorem dX5_ruleOf_2 : decode cX5_ruleOf 2 = .ok (.invokevirtual 359, 3) := dk_182 1 103 (dk_at dksX5_ruleOf_0 2 rfl rfl)
theorem dX5_ruleOf_5 : decode cX5_ruleOf 5 = .ok (.ifCond .eq 12, 3) := dk_153 0 12 (dk_at dksX5_ruleOf_0 5 rfl rfl)
theorem dX5_ruleOf_8 : decode cX5_ruleOf 8 = .ok (.aload_n 0, 1) := dk_42 (dk_at dksX5_ruleOf_0 8 rfl rfl)
theorem dX5_ruleOf_9 : decode cX5_ruleOf 9 = .ok (.getfield 31, 3) := dk_180 0 31 (dk_at dksX5_ruleOf_0 9 rfl rfl)
theorem dX5_ruleOf_12 : decode cX5_ruleOf 12 = .ok (.iload_n 1, 1) := dk_27 (dk_at dksX5_ruleOf_0 12 rfl rfl)
theorem dX5_ruleOf_13 : decode cX5_ruleOf 13 = .ok (.iaload, 1) := dk_46 (dk_at dksX5_ruleOf_0 13 rfl rfl)
theorem dX5_ruleOf_14 : decode cX5_ruleOf 14 = .ok (.goto 4, 3) := dk_167 0 4 (dk_at dksX5_ruleOf_0 14 rfl rfl)
theorem dX5_ruleOf_17 : decode cX5_ruleOf 17 = .ok (.iconst 0, 1) := dk_3 (dk_at dksX5_ruleOf_0 17 rfl rfl)
theorem dX5_ruleOf_18 : decode cX5_ruleOf 18 = .ok (.ireturn, 1) := dk_172 (dk_at dksX5_ruleOf_0 18 rfl rfl)
abbrev cX5_isLaid : ByteArray := prog_17_method_82_code
def yX5_isLaid : MethodName := ⟨RX5, "isLaid", "(I)Z"⟩
def dkwX5_isLaid_1 : List UInt8 := [42, 182, 1, 100, 42, 180, 0, 91, 154, 0, 7, 4, 167, 0, 4, 3, 172]
abbrev dktX5_isLaid_1 : List UInt8 := dkwX5_isLaid_1 ++ []
def dkwX5_isLaid_0 : List UInt8 := [42, 42, 27, 182, 1, 32, 153, 0, 7, 3, 167, 0, 4, 4, 181, 0, 91, 42, 180, 0, 91, 154, 0, 7]
abbrev dktX5_isLaid_0 : List UInt8 := dkwX5_isLaid_0 ++ dktX5_isLaid_1
theorem dksX5_isLaid_0 : cX5_isLaid.data.toList.drop 0 = dktX5_isLaid_0 := by decide +kernel
theorem dksX5_isLaid_1 : cX5_isLaid.data.toList.drop 24 = dktX5_isLaid_1 := dk_seg dksX5_isLaid_0 24 rfl rfl
theorem dX5_isLaid_0 : decode cX5_isLaid 0 = .ok (.aload_n 0, 1) := dk_42 (dk_at dksX5_isLaid_0 0 rfl rfl)
theorem dX5_isLaid_1 : decode cX5_isLaid 1 = .ok (.aload_n 0, 1) := dk_42 (dk_at dksX5_isLaid_0 1 rfl rfl)
theorem dX5_isLaid_2 : decode cX5_isLaid 2 = .ok (.iload_n 1, 1) := dk_27 (dk_at dksX5_isLaid_0 2 rfl rfl)
theorem dX5_isLaid_3 : decode cX5_isLaid 3 = .ok (.invokevirtual 288, 3) := dk_182 1 32 (dk_at dksX5_isLaid_0 3 rfl rfl)
theorem dX5_isLaid_6 : decode cX5_isLaid 6 = .ok (.ifCond .eq 7, 3) := dk_153 0 7 (dk_at dksX5_isLaid_0 6 rfl rfl)
theorem dX5_isLaid_9 : decode cX5_isLaid 9 = .ok (.iconst 0, 1) := dk_3 (dk_at dksX5_isLaid_0 9 rfl rfl)
theorem dX5_isLaid_10 : decode cX5_isLaid 10 = .ok (.goto 4, 3) := dk_167 0 4 (dk_at dksX5_isLaid_0 10 rfl rfl)
theorem dX5_isLaid_13 : decode cX5_isLaid 13 = .ok (.iconst 1, 1) := dk_4 (dk_at dksX5_isLaid_0 13 rfl rfl)
theorem dX5_isLaid_14 : decode cX5_isLaid 14 = .ok (.putfield 91, 3) := dk_181 0 91 (dk_at dksX5_isLaid_0 14 rfl rfl)
theorem dX5_isLaid_17 : decode cX5_isLaid 17 = .ok (.aload_n 0, 1) := dk_42 (dk_at dksX5_isLaid_0 17 rfl rfl)
theorem dX5_isLaid_18 : decode cX5_isLaid 18 = .ok (.getfield 91, 3) := dk_180 0 91 (dk_at dksX5_isLaid_0 18 rfl rfl)
theorem dX5_isLaid_21 : decode cX5_isLaid 21 = .ok (.ifCond .ne 7, 3) := dk_154 0 7 (dk_at dksX5_isLaid_0 21 rfl rfl)
theorem dX5_isLaid_24 : decode cX5_isLaid 24 = .ok (.aload_n 0, 1) := dk_42 (dk_at dksX5_isLaid_1 0 rfl rfl)
theorem dX5_isLaid_25 : decode cX5_isLaid 25 = .ok (.invokevirtual 356, 3) := dk_182 1 100 (dk_at dksX5_isLaid_1 1 rfl rfl)
theorem dX5_isLaid_28 : decode cX5_isLaid 28 = .ok (.aload_n 0, 1) := dk_42 (dk_at dksX5_isLaid_1 4 rfl rfl)
theorem dX5_isLaid_29 : decode cX5_isLaid 29 = .ok (.getfield 91, 3) := dk_180 0 91 (dk_at dksX5_isLaid_1 5 rfl rfl)
theorem dX5_isLaid_32 : decode cX5_isLaid 32 = .ok (.ifCond .ne 7, 3) := dk_154 0 7 (dk_at dksX5_isLaid_1 8 rfl rfl)
theorem dX5_isLaid_35 : decode cX5_isLaid 35 = .ok (.iconst 1, 1) := dk_4 (dk_at dksX5_isLaid_1 11 rfl rfl)
theorem dX5_isLaid_36 : decode cX5_isLaid 36 = .ok (.goto 4, 3) := dk_167 0 4 (dk_at dksX5_isLaid_1 12 rfl rfl)
theorem dX5_isLaid_39 : decode cX5_isLaid 39 = .ok (.iconst 0, 1) := dk_3 (dk_at dksX5_isLaid_1 15 rfl rfl)
theorem dX5_isLaid_40 : decode cX5_isLaid 40 = .ok (.ireturn, 1) := dk_172 (dk_at dksX5_isLaid_1 16 rfl rfl)
abbrev cX5_laysAll : ByteArray := prog_17_method_81_code
def yX5_laysAll : MethodName := ⟨RX5, "laysAll", "()V"⟩
def dkwX5_laysAll_5 : List UInt8 := [181, 1, 94, 167, 255, 239, 177]
abbrev dktX5_laysAll_5 : List UInt8 := dkwX5_laysAll_5 ++ []
def dkwX5_laysAll_4 : List UInt8 := [167, 255, 234, 42, 3, 181, 1, 94, 42, 182, 1, 97, 153, 0, 16, 42, 89, 180, 1, 94, 4, 96]
abbrev dktX5_laysAll_4 : List UInt8 := dkwX5_laysAll_4 ++ dktX5_laysAll_5
def dkwX5_laysAll_3 : List UInt8 := [27, 42, 182, 0, 101, 162, 0, 20, 42, 180, 0, 49, 27, 42, 27, 182, 1, 91, 79, 132, 1, 1]
abbrev dktX5_laysAll_3 : List UInt8 := dkwX5_laysAll_3 ++ dktX5_laysAll_4
def dkwX5_laysAll_2 : List UInt8 := [160, 0, 6, 167, 0, 13, 42, 27, 182, 1, 85, 42, 27, 182, 1, 88, 132, 1, 1, 167, 255, 222, 3, 60]
abbrev dktX5_laysAll_2 : List UInt8 := dkwX5_laysAll_2 ++ dktX5_laysAll_3
def dkwX5_laysAll_1 : List UInt8 := [132, 1, 1, 167, 255, 233, 3, 60, 27, 42, 182, 0, 101, 162, 0, 32, 42, 180, 0, 31, 27, 46, 2]
abbrev dktX5_laysAll_1 : List UInt8 := dkwX5_laysAll_1 ++ dktX5_laysAll_2
def dkwX5_laysAll_0 : List UInt8 := [3, 60, 27, 42, 182, 0, 101, 162, 0, 21, 42, 27, 182, 1, 82, 42, 180, 0, 43, 27, 3, 79]
abbrev dktX5_laysAll_0 : List UInt8 := dkwX5_laysAll_0 ++ dktX5_laysAll_1
theorem dksX5_laysAll_0 : cX5_laysAll.data.toList.drop 0 = dktX5_laysAll_0 := by decide +kernel
theorem dksX5_laysAll_1 : cX5_laysAll.data.toList.drop 22 = dktX5_laysAll_1 := dk_seg dksX5_laysAll_0 22 rfl rfl
theorem dksX5_laysAll_2 : cX5_laysAll.data.toList.drop 45 = dktX5_laysAll_2 := dk_seg dksX5_laysAll_1 23 rfl rfl
theorem dksX5_laysAll_3 : cX5_laysAll.data.toList.drop 69 = dktX5_laysAll_3 := dk_seg dksX5_laysAll_2 24 rfl rfl
theorem dksX5_laysAll_4 : cX5_laysAll.data.toList.drop 91 = dktX5_laysAll_4 := dk_seg dksX5_laysAll_3 22 rfl rfl
theorem dksX5_laysAll_5 : cX5_laysAll.data.toList.drop 113 = dktX5_laysAll_5 := dk_seg dksX5_laysAll_4 22 rfl rfl
theorem dX5_laysAll_0 : decode cX5_laysAll 0 = .ok (.iconst 0, 1) := dk_3 (dk_at dksX5_laysAll_0 0 rfl rfl)
theorem dX5_laysAll_1 : decode cX5_laysAll 1 = .ok (.istore_n 1, 1) := dk_60 (dk_at dksX5_laysAll_0 1 rfl rfl)
theorem dX5_laysAll_2 : decode cX5_laysAll 2 = .ok (.iload_n 1, 1) := dk_27 (dk_at dksX5_laysAll_0 2 rfl rfl)
theorem dX5_laysAll_3 : decode cX5_laysAll 3 = .ok (.aload_n 0, 1) := dk_42 (dk_at dksX5_laysAll_0 3 rfl rfl)
theorem dX5_laysAll_4 : decode cX5_laysAll 4 = .ok (.invokevirtual 101, 3) := dk_182 0 101 (dk_at dksX5_laysAll_0 4 rfl rfl)
theorem dX5_laysAll_7 : decode cX5_laysAll 7 = .ok (.if_icmp .ge 21, 3) := dk_162 0 21 (dk_at dksX5_laysAll_0 7 rfl rfl)
theorem dX5_laysAll_10 : decode cX5_laysAll 10 = .ok (.aload_n 0, 1) := dk_42 (dk_at dksX5_laysAll_0 10 rfl rfl)
theorem dX5_laysAll_11 : decode cX5_laysAll 11 = .ok (.iload_n 1, 1) := dk_27 (dk_at dksX5_laysAll_0 11 rfl rfl)
theorem dX5_laysAll_12 : decode cX5_laysAll 12 = .ok (.invokevirtual 338, 3) := dk_182 1 82 (dk_at dksX5_laysAll_0 12 rfl rfl)
theorem dX5_laysAll_15 : decode cX5_laysAll 15 = .ok (.aload_n 0, 1) := dk_42 (dk_at dksX5_laysAll_0 15 rfl rfl)
theorem dX5_laysAll_16 : decode cX5_laysAll 16 = .ok (.getfield 43, 3) := dk_180 0 43 (dk_at dksX5_laysAll_0 16 rfl rfl)
theorem dX5_laysAll_19 : decode cX5_laysAll 19 = .ok (.iload_n 1, 1) := dk_27 (dk_at dksX5_laysAll_0 19 rfl rfl)
theorem dX5_laysAll_20 : decode cX5_laysAll 20 = .ok (.iconst 0, 1) := dk_3 (dk_at dksX5_laysAll_0 20 rfl rfl)
theorem dX5_laysAll_21 : decode cX5_laysAll 21 = .ok (.iastore, 1) := dk_79 (dk_at dksX5_laysAll_0 21 rfl rfl)
theorem dX5_laysAll_22 : decode cX5_laysAll 22 = .ok (.iinc 1 1, 3) := dk_132 1 1 (dk_at dksX5_laysAll_1 0 rfl rfl)
theorem dX5_laysAll_25 : decode cX5_laysAll 25 = .ok (.goto (-23), 3) := dk_167 255 233 (dk_at dksX5_laysAll_1 3 rfl rfl)
theorem dX5_laysAll_28 : decode cX5_laysAll 28 = .ok (.iconst 0, 1) := dk_3 (dk_at dksX5_laysAll_1 6 rfl rfl)
theorem dX5_laysAll_29 : decode cX5_laysAll 29 = .ok (.istore_n 1, 1) := dk_60 (dk_at dksX5_laysAll_1 7 rfl rfl)
theorem dX5_laysAll_30 : decode cX5_laysAll 30 = .ok (.iload_n 1, 1) := dk_27 (dk_at dksX5_laysAll_1 8 rfl rfl)
theorem dX5_laysAll_31 : decode cX5_laysAll 31 = .ok (.aload_n 0, 1) := dk_42 (dk_at dksX5_laysAll_1 9 rfl rfl)
theorem dX5_laysAll_32 : decode cX5_laysAll 32 = .ok (.invokevirtual 101, 3) := dk_182 0 101 (dk_at dksX5_laysAll_1 10 rfl rfl)
theorem dX5_laysAll_35 : decode cX5_laysAll 35 = .ok (.if_icmp .ge 32, 3) := dk_162 0 32 (dk_at dksX5_laysAll_1 13 rfl rfl)
theorem dX5_laysAll_38 : decode cX5_laysAll 38 = .ok (.aload_n 0, 1) := dk_42 (dk_at dksX5_laysAll_1 16 rfl rfl)
theorem dX5_laysAll_39 : decode cX5_laysAll 39 = .ok (.getfield 31, 3) := dk_180 0 31 (dk_at dksX5_laysAll_1 17 rfl rfl)
theorem dX5_laysAll_42 : decode cX5_laysAll 42 = .ok (.iload_n 1, 1) := dk_27 (dk_at dksX5_laysAll_1 20 rfl rfl)
theorem dX5_laysAll_43 : decode cX5_laysAll 43 = .ok (.iaload, 1) := dk_46 (dk_at dksX5_laysAll_1 21 rfl rfl)
theorem dX5_laysAll_44 : decode cX5_laysAll 44 = .ok (.iconst (-1), 1) := dk_2 (dk_at dksX5_laysAll_1 22 rfl rfl)
theorem dX5_laysAll_45 : decode cX5_laysAll 45 = .ok (.if_icmp .ne 6, 3) := dk_160 0 6 (dk_at dksX5_laysAll_2 0 rfl rfl)
theorem dX5_laysAll_48 : decode cX5_laysAll 48 = .ok (.goto 13, 3) := dk_167 0 13 (dk_at dksX5_laysAll_2 3 rfl rfl)
theorem dX5_laysAll_51 : decode cX5_laysAll 51 = .ok (.aload_n 0, 1) := dk_42 (dk_at dksX5_laysAll_2 6 rfl rfl)
theorem dX5_laysAll_52 : decode cX5_laysAll 52 = .ok (.iload_n 1, 1) := dk_27 (dk_at dksX5_laysAll_2 7 rfl rfl)
theorem dX5_laysAll_53 : decode cX5_laysAll 53 = .ok (.invokevirtual 341, 3) := dk_182 1 85 (dk_at dksX5_laysAll_2 8 rfl rfl)
theorem dX5_laysAll_56 : decode cX5_laysAll 56 = .ok (.aload_n 0, 1) := dk_42 (dk_at dksX5_laysAll_2 11 rfl rfl)
theorem dX5_laysAll_57 : decode cX5_laysAll 57 = .ok (.iload_n 1, 1) := dk_27 (dk_at dksX5_laysAll_2 12 rfl rfl)
theorem dX5_laysAll_58 : decode cX5_laysAll 58 = .ok (.invokevirtual 344, 3) := dk_182 1 88 (dk_at dksX5_laysAll_2 13 rfl rfl)
theorem dX5_laysAll_61 : decode cX5_laysAll 61 = .ok (.iinc 1 1, 3) := dk_132 1 1 (dk_at dksX5_laysAll_2 16 rfl rfl)
theorem dX5_laysAll_64 : decode cX5_laysAll 64 = .ok (.goto (-34), 3) := dk_167 255 222 (dk_at dksX5_laysAll_2 19 rfl rfl)
theorem dX5_laysAll_67 : decode cX5_laysAll 67 = .ok (.iconst 0, 1) := dk_3 (dk_at dksX5_laysAll_2 22 rfl rfl)
theorem dX5_laysAll_68 : decode cX5_laysAll 68 = .ok (.istore_n 1, 1) := dk_60 (dk_at dksX5_laysAll_2 23 rfl rfl)
theorem dX5_laysAll_69 : decode cX5_laysAll 69 = .ok (.iload_n 1, 1) := dk_27 (dk_at dksX5_laysAll_3 0 rfl rfl)
theorem dX5_laysAll_70 : decode cX5_laysAll 70 = .ok (.aload_n 0, 1) := dk_42 (dk_at dksX5_laysAll_3 1 rfl rfl)
theorem dX5_laysAll_71 : decode cX5_laysAll 71 = .ok (.invokevirtual 101, 3) := dk_182 0 101 (dk_at dksX5_laysAll_3 2 rfl rfl)
theorem dX5_laysAll_74 : decode cX5_laysAll 74 = .ok (.if_icmp .ge 20, 3) := dk_162 0 20 (dk_at dksX5_laysAll_3 5 rfl rfl)
theorem dX5_laysAll_77 : decode cX5_laysAll 77 = .ok (.aload_n 0, 1) := dk_42 (dk_at dksX5_laysAll_3 8 rfl rfl)
theorem dX5_laysAll_78 : decode cX5_laysAll 78 = .ok (.getfield 49, 3) := dk_180 0 49 (dk_at dksX5_laysAll_3 9 rfl rfl)
theorem dX5_laysAll_81 : decode cX5_laysAll 81 = .ok (.iload_n 1, 1) := dk_27 (dk_at dksX5_laysAll_3 12 rfl rfl)
theorem dX5_laysAll_82 : decode cX5_laysAll 82 = .ok (.aload_n 0, 1) := dk_42 (dk_at dksX5_laysAll_3 13 rfl rfl)
theorem dX5_laysAll_83 : decode cX5_laysAll 83 = .ok (.iload_n 1, 1) := dk_27 (dk_at dksX5_laysAll_3 14 rfl rfl)
theorem dX5_laysAll_84 : decode cX5_laysAll 84 = .ok (.invokevirtual 347, 3) := dk_182 1 91 (dk_at dksX5_laysAll_3 15 rfl rfl)
theorem dX5_laysAll_87 : decode cX5_laysAll 87 = .ok (.iastore, 1) := dk_79 (dk_at dksX5_laysAll_3 18 rfl rfl)
theorem dX5_laysAll_88 : decode cX5_laysAll 88 = .ok (.iinc 1 1, 3) := dk_132 1 1 (dk_at dksX5_laysAll_3 19 rfl rfl)
theorem dX5_laysAll_91 : decode cX5_laysAll 91 = .ok (.goto (-22), 3) := dk_167 255 234 (dk_at dksX5_laysAll_4 0 rfl rfl)
theorem dX5_laysAll_94 : decode cX5_laysAll 94 = .ok (.aload_n 0, 1) := dk_42 (dk_at dksX5_laysAll_4 3 rfl rfl)
theorem dX5_laysAll_95 : decode cX5_laysAll 95 = .ok (.iconst 0, 1) := dk_3 (dk_at dksX5_laysAll_4 4 rfl rfl)
theorem dX5_laysAll_96 : decode cX5_laysAll 96 = .ok (.putfield 350, 3) := dk_181 1 94 (dk_at dksX5_laysAll_4 5 rfl rfl)
theorem dX5_laysAll_99 : decode cX5_laysAll 99 = .ok (.aload_n 0, 1) := dk_42 (dk_at dksX5_laysAll_4 8 rfl rfl)
theorem dX5_laysAll_100 : decode cX5_laysAll 100 = .ok (.invokevirtual 353, 3) := dk_182 1 97 (dk_at dksX5_laysAll_4 9 rfl rfl)
theorem dX5_laysAll_103 : decode cX5_laysAll 103 = .ok (.ifCond .eq 16, 3) := dk_153 0 16 (dk_at dksX5_laysAll_4 12 rfl rfl)
theorem dX5_laysAll_106 : decode cX5_laysAll 106 = .ok (.aload_n 0, 1) := dk_42 (dk_at dksX5_laysAll_4 15 rfl rfl)
theorem dX5_laysAll_107 : decode cX5_laysAll 107 = .ok (.dup, 1) := dk_89 (dk_at dksX5_laysAll_4 16 rfl rfl)
theorem dX5_laysAll_108 : decode cX5_laysAll 108 = .ok (.getfield 350, 3) := dk_180 1 94 (dk_at dksX5_laysAll_4 17 rfl rfl)
theorem dX5_laysAll_111 : decode cX5_laysAll 111 = .ok (.iconst 1, 1) := dk_4 (dk_at dksX5_laysAll_4 20 rfl rfl)
theorem dX5_laysAll_112 : decode cX5_laysAll 112 = .ok (.iadd, 1) := dk_96 (dk_at dksX5_laysAll_4 21 rfl rfl)
theorem dX5_laysAll_113 : decode cX5_laysAll 113 = .ok (.putfield 350, 3) := dk_181 1 94 (dk_at dksX5_laysAll_5 0 rfl rfl)
theorem dX5_laysAll_116 : decode cX5_laysAll 116 = .ok (.goto (-17), 3) := dk_167 255 239 (dk_at dksX5_laysAll_5 3 rfl rfl)
theorem dX5_laysAll_119 : decode cX5_laysAll 119 = .ok (.return_, 1) := dk_177 (dk_at dksX5_laysAll_5 6 rfl rfl)
abbrev cX5_findsRule : ByteArray := prog_17_method_69_code
def yX5_findsRule : MethodName := ⟨RX5, "findsRule", "(I)V"⟩
def dkwX5_findsRule_5 : List UInt8 := [29, 4, 100, 46, 79, 177]
abbrev dktX5_findsRule_5 : List UInt8 := dkwX5_findsRule_5 ++ []
def dkwX5_findsRule_4 : List UInt8 := [177, 42, 180, 0, 34, 27, 42, 180, 0, 24, 29, 4, 100, 46, 79, 42, 180, 0, 37, 27, 42, 180, 0, 28]
abbrev dktX5_findsRule_4 : List UInt8 := dkwX5_findsRule_4 ++ dktX5_findsRule_5
def dkwX5_findsRule_3 : List UInt8 := [180, 0, 31, 27, 28, 79, 42, 180, 0, 7, 42, 28, 182, 0, 124, 7, 96, 47, 136, 62, 29, 154, 0, 4]
abbrev dktX5_findsRule_3 : List UInt8 := dkwX5_findsRule_3 ++ dktX5_findsRule_4
def dkwX5_findsRule_2 : List UInt8 := [182, 1, 54, 154, 0, 9, 132, 2, 1, 167, 255, 236, 28, 42, 182, 0, 109, 160, 0, 4, 177, 42]
abbrev dktX5_findsRule_2 : List UInt8 := dkwX5_findsRule_2 ++ dktX5_findsRule_3
def dkwX5_findsRule_1 : List UInt8 := [27, 96, 182, 0, 97, 4, 160, 0, 4, 177, 3, 61, 28, 42, 182, 0, 109, 162, 0, 18, 42, 28, 27]
abbrev dktX5_findsRule_1 : List UInt8 := dkwX5_findsRule_1 ++ dktX5_findsRule_2
def dkwX5_findsRule_0 : List UInt8 := [42, 180, 0, 31, 27, 2, 79, 42, 180, 0, 34, 27, 3, 79, 42, 180, 0, 37, 27, 3, 79, 42, 16, 66]
abbrev dktX5_findsRule_0 : List UInt8 := dkwX5_findsRule_0 ++ dktX5_findsRule_1
theorem dksX5_findsRule_0 : cX5_findsRule.data.toList.drop 0 = dktX5_findsRule_0 := by decide +kernel
theorem dksX5_findsRule_1 : cX5_findsRule.data.toList.drop 24 = dktX5_findsRule_1 := dk_seg dksX5_findsRule_0 24 rfl rfl
theorem dksX5_findsRule_2 : cX5_findsRule.data.toList.drop 47 = dktX5_findsRule_2 := dk_seg dksX5_findsRule_1 23 rfl rfl
theorem dksX5_findsRule_3 : cX5_findsRule.data.toList.drop 69 = dktX5_findsRule_3 := dk_seg dksX5_findsRule_2 22 rfl rfl
theorem dksX5_findsRule_4 : cX5_findsRule.data.toList.drop 93 = dktX5_findsRule_4 := dk_seg dksX5_findsRule_3 24 rfl rfl
theorem dksX5_findsRule_5 : cX5_findsRule.data.toList.drop 117 = dktX5_findsRule_5 := dk_seg dksX5_findsRule_4 24 rfl rfl
theorem dX5_findsRule_0 : decode cX5_findsRule 0 = .ok (.aload_n 0, 1) := dk_42 (dk_at dksX5_findsRule_0 0 rfl rfl)
theorem dX5_findsRule_1 : decode cX5_findsRule 1 = .ok (.getfield 31, 3) := dk_180 0 31 (dk_at dksX5_findsRule_0 1 rfl rfl)
theorem dX5_findsRule_4 : decode cX5_findsRule 4 = .ok (.iload_n 1, 1) := dk_27 (dk_at dksX5_findsRule_0 4 rfl rfl)
theorem dX5_findsRule_5 : decode cX5_findsRule 5 = .ok (.iconst (-1), 1) := dk_2 (dk_at dksX5_findsRule_0 5 rfl rfl)
theorem dX5_findsRule_6 : decode cX5_findsRule 6 = .ok (.iastore, 1) := dk_79 (dk_at dksX5_findsRule_0 6 rfl rfl)
theorem dX5_findsRule_7 : decode cX5_findsRule 7 = .ok (.aload_n 0, 1) := dk_42 (dk_at dksX5_findsRule_0 7 rfl rfl)
theorem dX5_findsRule_8 : decode cX5_findsRule 8 = .ok (.getfield 34, 3) := dk_180 0 34 (dk_at dksX5_findsRule_0 8 rfl rfl)
theorem dX5_findsRule_11 : decode cX5_findsRule 11 = .ok (.iload_n 1, 1) := dk_27 (dk_at dksX5_findsRule_0 11 rfl rfl)
theorem dX5_findsRule_12 : decode cX5_findsRule 12 = .ok (.iconst 0, 1) := dk_3 (dk_at dksX5_findsRule_0 12 rfl rfl)
theorem dX5_findsRule_13 : decode cX5_findsRule 13 = .ok (.iastore, 1) := dk_79 (dk_at dksX5_findsRule_0 13 rfl rfl)
theorem dX5_findsRule_14 : decode cX5_findsRule 14 = .ok (.aload_n 0, 1) := dk_42 (dk_at dksX5_findsRule_0 14 rfl rfl)
theorem dX5_findsRule_15 : decode cX5_findsRule 15 = .ok (.getfield 37, 3) := dk_180 0 37 (dk_at dksX5_findsRule_0 15 rfl rfl)
theorem dX5_findsRule_18 : decode cX5_findsRule 18 = .ok (.iload_n 1, 1) := dk_27 (dk_at dksX5_findsRule_0 18 rfl rfl)
theorem dX5_findsRule_19 : decode cX5_findsRule 19 = .ok (.iconst 0, 1) := dk_3 (dk_at dksX5_findsRule_0 19 rfl rfl)
theorem dX5_findsRule_20 : decode cX5_findsRule 20 = .ok (.iastore, 1) := dk_79 (dk_at dksX5_findsRule_0 20 rfl rfl)
theorem dX5_findsRule_21 : decode cX5_findsRule 21 = .ok (.aload_n 0, 1) := dk_42 (dk_at dksX5_findsRule_0 21 rfl rfl)
theorem dX5_findsRule_22 : decode cX5_findsRule 22 = .ok (.bipush 66, 2) := dk_16 66 (dk_at dksX5_findsRule_0 22 rfl rfl)
theorem dX5_findsRule_24 : decode cX5_findsRule 24 = .ok (.iload_n 1, 1) := dk_27 (dk_at dksX5_findsRule_1 0 rfl rfl)
theorem dX5_findsRule_25 : decode cX5_findsRule 25 = .ok (.iadd, 1) := dk_96 (dk_at dksX5_findsRule_1 1 rfl rfl)
theorem dX5_findsRule_26 : decode cX5_findsRule 26 = .ok (.invokevirtual 97, 3) := dk_182 0 97 (dk_at dksX5_findsRule_1 2 rfl rfl)
theorem dX5_findsRule_29 : decode cX5_findsRule 29 = .ok (.iconst 1, 1) := dk_4 (dk_at dksX5_findsRule_1 5 rfl rfl)
theorem dX5_findsRule_30 : decode cX5_findsRule 30 = .ok (.if_icmp .ne 4, 3) := dk_160 0 4 (dk_at dksX5_findsRule_1 6 rfl rfl)
theorem dX5_findsRule_33 : decode cX5_findsRule 33 = .ok (.return_, 1) := dk_177 (dk_at dksX5_findsRule_1 9 rfl rfl)
theorem dX5_findsRule_34 : decode cX5_findsRule 34 = .ok (.iconst 0, 1) := dk_3 (dk_at dksX5_findsRule_1 10 rfl rfl)
theorem dX5_findsRule_35 : decode cX5_findsRule 35 = .ok (.istore_n 2, 1) := dk_61 (dk_at dksX5_findsRule_1 11 rfl rfl)
theorem dX5_findsRule_36 : decode cX5_findsRule 36 = .ok (.iload_n 2, 1) := dk_28 (dk_at dksX5_findsRule_1 12 rfl rfl)
theorem dX5_findsRule_37 : decode cX5_findsRule 37 = .ok (.aload_n 0, 1) := dk_42 (dk_at dksX5_findsRule_1 13 rfl rfl)
theorem dX5_findsRule_38 : decode cX5_findsRule 38 = .ok (.invokevirtual 109, 3) := dk_182 0 109 (dk_at dksX5_findsRule_1 14 rfl rfl)
theorem dX5_findsRule_41 : decode cX5_findsRule 41 = .ok (.if_icmp .ge 18, 3) := dk_162 0 18 (dk_at dksX5_findsRule_1 17 rfl rfl)
theorem dX5_findsRule_44 : decode cX5_findsRule 44 = .ok (.aload_n 0, 1) := dk_42 (dk_at dksX5_findsRule_1 20 rfl rfl)
theorem dX5_findsRule_45 : decode cX5_findsRule 45 = .ok (.iload_n 2, 1) := dk_28 (dk_at dksX5_findsRule_1 21 rfl rfl)
theorem dX5_findsRule_46 : decode cX5_findsRule 46 = .ok (.iload_n 1, 1) := dk_27 (dk_at dksX5_findsRule_1 22 rfl rfl)
theorem dX5_findsRule_47 : decode cX5_findsRule 47 = .ok (.invokevirtual 310, 3) := dk_182 1 54 (dk_at dksX5_findsRule_2 0 rfl rfl)
theorem dX5_findsRule_50 : decode cX5_findsRule 50 = .ok (.ifCond .ne 9, 3) := dk_154 0 9 (dk_at dksX5_findsRule_2 3 rfl rfl)
theorem dX5_findsRule_53 : decode cX5_findsRule 53 = .ok (.iinc 2 1, 3) := dk_132 2 1 (dk_at dksX5_findsRule_2 6 rfl rfl)
theorem dX5_findsRule_56 : decode cX5_findsRule 56 = .ok (.goto (-20), 3) := dk_167 255 236 (dk_at dksX5_findsRule_2 9 rfl rfl)
theorem dX5_findsRule_59 : decode cX5_findsRule 59 = .ok (.iload_n 2, 1) := dk_28 (dk_at dksX5_findsRule_2 12 rfl rfl)
theorem dX5_findsRule_60 : decode cX5_findsRule 60 = .ok (.aload_n 0, 1) := dk_42 (dk_at dksX5_findsRule_2 13 rfl rfl)
theorem dX5_findsRule_61 : decode cX5_findsRule 61 = .ok (.invokevirtual 109, 3) := dk_182 0 109 (dk_at dksX5_findsRule_2 14 rfl rfl)
theorem dX5_findsRule_64 : decode cX5_findsRule 64 = .ok (.if_icmp .ne 4, 3) := dk_160 0 4 (dk_at dksX5_findsRule_2 17 rfl rfl)
theorem dX5_findsRule_67 : decode cX5_findsRule 67 = .ok (.return_, 1) := dk_177 (dk_at dksX5_findsRule_2 20 rfl rfl)
theorem dX5_findsRule_68 : decode cX5_findsRule 68 = .ok (.aload_n 0, 1) := dk_42 (dk_at dksX5_findsRule_2 21 rfl rfl)
theorem dX5_findsRule_69 : decode cX5_findsRule 69 = .ok (.getfield 31, 3) := dk_180 0 31 (dk_at dksX5_findsRule_3 0 rfl rfl)
theorem dX5_findsRule_72 : decode cX5_findsRule 72 = .ok (.iload_n 1, 1) := dk_27 (dk_at dksX5_findsRule_3 3 rfl rfl)
theorem dX5_findsRule_73 : decode cX5_findsRule 73 = .ok (.iload_n 2, 1) := dk_28 (dk_at dksX5_findsRule_3 4 rfl rfl)
theorem dX5_findsRule_74 : decode cX5_findsRule 74 = .ok (.iastore, 1) := dk_79 (dk_at dksX5_findsRule_3 5 rfl rfl)
theorem dX5_findsRule_75 : decode cX5_findsRule 75 = .ok (.aload_n 0, 1) := dk_42 (dk_at dksX5_findsRule_3 6 rfl rfl)
theorem dX5_findsRule_76 : decode cX5_findsRule 76 = .ok (.getfield 7, 3) := dk_180 0 7 (dk_at dksX5_findsRule_3 7 rfl rfl)
theorem dX5_findsRule_79 : decode cX5_findsRule 79 = .ok (.aload_n 0, 1) := dk_42 (dk_at dksX5_findsRule_3 10 rfl rfl)
theorem dX5_findsRule_80 : decode cX5_findsRule 80 = .ok (.iload_n 2, 1) := dk_28 (dk_at dksX5_findsRule_3 11 rfl rfl)
theorem dX5_findsRule_81 : decode cX5_findsRule 81 = .ok (.invokevirtual 124, 3) := dk_182 0 124 (dk_at dksX5_findsRule_3 12 rfl rfl)
theorem dX5_findsRule_84 : decode cX5_findsRule 84 = .ok (.iconst 4, 1) := dk_7 (dk_at dksX5_findsRule_3 15 rfl rfl)
theorem dX5_findsRule_85 : decode cX5_findsRule 85 = .ok (.iadd, 1) := dk_96 (dk_at dksX5_findsRule_3 16 rfl rfl)
theorem dX5_findsRule_86 : decode cX5_findsRule 86 = .ok (.laload, 1) := dk_47 (dk_at dksX5_findsRule_3 17 rfl rfl)
theorem dX5_findsRule_87 : decode cX5_findsRule 87 = .ok (.l2i, 1) := dk_136 (dk_at dksX5_findsRule_3 18 rfl rfl)
theorem dX5_findsRule_88 : decode cX5_findsRule 88 = .ok (.istore_n 3, 1) := dk_62 (dk_at dksX5_findsRule_3 19 rfl rfl)
theorem dX5_findsRule_89 : decode cX5_findsRule 89 = .ok (.iload_n 3, 1) := dk_29 (dk_at dksX5_findsRule_3 20 rfl rfl)
theorem dX5_findsRule_90 : decode cX5_findsRule 90 = .ok (.ifCond .ne 4, 3) := dk_154 0 4 (dk_at dksX5_findsRule_3 21 rfl rfl)
theorem dX5_findsRule_93 : decode cX5_findsRule 93 = .ok (.return_, 1) := dk_177 (dk_at dksX5_findsRule_4 0 rfl rfl)
theorem dX5_findsRule_94 : decode cX5_findsRule 94 = .ok (.aload_n 0, 1) := dk_42 (dk_at dksX5_findsRule_4 1 rfl rfl)
theorem dX5_findsRule_95 : decode cX5_findsRule 95 = .ok (.getfield 34, 3) := dk_180 0 34 (dk_at dksX5_findsRule_4 2 rfl rfl)
theorem dX5_findsRule_98 : decode cX5_findsRule 98 = .ok (.iload_n 1, 1) := dk_27 (dk_at dksX5_findsRule_4 5 rfl rfl)
theorem dX5_findsRule_99 : decode cX5_findsRule 99 = .ok (.aload_n 0, 1) := dk_42 (dk_at dksX5_findsRule_4 6 rfl rfl)
theorem dX5_findsRule_100 : decode cX5_findsRule 100 = .ok (.getfield 24, 3) := dk_180 0 24 (dk_at dksX5_findsRule_4 7 rfl rfl)
theorem dX5_findsRule_103 : decode cX5_findsRule 103 = .ok (.iload_n 3, 1) := dk_29 (dk_at dksX5_findsRule_4 10 rfl rfl)
theorem dX5_findsRule_104 : decode cX5_findsRule 104 = .ok (.iconst 1, 1) := dk_4 (dk_at dksX5_findsRule_4 11 rfl rfl)
theorem dX5_findsRule_105 : decode cX5_findsRule 105 = .ok (.isub, 1) := dk_100 (dk_at dksX5_findsRule_4 12 rfl rfl)
theorem dX5_findsRule_106 : decode cX5_findsRule 106 = .ok (.iaload, 1) := dk_46 (dk_at dksX5_findsRule_4 13 rfl rfl)
theorem dX5_findsRule_107 : decode cX5_findsRule 107 = .ok (.iastore, 1) := dk_79 (dk_at dksX5_findsRule_4 14 rfl rfl)
theorem dX5_findsRule_108 : decode cX5_findsRule 108 = .ok (.aload_n 0, 1) := dk_42 (dk_at dksX5_findsRule_4 15 rfl rfl)
theorem dX5_findsRule_109 : decode cX5_findsRule 109 = .ok (.getfield 37, 3) := dk_180 0 37 (dk_at dksX5_findsRule_4 16 rfl rfl)
theorem dX5_findsRule_112 : decode cX5_findsRule 112 = .ok (.iload_n 1, 1) := dk_27 (dk_at dksX5_findsRule_4 19 rfl rfl)
theorem dX5_findsRule_113 : decode cX5_findsRule 113 = .ok (.aload_n 0, 1) := dk_42 (dk_at dksX5_findsRule_4 20 rfl rfl)
theorem dX5_findsRule_114 : decode cX5_findsRule 114 = .ok (.getfield 28, 3) := dk_180 0 28 (dk_at dksX5_findsRule_4 21 rfl rfl)
theorem dX5_findsRule_117 : decode cX5_findsRule 117 = .ok (.iload_n 3, 1) := dk_29 (dk_at dksX5_findsRule_5 0 rfl rfl)
theorem dX5_findsRule_118 : decode cX5_findsRule 118 = .ok (.iconst 1, 1) := dk_4 (dk_at dksX5_findsRule_5 1 rfl rfl)
theorem dX5_findsRule_119 : decode cX5_findsRule 119 = .ok (.isub, 1) := dk_100 (dk_at dksX5_findsRule_5 2 rfl rfl)
theorem dX5_findsRule_120 : decode cX5_findsRule 120 = .ok (.iaload, 1) := dk_46 (dk_at dksX5_findsRule_5 3 rfl rfl)
theorem dX5_findsRule_121 : decode cX5_findsRule 121 = .ok (.iastore, 1) := dk_79 (dk_at dksX5_findsRule_5 4 rfl rfl)
theorem dX5_findsRule_122 : decode cX5_findsRule 122 = .ok (.return_, 1) := dk_177 (dk_at dksX5_findsRule_5 5 rfl rfl)
abbrev cX5_countsFile : ByteArray := prog_17_method_75_code
def yX5_countsFile : MethodName := ⟨RX5, "countsFile", "(I)V"⟩
def dkwX5_countsFile_1 : List UInt8 := [153, 0, 17, 42, 180, 0, 40, 27, 92, 46, 42, 6, 182, 0, 97, 96, 79, 132, 2, 1, 167, 255, 225, 177]
abbrev dktX5_countsFile_1 : List UInt8 := dkwX5_countsFile_1 ++ []
def dkwX5_countsFile_0 : List UInt8 := [42, 180, 0, 40, 27, 42, 5, 182, 0, 97, 79, 3, 61, 28, 27, 162, 0, 32, 42, 28, 27, 182, 1, 69]
abbrev dktX5_countsFile_0 : List UInt8 := dkwX5_countsFile_0 ++ dktX5_countsFile_1
theorem dksX5_countsFile_0 : cX5_countsFile.data.toList.drop 0 = dktX5_countsFile_0 := by decide +kernel
theorem dksX5_countsFile_1 : cX5_countsFile.data.toList.drop 24 = dktX5_countsFile_1 := dk_seg dksX5_countsFile_0 24 rfl rfl
theorem dX5_countsFile_0 : decode cX5_countsFile 0 = .ok (.aload_n 0, 1) := dk_42 (dk_at dksX5_countsFile_0 0 rfl rfl)
theorem dX5_countsFile_1 : decode cX5_countsFile 1 = .ok (.getfield 40, 3) := dk_180 0 40 (dk_at dksX5_countsFile_0 1 rfl rfl)
theorem dX5_countsFile_4 : decode cX5_countsFile 4 = .ok (.iload_n 1, 1) := dk_27 (dk_at dksX5_countsFile_0 4 rfl rfl)
theorem dX5_countsFile_5 : decode cX5_countsFile 5 = .ok (.aload_n 0, 1) := dk_42 (dk_at dksX5_countsFile_0 5 rfl rfl)
theorem dX5_countsFile_6 : decode cX5_countsFile 6 = .ok (.iconst 2, 1) := dk_5 (dk_at dksX5_countsFile_0 6 rfl rfl)
theorem dX5_countsFile_7 : decode cX5_countsFile 7 = .ok (.invokevirtual 97, 3) := dk_182 0 97 (dk_at dksX5_countsFile_0 7 rfl rfl)
theorem dX5_countsFile_10 : decode cX5_countsFile 10 = .ok (.iastore, 1) := dk_79 (dk_at dksX5_countsFile_0 10 rfl rfl)
theorem dX5_countsFile_11 : decode cX5_countsFile 11 = .ok (.iconst 0, 1) := dk_3 (dk_at dksX5_countsFile_0 11 rfl rfl)
theorem dX5_countsFile_12 : decode cX5_countsFile 12 = .ok (.istore_n 2, 1) := dk_61 (dk_at dksX5_countsFile_0 12 rfl rfl)
theorem dX5_countsFile_13 : decode cX5_countsFile 13 = .ok (.iload_n 2, 1) := dk_28 (dk_at dksX5_countsFile_0 13 rfl rfl)
theorem dX5_countsFile_14 : decode cX5_countsFile 14 = .ok (.iload_n 1, 1) := dk_27 (dk_at dksX5_countsFile_0 14 rfl rfl)
theorem dX5_countsFile_15 : decode cX5_countsFile 15 = .ok (.if_icmp .ge 32, 3) := dk_162 0 32 (dk_at dksX5_countsFile_0 15 rfl rfl)
theorem dX5_countsFile_18 : decode cX5_countsFile 18 = .ok (.aload_n 0, 1) := dk_42 (dk_at dksX5_countsFile_0 18 rfl rfl)
theorem dX5_countsFile_19 : decode cX5_countsFile 19 = .ok (.iload_n 2, 1) := dk_28 (dk_at dksX5_countsFile_0 19 rfl rfl)
theorem dX5_countsFile_20 : decode cX5_countsFile 20 = .ok (.iload_n 1, 1) := dk_27 (dk_at dksX5_countsFile_0 20 rfl rfl)
theorem dX5_countsFile_21 : decode cX5_countsFile 21 = .ok (.invokevirtual 325, 3) := dk_182 1 69 (dk_at dksX5_countsFile_0 21 rfl rfl)
theorem dX5_countsFile_24 : decode cX5_countsFile 24 = .ok (.ifCond .eq 17, 3) := dk_153 0 17 (dk_at dksX5_countsFile_1 0 rfl rfl)
theorem dX5_countsFile_27 : decode cX5_countsFile 27 = .ok (.aload_n 0, 1) := dk_42 (dk_at dksX5_countsFile_1 3 rfl rfl)
theorem dX5_countsFile_28 : decode cX5_countsFile 28 = .ok (.getfield 40, 3) := dk_180 0 40 (dk_at dksX5_countsFile_1 4 rfl rfl)
theorem dX5_countsFile_31 : decode cX5_countsFile 31 = .ok (.iload_n 1, 1) := dk_27 (dk_at dksX5_countsFile_1 7 rfl rfl)
theorem dX5_countsFile_32 : decode cX5_countsFile 32 = .ok (.dup2, 1) := dk_92 (dk_at dksX5_countsFile_1 8 rfl rfl)
theorem dX5_countsFile_33 : decode cX5_countsFile 33 = .ok (.iaload, 1) := dk_46 (dk_at dksX5_countsFile_1 9 rfl rfl)
theorem dX5_countsFile_34 : decode cX5_countsFile 34 = .ok (.aload_n 0, 1) := dk_42 (dk_at dksX5_countsFile_1 10 rfl rfl)
theorem dX5_countsFile_35 : decode cX5_countsFile 35 = .ok (.iconst 3, 1) := dk_6 (dk_at dksX5_countsFile_1 11 rfl rfl)
theorem dX5_countsFile_36 : decode cX5_countsFile 36 = .ok (.invokevirtual 97, 3) := dk_182 0 97 (dk_at dksX5_countsFile_1 12 rfl rfl)
theorem dX5_countsFile_39 : decode cX5_countsFile 39 = .ok (.iadd, 1) := dk_96 (dk_at dksX5_countsFile_1 15 rfl rfl)
theorem dX5_countsFile_40 : decode cX5_countsFile 40 = .ok (.iastore, 1) := dk_79 (dk_at dksX5_countsFile_1 16 rfl rfl)
theorem dX5_countsFile_41 : decode cX5_countsFile 41 = .ok (.iinc 2 1, 3) := dk_132 2 1 (dk_at dksX5_countsFile_1 17 rfl rfl)
theorem dX5_countsFile_44 : decode cX5_countsFile 44 = .ok (.goto (-31), 3) := dk_167 255 225 (dk_at dksX5_countsFile_1 20 rfl rfl)
theorem dX5_countsFile_47 : decode cX5_countsFile 47 = .ok (.return_, 1) := dk_177 (dk_at dksX5_countsFile_1 23 rfl rfl)
abbrev cX5_areOneGroup : ByteArray := prog_17_method_70_code
def yX5_areOneGroup : MethodName := ⟨RX5, "areOneGroup", "(II)Z"⟩
def dkwX5_areOneGroup_4 : List UInt8 := [132, 3, 1, 167, 255, 194, 4, 172]
abbrev dktX5_areOneGroup_4 : List UInt8 := dkwX5_areOneGroup_4 ++ []
def dkwX5_areOneGroup_3 : List UInt8 := [180, 0, 7, 42, 28, 182, 0, 118, 42, 180, 0, 34, 28, 46, 29, 96, 184, 0, 114, 159, 0, 5, 3, 172]
abbrev dktX5_areOneGroup_3 : List UInt8 := dkwX5_areOneGroup_3 ++ dktX5_areOneGroup_4
def dkwX5_areOneGroup_2 : List UInt8 := [180, 0, 7, 42, 27, 182, 0, 118, 42, 180, 0, 34, 27, 46, 29, 96, 184, 0, 114, 54, 4, 21, 4, 42]
abbrev dktX5_areOneGroup_2 : List UInt8 := dkwX5_areOneGroup_2 ++ dktX5_areOneGroup_3
def dkwX5_areOneGroup_1 : List UInt8 := [180, 0, 37, 28, 46, 159, 0, 5, 3, 172, 3, 62, 29, 42, 180, 0, 37, 27, 46, 162, 0, 58, 42]
abbrev dktX5_areOneGroup_1 : List UInt8 := dkwX5_areOneGroup_1 ++ dktX5_areOneGroup_2
def dkwX5_areOneGroup_0 : List UInt8 := [42, 180, 0, 31, 27, 46, 42, 180, 0, 31, 28, 46, 160, 0, 18, 42, 180, 0, 37, 27, 46, 42]
abbrev dktX5_areOneGroup_0 : List UInt8 := dkwX5_areOneGroup_0 ++ dktX5_areOneGroup_1
theorem dksX5_areOneGroup_0 : cX5_areOneGroup.data.toList.drop 0 = dktX5_areOneGroup_0 := by decide +kernel
theorem dksX5_areOneGroup_1 : cX5_areOneGroup.data.toList.drop 22 = dktX5_areOneGroup_1 := dk_seg dksX5_areOneGroup_0 22 rfl rfl
theorem dksX5_areOneGroup_2 : cX5_areOneGroup.data.toList.drop 45 = dktX5_areOneGroup_2 := dk_seg dksX5_areOneGroup_1 23 rfl rfl
theorem dksX5_areOneGroup_3 : cX5_areOneGroup.data.toList.drop 69 = dktX5_areOneGroup_3 := dk_seg dksX5_areOneGroup_2 24 rfl rfl
theorem dksX5_areOneGroup_4 : cX5_areOneGroup.data.toList.drop 93 = dktX5_areOneGroup_4 := dk_seg dksX5_areOneGroup_3 24 rfl rfl
theorem dX5_areOneGroup_0 : decode cX5_areOneGroup 0 = .ok (.aload_n 0, 1) := dk_42 (dk_at dksX5_areOneGroup_0 0 rfl rfl)
theorem dX5_areOneGroup_1 : decode cX5_areOneGroup 1 = .ok (.getfield 31, 3) := dk_180 0 31 (dk_at dksX5_areOneGroup_0 1 rfl rfl)
theorem dX5_areOneGroup_4 : decode cX5_areOneGroup 4 = .ok (.iload_n 1, 1) := dk_27 (dk_at dksX5_areOneGroup_0 4 rfl rfl)
theorem dX5_areOneGroup_5 : decode cX5_areOneGroup 5 = .ok (.iaload, 1) := dk_46 (dk_at dksX5_areOneGroup_0 5 rfl rfl)
theorem dX5_areOneGroup_6 : decode cX5_areOneGroup 6 = .ok (.aload_n 0, 1) := dk_42 (dk_at dksX5_areOneGroup_0 6 rfl rfl)
theorem dX5_areOneGroup_7 : decode cX5_areOneGroup 7 = .ok (.getfield 31, 3) := dk_180 0 31 (dk_at dksX5_areOneGroup_0 7 rfl rfl)
theorem dX5_areOneGroup_10 : decode cX5_areOneGroup 10 = .ok (.iload_n 2, 1) := dk_28 (dk_at dksX5_areOneGroup_0 10 rfl rfl)
theorem dX5_areOneGroup_11 : decode cX5_areOneGroup 11 = .ok (.iaload, 1) := dk_46 (dk_at dksX5_areOneGroup_0 11 rfl rfl)
theorem dX5_areOneGroup_12 : decode cX5_areOneGroup 12 = .ok (.if_icmp .ne 18, 3) := dk_160 0 18 (dk_at dksX5_areOneGroup_0 12 rfl rfl)
theorem dX5_areOneGroup_15 : decode cX5_areOneGroup 15 = .ok (.aload_n 0, 1) := dk_42 (dk_at dksX5_areOneGroup_0 15 rfl rfl)
theorem dX5_areOneGroup_16 : decode cX5_areOneGroup 16 = .ok (.getfield 37, 3) := dk_180 0 37 (dk_at dksX5_areOneGroup_0 16 rfl rfl)
theorem dX5_areOneGroup_19 : decode cX5_areOneGroup 19 = .ok (.iload_n 1, 1) := dk_27 (dk_at dksX5_areOneGroup_0 19 rfl rfl)
theorem dX5_areOneGroup_20 : decode cX5_areOneGroup 20 = .ok (.iaload, 1) := dk_46 (dk_at dksX5_areOneGroup_0 20 rfl rfl)
theorem dX5_areOneGroup_21 : decode cX5_areOneGroup 21 = .ok (.aload_n 0, 1) := dk_42 (dk_at dksX5_areOneGroup_0 21 rfl rfl)
theorem dX5_areOneGroup_22 : decode cX5_areOneGroup 22 = .ok (.getfield 37, 3) := dk_180 0 37 (dk_at dksX5_areOneGroup_1 0 rfl rfl)
theorem dX5_areOneGroup_25 : decode cX5_areOneGroup 25 = .ok (.iload_n 2, 1) := dk_28 (dk_at dksX5_areOneGroup_1 3 rfl rfl)
theorem dX5_areOneGroup_26 : decode cX5_areOneGroup 26 = .ok (.iaload, 1) := dk_46 (dk_at dksX5_areOneGroup_1 4 rfl rfl)
theorem dX5_areOneGroup_27 : decode cX5_areOneGroup 27 = .ok (.if_icmp .eq 5, 3) := dk_159 0 5 (dk_at dksX5_areOneGroup_1 5 rfl rfl)
theorem dX5_areOneGroup_30 : decode cX5_areOneGroup 30 = .ok (.iconst 0, 1) := dk_3 (dk_at dksX5_areOneGroup_1 8 rfl rfl)
theorem dX5_areOneGroup_31 : decode cX5_areOneGroup 31 = .ok (.ireturn, 1) := dk_172 (dk_at dksX5_areOneGroup_1 9 rfl rfl)
theorem dX5_areOneGroup_32 : decode cX5_areOneGroup 32 = .ok (.iconst 0, 1) := dk_3 (dk_at dksX5_areOneGroup_1 10 rfl rfl)
theorem dX5_areOneGroup_33 : decode cX5_areOneGroup 33 = .ok (.istore_n 3, 1) := dk_62 (dk_at dksX5_areOneGroup_1 11 rfl rfl)
theorem dX5_areOneGroup_34 : decode cX5_areOneGroup 34 = .ok (.iload_n 3, 1) := dk_29 (dk_at dksX5_areOneGroup_1 12 rfl rfl)
theorem dX5_areOneGroup_35 : decode cX5_areOneGroup 35 = .ok (.aload_n 0, 1) := dk_42 (dk_at dksX5_areOneGroup_1 13 rfl rfl)
theorem dX5_areOneGroup_36 : decode cX5_areOneGroup 36 = .ok (.getfield 37, 3) := dk_180 0 37 (dk_at dksX5_areOneGroup_1 14 rfl rfl)
theorem dX5_areOneGroup_39 : decode cX5_areOneGroup 39 = .ok (.iload_n 1, 1) := dk_27 (dk_at dksX5_areOneGroup_1 17 rfl rfl)
theorem dX5_areOneGroup_40 : decode cX5_areOneGroup 40 = .ok (.iaload, 1) := dk_46 (dk_at dksX5_areOneGroup_1 18 rfl rfl)
theorem dX5_areOneGroup_41 : decode cX5_areOneGroup 41 = .ok (.if_icmp .ge 58, 3) := dk_162 0 58 (dk_at dksX5_areOneGroup_1 19 rfl rfl)
theorem dX5_areOneGroup_44 : decode cX5_areOneGroup 44 = .ok (.aload_n 0, 1) := dk_42 (dk_at dksX5_areOneGroup_1 22 rfl rfl)
theorem dX5_areOneGroup_45 : decode cX5_areOneGroup 45 = .ok (.getfield 7, 3) := dk_180 0 7 (dk_at dksX5_areOneGroup_2 0 rfl rfl)
theorem dX5_areOneGroup_48 : decode cX5_areOneGroup 48 = .ok (.aload_n 0, 1) := dk_42 (dk_at dksX5_areOneGroup_2 3 rfl rfl)
theorem dX5_areOneGroup_49 : decode cX5_areOneGroup 49 = .ok (.iload_n 1, 1) := dk_27 (dk_at dksX5_areOneGroup_2 4 rfl rfl)
theorem dX5_areOneGroup_50 : decode cX5_areOneGroup 50 = .ok (.invokevirtual 118, 3) := dk_182 0 118 (dk_at dksX5_areOneGroup_2 5 rfl rfl)
theorem dX5_areOneGroup_53 : decode cX5_areOneGroup 53 = .ok (.aload_n 0, 1) := dk_42 (dk_at dksX5_areOneGroup_2 8 rfl rfl)
theorem dX5_areOneGroup_54 : decode cX5_areOneGroup 54 = .ok (.getfield 34, 3) := dk_180 0 34 (dk_at dksX5_areOneGroup_2 9 rfl rfl)
theorem dX5_areOneGroup_57 : decode cX5_areOneGroup 57 = .ok (.iload_n 1, 1) := dk_27 (dk_at dksX5_areOneGroup_2 12 rfl rfl)
theorem dX5_areOneGroup_58 : decode cX5_areOneGroup 58 = .ok (.iaload, 1) := dk_46 (dk_at dksX5_areOneGroup_2 13 rfl rfl)
theorem dX5_areOneGroup_59 : decode cX5_areOneGroup 59 = .ok (.iload_n 3, 1) := dk_29 (dk_at dksX5_areOneGroup_2 14 rfl rfl)
theorem dX5_areOneGroup_60 : decode cX5_areOneGroup 60 = .ok (.iadd, 1) := dk_96 (dk_at dksX5_areOneGroup_2 15 rfl rfl)
theorem dX5_areOneGroup_61 : decode cX5_areOneGroup 61 = .ok (.invokestatic 114, 3) := dk_184 0 114 (dk_at dksX5_areOneGroup_2 16 rfl rfl)
theorem dX5_areOneGroup_64 : decode cX5_areOneGroup 64 = .ok (.istore 4, 2) := dk_54 4 (dk_at dksX5_areOneGroup_2 19 rfl rfl)
theorem dX5_areOneGroup_66 : decode cX5_areOneGroup 66 = .ok (.iload 4, 2) := dk_21 4 (dk_at dksX5_areOneGroup_2 21 rfl rfl)
theorem dX5_areOneGroup_68 : decode cX5_areOneGroup 68 = .ok (.aload_n 0, 1) := dk_42 (dk_at dksX5_areOneGroup_2 23 rfl rfl)
theorem dX5_areOneGroup_69 : decode cX5_areOneGroup 69 = .ok (.getfield 7, 3) := dk_180 0 7 (dk_at dksX5_areOneGroup_3 0 rfl rfl)
theorem dX5_areOneGroup_72 : decode cX5_areOneGroup 72 = .ok (.aload_n 0, 1) := dk_42 (dk_at dksX5_areOneGroup_3 3 rfl rfl)
theorem dX5_areOneGroup_73 : decode cX5_areOneGroup 73 = .ok (.iload_n 2, 1) := dk_28 (dk_at dksX5_areOneGroup_3 4 rfl rfl)
theorem dX5_areOneGroup_74 : decode cX5_areOneGroup 74 = .ok (.invokevirtual 118, 3) := dk_182 0 118 (dk_at dksX5_areOneGroup_3 5 rfl rfl)
theorem dX5_areOneGroup_77 : decode cX5_areOneGroup 77 = .ok (.aload_n 0, 1) := dk_42 (dk_at dksX5_areOneGroup_3 8 rfl rfl)
theorem dX5_areOneGroup_78 : decode cX5_areOneGroup 78 = .ok (.getfield 34, 3) := dk_180 0 34 (dk_at dksX5_areOneGroup_3 9 rfl rfl)
theorem dX5_areOneGroup_81 : decode cX5_areOneGroup 81 = .ok (.iload_n 2, 1) := dk_28 (dk_at dksX5_areOneGroup_3 12 rfl rfl)
theorem dX5_areOneGroup_82 : decode cX5_areOneGroup 82 = .ok (.iaload, 1) := dk_46 (dk_at dksX5_areOneGroup_3 13 rfl rfl)
theorem dX5_areOneGroup_83 : decode cX5_areOneGroup 83 = .ok (.iload_n 3, 1) := dk_29 (dk_at dksX5_areOneGroup_3 14 rfl rfl)
theorem dX5_areOneGroup_84 : decode cX5_areOneGroup 84 = .ok (.iadd, 1) := dk_96 (dk_at dksX5_areOneGroup_3 15 rfl rfl)
theorem dX5_areOneGroup_85 : decode cX5_areOneGroup 85 = .ok (.invokestatic 114, 3) := dk_184 0 114 (dk_at dksX5_areOneGroup_3 16 rfl rfl)
theorem dX5_areOneGroup_88 : decode cX5_areOneGroup 88 = .ok (.if_icmp .eq 5, 3) := dk_159 0 5 (dk_at dksX5_areOneGroup_3 19 rfl rfl)
theorem dX5_areOneGroup_91 : decode cX5_areOneGroup 91 = .ok (.iconst 0, 1) := dk_3 (dk_at dksX5_areOneGroup_3 22 rfl rfl)
theorem dX5_areOneGroup_92 : decode cX5_areOneGroup 92 = .ok (.ireturn, 1) := dk_172 (dk_at dksX5_areOneGroup_3 23 rfl rfl)
theorem dX5_areOneGroup_93 : decode cX5_areOneGroup 93 = .ok (.iinc 3 1, 3) := dk_132 3 1 (dk_at dksX5_areOneGroup_4 0 rfl rfl)
theorem dX5_areOneGroup_96 : decode cX5_areOneGroup 96 = .ok (.goto (-62), 3) := dk_167 255 194 (dk_at dksX5_areOneGroup_4 3 rfl rfl)
theorem dX5_areOneGroup_99 : decode cX5_areOneGroup 99 = .ok (.iconst 1, 1) := dk_4 (dk_at dksX5_areOneGroup_4 6 rfl rfl)
theorem dX5_areOneGroup_100 : decode cX5_areOneGroup 100 = .ok (.ireturn, 1) := dk_172 (dk_at dksX5_areOneGroup_4 7 rfl rfl)
abbrev cX5_makesNew : ByteArray := prog_17_method_73_code
def yX5_makesNew : MethodName := ⟨RX5, "makesNew", "(I)V"⟩
def dkwX5_makesNew_4 : List UInt8 := [100, 182, 1, 66, 132, 4, 1, 167, 255, 179, 177]
abbrev dktX5_makesNew_4 : List UInt8 := dkwX5_makesNew_4 ++ []
def dkwX5_makesNew_3 : List UInt8 := [16, 110, 160, 0, 11, 42, 27, 182, 1, 63, 167, 0, 18, 42, 27, 42, 28, 21, 4, 182, 1, 60, 16, 49]
abbrev dktX5_makesNew_3 : List UInt8 := dkwX5_makesNew_3 ++ dktX5_makesNew_4
def dkwX5_makesNew_2 : List UInt8 := [159, 0, 13, 42, 27, 21, 5, 182, 1, 57, 167, 0, 41, 132, 4, 1, 42, 28, 21, 4, 182, 1, 60]
abbrev dktX5_makesNew_2 : List UInt8 := dkwX5_makesNew_2 ++ dktX5_makesNew_3
def dkwX5_makesNew_1 : List UInt8 := [42, 28, 21, 4, 182, 1, 60, 153, 0, 73, 42, 28, 21, 4, 182, 1, 60, 54, 5, 21, 5, 16, 37]
abbrev dktX5_makesNew_1 : List UInt8 := dkwX5_makesNew_1 ++ dktX5_makesNew_2
def dkwX5_makesNew_0 : List UInt8 := [42, 180, 0, 31, 27, 46, 61, 42, 28, 27, 182, 1, 54, 62, 42, 180, 0, 43, 27, 3, 79, 3, 54, 4]
abbrev dktX5_makesNew_0 : List UInt8 := dkwX5_makesNew_0 ++ dktX5_makesNew_1
theorem dksX5_makesNew_0 : cX5_makesNew.data.toList.drop 0 = dktX5_makesNew_0 := by decide +kernel
theorem dksX5_makesNew_1 : cX5_makesNew.data.toList.drop 24 = dktX5_makesNew_1 := dk_seg dksX5_makesNew_0 24 rfl rfl
theorem dksX5_makesNew_2 : cX5_makesNew.data.toList.drop 47 = dktX5_makesNew_2 := dk_seg dksX5_makesNew_1 23 rfl rfl
theorem dksX5_makesNew_3 : cX5_makesNew.data.toList.drop 70 = dktX5_makesNew_3 := dk_seg dksX5_makesNew_2 23 rfl rfl
theorem dksX5_makesNew_4 : cX5_makesNew.data.toList.drop 94 = dktX5_makesNew_4 := dk_seg dksX5_makesNew_3 24 rfl rfl
theorem dX5_makesNew_0 : decode cX5_makesNew 0 = .ok (.aload_n 0, 1) := dk_42 (dk_at dksX5_makesNew_0 0 rfl rfl)
theorem dX5_makesNew_1 : decode cX5_makesNew 1 = .ok (.getfield 31, 3) := dk_180 0 31 (dk_at dksX5_makesNew_0 1 rfl rfl)
theorem dX5_makesNew_4 : decode cX5_makesNew 4 = .ok (.iload_n 1, 1) := dk_27 (dk_at dksX5_makesNew_0 4 rfl rfl)
theorem dX5_makesNew_5 : decode cX5_makesNew 5 = .ok (.iaload, 1) := dk_46 (dk_at dksX5_makesNew_0 5 rfl rfl)
theorem dX5_makesNew_6 : decode cX5_makesNew 6 = .ok (.istore_n 2, 1) := dk_61 (dk_at dksX5_makesNew_0 6 rfl rfl)
theorem dX5_makesNew_7 : decode cX5_makesNew 7 = .ok (.aload_n 0, 1) := dk_42 (dk_at dksX5_makesNew_0 7 rfl rfl)
theorem dX5_makesNew_8 : decode cX5_makesNew 8 = .ok (.iload_n 2, 1) := dk_28 (dk_at dksX5_makesNew_0 8 rfl rfl)
theorem dX5_makesNew_9 : decode cX5_makesNew 9 = .ok (.iload_n 1, 1) := dk_27 (dk_at dksX5_makesNew_0 9 rfl rfl)
theorem dX5_makesNew_10 : decode cX5_makesNew 10 = .ok (.invokevirtual 310, 3) := dk_182 1 54 (dk_at dksX5_makesNew_0 10 rfl rfl)
theorem dX5_makesNew_13 : decode cX5_makesNew 13 = .ok (.istore_n 3, 1) := dk_62 (dk_at dksX5_makesNew_0 13 rfl rfl)
theorem dX5_makesNew_14 : decode cX5_makesNew 14 = .ok (.aload_n 0, 1) := dk_42 (dk_at dksX5_makesNew_0 14 rfl rfl)
theorem dX5_makesNew_15 : decode cX5_makesNew 15 = .ok (.getfield 43, 3) := dk_180 0 43 (dk_at dksX5_makesNew_0 15 rfl rfl)
theorem dX5_makesNew_18 : decode cX5_makesNew 18 = .ok (.iload_n 1, 1) := dk_27 (dk_at dksX5_makesNew_0 18 rfl rfl)
theorem dX5_makesNew_19 : decode cX5_makesNew 19 = .ok (.iconst 0, 1) := dk_3 (dk_at dksX5_makesNew_0 19 rfl rfl)
theorem dX5_makesNew_20 : decode cX5_makesNew 20 = .ok (.iastore, 1) := dk_79 (dk_at dksX5_makesNew_0 20 rfl rfl)
theorem dX5_makesNew_21 : decode cX5_makesNew 21 = .ok (.iconst 0, 1) := dk_3 (dk_at dksX5_makesNew_0 21 rfl rfl)
theorem dX5_makesNew_22 : decode cX5_makesNew 22 = .ok (.istore 4, 2) := dk_54 4 (dk_at dksX5_makesNew_0 22 rfl rfl)
theorem dX5_makesNew_24 : decode cX5_makesNew 24 = .ok (.aload_n 0, 1) := dk_42 (dk_at dksX5_makesNew_1 0 rfl rfl)
theorem dX5_makesNew_25 : decode cX5_makesNew 25 = .ok (.iload_n 2, 1) := dk_28 (dk_at dksX5_makesNew_1 1 rfl rfl)
theorem dX5_makesNew_26 : decode cX5_makesNew 26 = .ok (.iload 4, 2) := dk_21 4 (dk_at dksX5_makesNew_1 2 rfl rfl)
theorem dX5_makesNew_28 : decode cX5_makesNew 28 = .ok (.invokevirtual 316, 3) := dk_182 1 60 (dk_at dksX5_makesNew_1 4 rfl rfl)
theorem dX5_makesNew_31 : decode cX5_makesNew 31 = .ok (.ifCond .eq 73, 3) := dk_153 0 73 (dk_at dksX5_makesNew_1 7 rfl rfl)
theorem dX5_makesNew_34 : decode cX5_makesNew 34 = .ok (.aload_n 0, 1) := dk_42 (dk_at dksX5_makesNew_1 10 rfl rfl)
theorem dX5_makesNew_35 : decode cX5_makesNew 35 = .ok (.iload_n 2, 1) := dk_28 (dk_at dksX5_makesNew_1 11 rfl rfl)
theorem dX5_makesNew_36 : decode cX5_makesNew 36 = .ok (.iload 4, 2) := dk_21 4 (dk_at dksX5_makesNew_1 12 rfl rfl)
theorem dX5_makesNew_38 : decode cX5_makesNew 38 = .ok (.invokevirtual 316, 3) := dk_182 1 60 (dk_at dksX5_makesNew_1 14 rfl rfl)
theorem dX5_makesNew_41 : decode cX5_makesNew 41 = .ok (.istore 5, 2) := dk_54 5 (dk_at dksX5_makesNew_1 17 rfl rfl)
theorem dX5_makesNew_43 : decode cX5_makesNew 43 = .ok (.iload 5, 2) := dk_21 5 (dk_at dksX5_makesNew_1 19 rfl rfl)
theorem dX5_makesNew_45 : decode cX5_makesNew 45 = .ok (.bipush 37, 2) := dk_16 37 (dk_at dksX5_makesNew_1 21 rfl rfl)
theorem dX5_makesNew_47 : decode cX5_makesNew 47 = .ok (.if_icmp .eq 13, 3) := dk_159 0 13 (dk_at dksX5_makesNew_2 0 rfl rfl)
theorem dX5_makesNew_50 : decode cX5_makesNew 50 = .ok (.aload_n 0, 1) := dk_42 (dk_at dksX5_makesNew_2 3 rfl rfl)
theorem dX5_makesNew_51 : decode cX5_makesNew 51 = .ok (.iload_n 1, 1) := dk_27 (dk_at dksX5_makesNew_2 4 rfl rfl)
theorem dX5_makesNew_52 : decode cX5_makesNew 52 = .ok (.iload 5, 2) := dk_21 5 (dk_at dksX5_makesNew_2 5 rfl rfl)
theorem dX5_makesNew_54 : decode cX5_makesNew 54 = .ok (.invokevirtual 313, 3) := dk_182 1 57 (dk_at dksX5_makesNew_2 7 rfl rfl)
theorem dX5_makesNew_57 : decode cX5_makesNew 57 = .ok (.goto 41, 3) := dk_167 0 41 (dk_at dksX5_makesNew_2 10 rfl rfl)
theorem dX5_makesNew_60 : decode cX5_makesNew 60 = .ok (.iinc 4 1, 3) := dk_132 4 1 (dk_at dksX5_makesNew_2 13 rfl rfl)
theorem dX5_makesNew_63 : decode cX5_makesNew 63 = .ok (.aload_n 0, 1) := dk_42 (dk_at dksX5_makesNew_2 16 rfl rfl)
theorem dX5_makesNew_64 : decode cX5_makesNew 64 = .ok (.iload_n 2, 1) := dk_28 (dk_at dksX5_makesNew_2 17 rfl rfl)
theorem dX5_makesNew_65 : decode cX5_makesNew 65 = .ok (.iload 4, 2) := dk_21 4 (dk_at dksX5_makesNew_2 18 rfl rfl)
theorem dX5_makesNew_67 : decode cX5_makesNew 67 = .ok (.invokevirtual 316, 3) := dk_182 1 60 (dk_at dksX5_makesNew_2 20 rfl rfl)
theorem dX5_makesNew_70 : decode cX5_makesNew 70 = .ok (.bipush 110, 2) := dk_16 110 (dk_at dksX5_makesNew_3 0 rfl rfl)
theorem dX5_makesNew_72 : decode cX5_makesNew 72 = .ok (.if_icmp .ne 11, 3) := dk_160 0 11 (dk_at dksX5_makesNew_3 2 rfl rfl)
theorem dX5_makesNew_75 : decode cX5_makesNew 75 = .ok (.aload_n 0, 1) := dk_42 (dk_at dksX5_makesNew_3 5 rfl rfl)
theorem dX5_makesNew_76 : decode cX5_makesNew 76 = .ok (.iload_n 1, 1) := dk_27 (dk_at dksX5_makesNew_3 6 rfl rfl)
theorem dX5_makesNew_77 : decode cX5_makesNew 77 = .ok (.invokevirtual 319, 3) := dk_182 1 63 (dk_at dksX5_makesNew_3 7 rfl rfl)
theorem dX5_makesNew_80 : decode cX5_makesNew 80 = .ok (.goto 18, 3) := dk_167 0 18 (dk_at dksX5_makesNew_3 10 rfl rfl)
theorem dX5_makesNew_83 : decode cX5_makesNew 83 = .ok (.aload_n 0, 1) := dk_42 (dk_at dksX5_makesNew_3 13 rfl rfl)
theorem dX5_makesNew_84 : decode cX5_makesNew 84 = .ok (.iload_n 1, 1) := dk_27 (dk_at dksX5_makesNew_3 14 rfl rfl)
theorem dX5_makesNew_85 : decode cX5_makesNew 85 = .ok (.aload_n 0, 1) := dk_42 (dk_at dksX5_makesNew_3 15 rfl rfl)
theorem dX5_makesNew_86 : decode cX5_makesNew 86 = .ok (.iload_n 2, 1) := dk_28 (dk_at dksX5_makesNew_3 16 rfl rfl)
theorem dX5_makesNew_87 : decode cX5_makesNew 87 = .ok (.iload 4, 2) := dk_21 4 (dk_at dksX5_makesNew_3 17 rfl rfl)
theorem dX5_makesNew_89 : decode cX5_makesNew 89 = .ok (.invokevirtual 316, 3) := dk_182 1 60 (dk_at dksX5_makesNew_3 19 rfl rfl)
theorem dX5_makesNew_92 : decode cX5_makesNew 92 = .ok (.bipush 49, 2) := dk_16 49 (dk_at dksX5_makesNew_3 22 rfl rfl)
theorem dX5_makesNew_94 : decode cX5_makesNew 94 = .ok (.isub, 1) := dk_100 (dk_at dksX5_makesNew_4 0 rfl rfl)
theorem dX5_makesNew_95 : decode cX5_makesNew 95 = .ok (.invokevirtual 322, 3) := dk_182 1 66 (dk_at dksX5_makesNew_4 1 rfl rfl)
theorem dX5_makesNew_98 : decode cX5_makesNew 98 = .ok (.iinc 4 1, 3) := dk_132 4 1 (dk_at dksX5_makesNew_4 4 rfl rfl)
theorem dX5_makesNew_101 : decode cX5_makesNew 101 = .ok (.goto (-77), 3) := dk_167 255 179 (dk_at dksX5_makesNew_4 7 rfl rfl)
theorem dX5_makesNew_104 : decode cX5_makesNew 104 = .ok (.return_, 1) := dk_177 (dk_at dksX5_makesNew_4 10 rfl rfl)
abbrev cX5_templateSign : ByteArray := prog_17_method_21_code
def yX5_templateSign : MethodName := ⟨RX5, "templateSign", "(II)I"⟩
def dkwX5_templateSign_1 : List UInt8 := [184, 0, 114, 172]
abbrev dktX5_templateSign_1 : List UInt8 := dkwX5_templateSign_1 ++ []
def dkwX5_templateSign_0 : List UInt8 := [28, 16, 16, 161, 0, 7, 3, 167, 0, 18, 42, 180, 0, 7, 42, 27, 182, 0, 124, 5, 96, 28]
abbrev dktX5_templateSign_0 : List UInt8 := dkwX5_templateSign_0 ++ dktX5_templateSign_1
theorem dksX5_templateSign_0 : cX5_templateSign.data.toList.drop 0 = dktX5_templateSign_0 := by decide +kernel
theorem dksX5_templateSign_1 : cX5_templateSign.data.toList.drop 22 = dktX5_templateSign_1 := dk_seg dksX5_templateSign_0 22 rfl rfl
theorem dX5_templateSign_0 : decode cX5_templateSign 0 = .ok (.iload_n 2, 1) := dk_28 (dk_at dksX5_templateSign_0 0 rfl rfl)
theorem dX5_templateSign_1 : decode cX5_templateSign 1 = .ok (.bipush 16, 2) := dk_16 16 (dk_at dksX5_templateSign_0 1 rfl rfl)
theorem dX5_templateSign_3 : decode cX5_templateSign 3 = .ok (.if_icmp .lt 7, 3) := dk_161 0 7 (dk_at dksX5_templateSign_0 3 rfl rfl)
theorem dX5_templateSign_6 : decode cX5_templateSign 6 = .ok (.iconst 0, 1) := dk_3 (dk_at dksX5_templateSign_0 6 rfl rfl)
theorem dX5_templateSign_7 : decode cX5_templateSign 7 = .ok (.goto 18, 3) := dk_167 0 18 (dk_at dksX5_templateSign_0 7 rfl rfl)
theorem dX5_templateSign_10 : decode cX5_templateSign 10 = .ok (.aload_n 0, 1) := dk_42 (dk_at dksX5_templateSign_0 10 rfl rfl)
theorem dX5_templateSign_11 : decode cX5_templateSign 11 = .ok (.getfield 7, 3) := dk_180 0 7 (dk_at dksX5_templateSign_0 11 rfl rfl)
theorem dX5_templateSign_14 : decode cX5_templateSign 14 = .ok (.aload_n 0, 1) := dk_42 (dk_at dksX5_templateSign_0 14 rfl rfl)
theorem dX5_templateSign_15 : decode cX5_templateSign 15 = .ok (.iload_n 1, 1) := dk_27 (dk_at dksX5_templateSign_0 15 rfl rfl)
theorem dX5_templateSign_16 : decode cX5_templateSign 16 = .ok (.invokevirtual 124, 3) := dk_182 0 124 (dk_at dksX5_templateSign_0 16 rfl rfl)
theorem dX5_templateSign_19 : decode cX5_templateSign 19 = .ok (.iconst 2, 1) := dk_5 (dk_at dksX5_templateSign_0 19 rfl rfl)
theorem dX5_templateSign_20 : decode cX5_templateSign 20 = .ok (.iadd, 1) := dk_96 (dk_at dksX5_templateSign_0 20 rfl rfl)
theorem dX5_templateSign_21 : decode cX5_templateSign 21 = .ok (.iload_n 2, 1) := dk_28 (dk_at dksX5_templateSign_0 21 rfl rfl)
theorem dX5_templateSign_22 : decode cX5_templateSign 22 = .ok (.invokestatic 114, 3) := dk_184 0 114 (dk_at dksX5_templateSign_1 0 rfl rfl)
theorem dX5_templateSign_25 : decode cX5_templateSign 25 = .ok (.ireturn, 1) := dk_172 (dk_at dksX5_templateSign_1 3 rfl rfl)
abbrev cX5_adds : ByteArray := prog_17_method_71_code
def yX5_adds : MethodName := ⟨RX5, "adds", "(II)V"⟩
def dkwX5_adds_1 : List UInt8 := [92, 46, 4, 96, 79, 177]
abbrev dktX5_adds_1 : List UInt8 := dkwX5_adds_1 ++ []
def dkwX5_adds_0 : List UInt8 := [42, 180, 0, 46, 17, 0, 200, 27, 104, 42, 180, 0, 43, 27, 46, 96, 28, 146, 85, 42, 180, 0, 43, 27]
abbrev dktX5_adds_0 : List UInt8 := dkwX5_adds_0 ++ dktX5_adds_1
theorem dksX5_adds_0 : cX5_adds.data.toList.drop 0 = dktX5_adds_0 := by decide +kernel
theorem dksX5_adds_1 : cX5_adds.data.toList.drop 24 = dktX5_adds_1 := dk_seg dksX5_adds_0 24 rfl rfl
theorem dX5_adds_0 : decode cX5_adds 0 = .ok (.aload_n 0, 1) := dk_42 (dk_at dksX5_adds_0 0 rfl rfl)
theorem dX5_adds_1 : decode cX5_adds 1 = .ok (.getfield 46, 3) := dk_180 0 46 (dk_at dksX5_adds_0 1 rfl rfl)
theorem dX5_adds_4 : decode cX5_adds 4 = .ok (.sipush 200, 3) := dk_17 0 200 (dk_at dksX5_adds_0 4 rfl rfl)
theorem dX5_adds_7 : decode cX5_adds 7 = .ok (.iload_n 1, 1) := dk_27 (dk_at dksX5_adds_0 7 rfl rfl)
theorem dX5_adds_8 : decode cX5_adds 8 = .ok (.imul, 1) := dk_104 (dk_at dksX5_adds_0 8 rfl rfl)
theorem dX5_adds_9 : decode cX5_adds 9 = .ok (.aload_n 0, 1) := dk_42 (dk_at dksX5_adds_0 9 rfl rfl)
theorem dX5_adds_10 : decode cX5_adds 10 = .ok (.getfield 43, 3) := dk_180 0 43 (dk_at dksX5_adds_0 10 rfl rfl)
theorem dX5_adds_13 : decode cX5_adds 13 = .ok (.iload_n 1, 1) := dk_27 (dk_at dksX5_adds_0 13 rfl rfl)
theorem dX5_adds_14 : decode cX5_adds 14 = .ok (.iaload, 1) := dk_46 (dk_at dksX5_adds_0 14 rfl rfl)
theorem dX5_adds_15 : decode cX5_adds 15 = .ok (.iadd, 1) := dk_96 (dk_at dksX5_adds_0 15 rfl rfl)
theorem dX5_adds_16 : decode cX5_adds 16 = .ok (.iload_n 2, 1) := dk_28 (dk_at dksX5_adds_0 16 rfl rfl)
theorem dX5_adds_17 : decode cX5_adds 17 = .ok (.i2c, 1) := dk_146 (dk_at dksX5_adds_0 17 rfl rfl)
theorem dX5_adds_18 : decode cX5_adds 18 = .ok (.castore, 1) := dk_85 (dk_at dksX5_adds_0 18 rfl rfl)
theorem dX5_adds_19 : decode cX5_adds 19 = .ok (.aload_n 0, 1) := dk_42 (dk_at dksX5_adds_0 19 rfl rfl)
theorem dX5_adds_20 : decode cX5_adds 20 = .ok (.getfield 43, 3) := dk_180 0 43 (dk_at dksX5_adds_0 20 rfl rfl)
theorem dX5_adds_23 : decode cX5_adds 23 = .ok (.iload_n 1, 1) := dk_27 (dk_at dksX5_adds_0 23 rfl rfl)
theorem dX5_adds_24 : decode cX5_adds 24 = .ok (.dup2, 1) := dk_92 (dk_at dksX5_adds_1 0 rfl rfl)
theorem dX5_adds_25 : decode cX5_adds 25 = .ok (.iaload, 1) := dk_46 (dk_at dksX5_adds_1 1 rfl rfl)
theorem dX5_adds_26 : decode cX5_adds 26 = .ok (.iconst 1, 1) := dk_4 (dk_at dksX5_adds_1 2 rfl rfl)
theorem dX5_adds_27 : decode cX5_adds 27 = .ok (.iadd, 1) := dk_96 (dk_at dksX5_adds_1 3 rfl rfl)
theorem dX5_adds_28 : decode cX5_adds 28 = .ok (.iastore, 1) := dk_79 (dk_at dksX5_adds_1 4 rfl rfl)
theorem dX5_adds_29 : decode cX5_adds 29 = .ok (.return_, 1) := dk_177 (dk_at dksX5_adds_1 5 rfl rfl)
abbrev cX5_addsCounter : ByteArray := prog_17_method_72_code
def yX5_addsCounter : MethodName := ⟨RX5, "addsCounter", "(I)V"⟩
def dkwX5_addsCounter_3 : List UInt8 := [21, 5, 16, 10, 108, 54, 5, 167, 255, 224, 177]
abbrev dktX5_addsCounter_3 : List UInt8 := dkwX5_addsCounter_3 ++ []
def dkwX5_addsCounter_2 : List UInt8 := [158, 0, 33, 42, 27, 16, 48, 42, 180, 0, 40, 27, 46, 21, 5, 108, 16, 10, 112, 96, 182, 1, 57]
abbrev dktX5_addsCounter_2 : List UInt8 := dkwX5_addsCounter_2 ++ dktX5_addsCounter_3
def dkwX5_addsCounter_1 : List UInt8 := [108, 16, 9, 164, 0, 14, 29, 16, 10, 104, 62, 132, 4, 1, 167, 255, 229, 29, 54, 5, 21, 5]
abbrev dktX5_addsCounter_1 : List UInt8 := dkwX5_addsCounter_1 ++ dktX5_addsCounter_2
def dkwX5_addsCounter_0 : List UInt8 := [42, 7, 182, 0, 97, 61, 4, 62, 4, 54, 4, 21, 4, 28, 161, 0, 16, 42, 180, 0, 40, 27, 46, 29]
abbrev dktX5_addsCounter_0 : List UInt8 := dkwX5_addsCounter_0 ++ dktX5_addsCounter_1
theorem dksX5_addsCounter_0 : cX5_addsCounter.data.toList.drop 0 = dktX5_addsCounter_0 := by decide +kernel
theorem dksX5_addsCounter_1 : cX5_addsCounter.data.toList.drop 24 = dktX5_addsCounter_1 := dk_seg dksX5_addsCounter_0 24 rfl rfl
theorem dksX5_addsCounter_2 : cX5_addsCounter.data.toList.drop 46 = dktX5_addsCounter_2 := dk_seg dksX5_addsCounter_1 22 rfl rfl
theorem dksX5_addsCounter_3 : cX5_addsCounter.data.toList.drop 69 = dktX5_addsCounter_3 := dk_seg dksX5_addsCounter_2 23 rfl rfl
theorem dX5_addsCounter_0 : decode cX5_addsCounter 0 = .ok (.aload_n 0, 1) := dk_42 (dk_at dksX5_addsCounter_0 0 rfl rfl)
theorem dX5_addsCounter_1 : decode cX5_addsCounter 1 = .ok (.iconst 4, 1) := dk_7 (dk_at dksX5_addsCounter_0 1 rfl rfl)
theorem dX5_addsCounter_2 : decode cX5_addsCounter 2 = .ok (.invokevirtual 97, 3) := dk_182 0 97 (dk_at dksX5_addsCounter_0 2 rfl rfl)
theorem dX5_addsCounter_5 : decode cX5_addsCounter 5 = .ok (.istore_n 2, 1) := dk_61 (dk_at dksX5_addsCounter_0 5 rfl rfl)
theorem dX5_addsCounter_6 : decode cX5_addsCounter 6 = .ok (.iconst 1, 1) := dk_4 (dk_at dksX5_addsCounter_0 6 rfl rfl)
theorem dX5_addsCounter_7 : decode cX5_addsCounter 7 = .ok (.istore_n 3, 1) := dk_62 (dk_at dksX5_addsCounter_0 7 rfl rfl)
theorem dX5_addsCounter_8 : decode cX5_addsCounter 8 = .ok (.iconst 1, 1) := dk_4 (dk_at dksX5_addsCounter_0 8 rfl rfl)
theorem dX5_addsCounter_9 : decode cX5_addsCounter 9 = .ok (.istore 4, 2) := dk_54 4 (dk_at dksX5_addsCounter_0 9 rfl rfl)
theorem dX5_addsCounter_11 : decode cX5_addsCounter 11 = .ok (.iload 4, 2) := dk_21 4 (dk_at dksX5_addsCounter_0 11 rfl rfl)
theorem dX5_addsCounter_13 : decode cX5_addsCounter 13 = .ok (.iload_n 2, 1) := dk_28 (dk_at dksX5_addsCounter_0 13 rfl rfl)
theorem dX5_addsCounter_14 : decode cX5_addsCounter 14 = .ok (.if_icmp .lt 16, 3) := dk_161 0 16 (dk_at dksX5_addsCounter_0 14 rfl rfl)
theorem dX5_addsCounter_17 : decode cX5_addsCounter 17 = .ok (.aload_n 0, 1) := dk_42 (dk_at dksX5_addsCounter_0 17 rfl rfl)
theorem dX5_addsCounter_18 : decode cX5_addsCounter 18 = .ok (.getfield 40, 3) := dk_180 0 40 (dk_at dksX5_addsCounter_0 18 rfl rfl)
theorem dX5_addsCounter_21 : decode cX5_addsCounter 21 = .ok (.iload_n 1, 1) := dk_27 (dk_at dksX5_addsCounter_0 21 rfl rfl)
theorem dX5_addsCounter_22 : decode cX5_addsCounter 22 = .ok (.iaload, 1) := dk_46 (dk_at dksX5_addsCounter_0 22 rfl rfl)
theorem dX5_addsCounter_23 : decode cX5_addsCounter 23 = .ok (.iload_n 3, 1) := dk_29 (dk_at dksX5_addsCounter_0 23 rfl rfl)
theorem dX5_addsCounter_24 : decode cX5_addsCounter 24 = .ok (.idiv, 1) := dk_108 (dk_at dksX5_addsCounter_1 0 rfl rfl)
theorem dX5_addsCounter_25 : decode cX5_addsCounter 25 = .ok (.bipush 9, 2) := dk_16 9 (dk_at dksX5_addsCounter_1 1 rfl rfl)
theorem dX5_addsCounter_27 : decode cX5_addsCounter 27 = .ok (.if_icmp .le 14, 3) := dk_164 0 14 (dk_at dksX5_addsCounter_1 3 rfl rfl)
theorem dX5_addsCounter_30 : decode cX5_addsCounter 30 = .ok (.iload_n 3, 1) := dk_29 (dk_at dksX5_addsCounter_1 6 rfl rfl)
theorem dX5_addsCounter_31 : decode cX5_addsCounter 31 = .ok (.bipush 10, 2) := dk_16 10 (dk_at dksX5_addsCounter_1 7 rfl rfl)
theorem dX5_addsCounter_33 : decode cX5_addsCounter 33 = .ok (.imul, 1) := dk_104 (dk_at dksX5_addsCounter_1 9 rfl rfl)
theorem dX5_addsCounter_34 : decode cX5_addsCounter 34 = .ok (.istore_n 3, 1) := dk_62 (dk_at dksX5_addsCounter_1 10 rfl rfl)
theorem dX5_addsCounter_35 : decode cX5_addsCounter 35 = .ok (.iinc 4 1, 3) := dk_132 4 1 (dk_at dksX5_addsCounter_1 11 rfl rfl)
theorem dX5_addsCounter_38 : decode cX5_addsCounter 38 = .ok (.goto (-27), 3) := dk_167 255 229 (dk_at dksX5_addsCounter_1 14 rfl rfl)
theorem dX5_addsCounter_41 : decode cX5_addsCounter 41 = .ok (.iload_n 3, 1) := dk_29 (dk_at dksX5_addsCounter_1 17 rfl rfl)
theorem dX5_addsCounter_42 : decode cX5_addsCounter 42 = .ok (.istore 5, 2) := dk_54 5 (dk_at dksX5_addsCounter_1 18 rfl rfl)
theorem dX5_addsCounter_44 : decode cX5_addsCounter 44 = .ok (.iload 5, 2) := dk_21 5 (dk_at dksX5_addsCounter_1 20 rfl rfl)
theorem dX5_addsCounter_46 : decode cX5_addsCounter 46 = .ok (.ifCond .le 33, 3) := dk_158 0 33 (dk_at dksX5_addsCounter_2 0 rfl rfl)
theorem dX5_addsCounter_49 : decode cX5_addsCounter 49 = .ok (.aload_n 0, 1) := dk_42 (dk_at dksX5_addsCounter_2 3 rfl rfl)
theorem dX5_addsCounter_50 : decode cX5_addsCounter 50 = .ok (.iload_n 1, 1) := dk_27 (dk_at dksX5_addsCounter_2 4 rfl rfl)
theorem dX5_addsCounter_51 : decode cX5_addsCounter 51 = .ok (.bipush 48, 2) := dk_16 48 (dk_at dksX5_addsCounter_2 5 rfl rfl)
theorem dX5_addsCounter_53 : decode cX5_addsCounter 53 = .ok (.aload_n 0, 1) := dk_42 (dk_at dksX5_addsCounter_2 7 rfl rfl)
theorem dX5_addsCounter_54 : decode cX5_addsCounter 54 = .ok (.getfield 40, 3) := dk_180 0 40 (dk_at dksX5_addsCounter_2 8 rfl rfl)
theorem dX5_addsCounter_57 : decode cX5_addsCounter 57 = .ok (.iload_n 1, 1) := dk_27 (dk_at dksX5_addsCounter_2 11 rfl rfl)
theorem dX5_addsCounter_58 : decode cX5_addsCounter 58 = .ok (.iaload, 1) := dk_46 (dk_at dksX5_addsCounter_2 12 rfl rfl)
theorem dX5_addsCounter_59 : decode cX5_addsCounter 59 = .ok (.iload 5, 2) := dk_21 5 (dk_at dksX5_addsCounter_2 13 rfl rfl)
theorem dX5_addsCounter_61 : decode cX5_addsCounter 61 = .ok (.idiv, 1) := dk_108 (dk_at dksX5_addsCounter_2 15 rfl rfl)
theorem dX5_addsCounter_62 : decode cX5_addsCounter 62 = .ok (.bipush 10, 2) := dk_16 10 (dk_at dksX5_addsCounter_2 16 rfl rfl)
theorem dX5_addsCounter_64 : decode cX5_addsCounter 64 = .ok (.irem, 1) := dk_112 (dk_at dksX5_addsCounter_2 18 rfl rfl)
theorem dX5_addsCounter_65 : decode cX5_addsCounter 65 = .ok (.iadd, 1) := dk_96 (dk_at dksX5_addsCounter_2 19 rfl rfl)
theorem dX5_addsCounter_66 : decode cX5_addsCounter 66 = .ok (.invokevirtual 313, 3) := dk_182 1 57 (dk_at dksX5_addsCounter_2 20 rfl rfl)
theorem dX5_addsCounter_69 : decode cX5_addsCounter 69 = .ok (.iload 5, 2) := dk_21 5 (dk_at dksX5_addsCounter_3 0 rfl rfl)
theorem dX5_addsCounter_71 : decode cX5_addsCounter 71 = .ok (.bipush 10, 2) := dk_16 10 (dk_at dksX5_addsCounter_3 2 rfl rfl)
theorem dX5_addsCounter_73 : decode cX5_addsCounter 73 = .ok (.idiv, 1) := dk_108 (dk_at dksX5_addsCounter_3 4 rfl rfl)
theorem dX5_addsCounter_74 : decode cX5_addsCounter 74 = .ok (.istore 5, 2) := dk_54 5 (dk_at dksX5_addsCounter_3 5 rfl rfl)
theorem dX5_addsCounter_76 : decode cX5_addsCounter 76 = .ok (.goto (-32), 3) := dk_167 255 224 (dk_at dksX5_addsCounter_3 7 rfl rfl)
theorem dX5_addsCounter_79 : decode cX5_addsCounter 79 = .ok (.return_, 1) := dk_177 (dk_at dksX5_addsCounter_3 10 rfl rfl)
abbrev cX5_addsCapture : ByteArray := prog_17_method_74_code
def yX5_addsCapture : MethodName := ⟨RX5, "addsCapture", "(II)V"⟩
def dkwX5_addsCapture_1 : List UInt8 := [180, 0, 24, 28, 46, 29, 96, 184, 0, 114, 182, 1, 57, 132, 3, 1, 167, 255, 218, 177]
abbrev dktX5_addsCapture_1 : List UInt8 := dkwX5_addsCapture_1 ++ []
def dkwX5_addsCapture_0 : List UInt8 := [3, 62, 29, 42, 180, 0, 28, 28, 46, 162, 0, 34, 42, 27, 42, 180, 0, 7, 42, 27, 182, 0, 118, 42]
abbrev dktX5_addsCapture_0 : List UInt8 := dkwX5_addsCapture_0 ++ dktX5_addsCapture_1
theorem dksX5_addsCapture_0 : cX5_addsCapture.data.toList.drop 0 = dktX5_addsCapture_0 := by decide +kernel
theorem dksX5_addsCapture_1 : cX5_addsCapture.data.toList.drop 24 = dktX5_addsCapture_1 := dk_seg dksX5_addsCapture_0 24 rfl rfl
theorem dX5_addsCapture_0 : decode cX5_addsCapture 0 = .ok (.iconst 0, 1) := dk_3 (dk_at dksX5_addsCapture_0 0 rfl rfl)
theorem dX5_addsCapture_1 : decode cX5_addsCapture 1 = .ok (.istore_n 3, 1) := dk_62 (dk_at dksX5_addsCapture_0 1 rfl rfl)
theorem dX5_addsCapture_2 : decode cX5_addsCapture 2 = .ok (.iload_n 3, 1) := dk_29 (dk_at dksX5_addsCapture_0 2 rfl rfl)
theorem dX5_addsCapture_3 : decode cX5_addsCapture 3 = .ok (.aload_n 0, 1) := dk_42 (dk_at dksX5_addsCapture_0 3 rfl rfl)
theorem dX5_addsCapture_4 : decode cX5_addsCapture 4 = .ok (.getfield 28, 3) := dk_180 0 28 (dk_at dksX5_addsCapture_0 4 rfl rfl)
theorem dX5_addsCapture_7 : decode cX5_addsCapture 7 = .ok (.iload_n 2, 1) := dk_28 (dk_at dksX5_addsCapture_0 7 rfl rfl)
theorem dX5_addsCapture_8 : decode cX5_addsCapture 8 = .ok (.iaload, 1) := dk_46 (dk_at dksX5_addsCapture_0 8 rfl rfl)
theorem dX5_addsCapture_9 : decode cX5_addsCapture 9 = .ok (.if_icmp .ge 34, 3) := dk_162 0 34 (dk_at dksX5_addsCapture_0 9 rfl rfl)
theorem dX5_addsCapture_12 : decode cX5_addsCapture 12 = .ok (.aload_n 0, 1) := dk_42 (dk_at dksX5_addsCapture_0 12 rfl rfl)
theorem dX5_addsCapture_13 : decode cX5_addsCapture 13 = .ok (.iload_n 1, 1) := dk_27 (dk_at dksX5_addsCapture_0 13 rfl rfl)
theorem dX5_addsCapture_14 : decode cX5_addsCapture 14 = .ok (.aload_n 0, 1) := dk_42 (dk_at dksX5_addsCapture_0 14 rfl rfl)
theorem dX5_addsCapture_15 : decode cX5_addsCapture 15 = .ok (.getfield 7, 3) := dk_180 0 7 (dk_at dksX5_addsCapture_0 15 rfl rfl)
theorem dX5_addsCapture_18 : decode cX5_addsCapture 18 = .ok (.aload_n 0, 1) := dk_42 (dk_at dksX5_addsCapture_0 18 rfl rfl)
theorem dX5_addsCapture_19 : decode cX5_addsCapture 19 = .ok (.iload_n 1, 1) := dk_27 (dk_at dksX5_addsCapture_0 19 rfl rfl)
theorem dX5_addsCapture_20 : decode cX5_addsCapture 20 = .ok (.invokevirtual 118, 3) := dk_182 0 118 (dk_at dksX5_addsCapture_0 20 rfl rfl)
theorem dX5_addsCapture_23 : decode cX5_addsCapture 23 = .ok (.aload_n 0, 1) := dk_42 (dk_at dksX5_addsCapture_0 23 rfl rfl)
theorem dX5_addsCapture_24 : decode cX5_addsCapture 24 = .ok (.getfield 24, 3) := dk_180 0 24 (dk_at dksX5_addsCapture_1 0 rfl rfl)
theorem dX5_addsCapture_27 : decode cX5_addsCapture 27 = .ok (.iload_n 2, 1) := dk_28 (dk_at dksX5_addsCapture_1 3 rfl rfl)
theorem dX5_addsCapture_28 : decode cX5_addsCapture 28 = .ok (.iaload, 1) := dk_46 (dk_at dksX5_addsCapture_1 4 rfl rfl)
theorem dX5_addsCapture_29 : decode cX5_addsCapture 29 = .ok (.iload_n 3, 1) := dk_29 (dk_at dksX5_addsCapture_1 5 rfl rfl)
theorem dX5_addsCapture_30 : decode cX5_addsCapture 30 = .ok (.iadd, 1) := dk_96 (dk_at dksX5_addsCapture_1 6 rfl rfl)
theorem dX5_addsCapture_31 : decode cX5_addsCapture 31 = .ok (.invokestatic 114, 3) := dk_184 0 114 (dk_at dksX5_addsCapture_1 7 rfl rfl)
theorem dX5_addsCapture_34 : decode cX5_addsCapture 34 = .ok (.invokevirtual 313, 3) := dk_182 1 57 (dk_at dksX5_addsCapture_1 10 rfl rfl)
theorem dX5_addsCapture_37 : decode cX5_addsCapture 37 = .ok (.iinc 3 1, 3) := dk_132 3 1 (dk_at dksX5_addsCapture_1 13 rfl rfl)
theorem dX5_addsCapture_40 : decode cX5_addsCapture 40 = .ok (.goto (-38), 3) := dk_167 255 218 (dk_at dksX5_addsCapture_1 16 rfl rfl)
theorem dX5_addsCapture_43 : decode cX5_addsCapture 43 = .ok (.return_, 1) := dk_177 (dk_at dksX5_addsCapture_1 19 rfl rfl)
abbrev cX5_firstStatus : ByteArray := prog_17_method_78_code
def yX5_firstStatus : MethodName := ⟨RX5, "firstStatus", "(I)I"⟩
def dkwX5_firstStatus_3 : List UInt8 := [167, 0, 4, 6, 172]
abbrev dktX5_firstStatus_3 : List UInt8 := dkwX5_firstStatus_3 ++ []
def dkwX5_firstStatus_2 : List UInt8 := [164, 0, 6, 16, 7, 172, 42, 27, 42, 180, 0, 7, 42, 27, 182, 0, 118, 182, 1, 72, 153, 0, 7, 5]
abbrev dktX5_firstStatus_2 : List UInt8 := dkwX5_firstStatus_2 ++ dktX5_firstStatus_3
def dkwX5_firstStatus_1 : List UInt8 := [3, 172, 42, 180, 0, 43, 27, 46, 154, 0, 6, 16, 6, 172, 42, 180, 0, 43, 27, 46, 16, 24]
abbrev dktX5_firstStatus_1 : List UInt8 := dkwX5_firstStatus_1 ++ dktX5_firstStatus_2
def dkwX5_firstStatus_0 : List UInt8 := [42, 16, 66, 27, 96, 182, 0, 97, 4, 160, 0, 5, 4, 172, 42, 180, 0, 31, 27, 46, 2, 160, 0, 5]
abbrev dktX5_firstStatus_0 : List UInt8 := dkwX5_firstStatus_0 ++ dktX5_firstStatus_1
theorem dksX5_firstStatus_0 : cX5_firstStatus.data.toList.drop 0 = dktX5_firstStatus_0 := by decide +kernel
theorem dksX5_firstStatus_1 : cX5_firstStatus.data.toList.drop 24 = dktX5_firstStatus_1 := dk_seg dksX5_firstStatus_0 24 rfl rfl
theorem dksX5_firstStatus_2 : cX5_firstStatus.data.toList.drop 46 = dktX5_firstStatus_2 := dk_seg dksX5_firstStatus_1 22 rfl rfl
theorem dksX5_firstStatus_3 : cX5_firstStatus.data.toList.drop 70 = dktX5_firstStatus_3 := dk_seg dksX5_firstStatus_2 24 rfl rfl
theorem dX5_firstStatus_0 : decode cX5_firstStatus 0 = .ok (.aload_n 0, 1) := dk_42 (dk_at dksX5_firstStatus_0 0 rfl rfl)
theorem dX5_firstStatus_1 : decode cX5_firstStatus 1 = .ok (.bipush 66, 2) := dk_16 66 (dk_at dksX5_firstStatus_0 1 rfl rfl)
theorem dX5_firstStatus_3 : decode cX5_firstStatus 3 = .ok (.iload_n 1, 1) := dk_27 (dk_at dksX5_firstStatus_0 3 rfl rfl)
theorem dX5_firstStatus_4 : decode cX5_firstStatus 4 = .ok (.iadd, 1) := dk_96 (dk_at dksX5_firstStatus_0 4 rfl rfl)
theorem dX5_firstStatus_5 : decode cX5_firstStatus 5 = .ok (.invokevirtual 97, 3) := dk_182 0 97 (dk_at dksX5_firstStatus_0 5 rfl rfl)
theorem dX5_firstStatus_8 : decode cX5_firstStatus 8 = .ok (.iconst 1, 1) := dk_4 (dk_at dksX5_firstStatus_0 8 rfl rfl)
theorem dX5_firstStatus_9 : decode cX5_firstStatus 9 = .ok (.if_icmp .ne 5, 3) := dk_160 0 5 (dk_at dksX5_firstStatus_0 9 rfl rfl)
theorem dX5_firstStatus_12 : decode cX5_firstStatus 12 = .ok (.iconst 1, 1) := dk_4 (dk_at dksX5_firstStatus_0 12 rfl rfl)
theorem dX5_firstStatus_13 : decode cX5_firstStatus 13 = .ok (.ireturn, 1) := dk_172 (dk_at dksX5_firstStatus_0 13 rfl rfl)
theorem dX5_firstStatus_14 : decode cX5_firstStatus 14 = .ok (.aload_n 0, 1) := dk_42 (dk_at dksX5_firstStatus_0 14 rfl rfl)
theorem dX5_firstStatus_15 : decode cX5_firstStatus 15 = .ok (.getfield 31, 3) := dk_180 0 31 (dk_at dksX5_firstStatus_0 15 rfl rfl)
theorem dX5_firstStatus_18 : decode cX5_firstStatus 18 = .ok (.iload_n 1, 1) := dk_27 (dk_at dksX5_firstStatus_0 18 rfl rfl)
theorem dX5_firstStatus_19 : decode cX5_firstStatus 19 = .ok (.iaload, 1) := dk_46 (dk_at dksX5_firstStatus_0 19 rfl rfl)
theorem dX5_firstStatus_20 : decode cX5_firstStatus 20 = .ok (.iconst (-1), 1) := dk_2 (dk_at dksX5_firstStatus_0 20 rfl rfl)
theorem dX5_firstStatus_21 : decode cX5_firstStatus 21 = .ok (.if_icmp .ne 5, 3) := dk_160 0 5 (dk_at dksX5_firstStatus_0 21 rfl rfl)
theorem dX5_firstStatus_24 : decode cX5_firstStatus 24 = .ok (.iconst 0, 1) := dk_3 (dk_at dksX5_firstStatus_1 0 rfl rfl)
theorem dX5_firstStatus_25 : decode cX5_firstStatus 25 = .ok (.ireturn, 1) := dk_172 (dk_at dksX5_firstStatus_1 1 rfl rfl)
theorem dX5_firstStatus_26 : decode cX5_firstStatus 26 = .ok (.aload_n 0, 1) := dk_42 (dk_at dksX5_firstStatus_1 2 rfl rfl)
theorem dX5_firstStatus_27 : decode cX5_firstStatus 27 = .ok (.getfield 43, 3) := dk_180 0 43 (dk_at dksX5_firstStatus_1 3 rfl rfl)
theorem dX5_firstStatus_30 : decode cX5_firstStatus 30 = .ok (.iload_n 1, 1) := dk_27 (dk_at dksX5_firstStatus_1 6 rfl rfl)
theorem dX5_firstStatus_31 : decode cX5_firstStatus 31 = .ok (.iaload, 1) := dk_46 (dk_at dksX5_firstStatus_1 7 rfl rfl)
theorem dX5_firstStatus_32 : decode cX5_firstStatus 32 = .ok (.ifCond .ne 6, 3) := dk_154 0 6 (dk_at dksX5_firstStatus_1 8 rfl rfl)
theorem dX5_firstStatus_35 : decode cX5_firstStatus 35 = .ok (.bipush 6, 2) := dk_16 6 (dk_at dksX5_firstStatus_1 11 rfl rfl)
theorem dX5_firstStatus_37 : decode cX5_firstStatus 37 = .ok (.ireturn, 1) := dk_172 (dk_at dksX5_firstStatus_1 13 rfl rfl)
theorem dX5_firstStatus_38 : decode cX5_firstStatus 38 = .ok (.aload_n 0, 1) := dk_42 (dk_at dksX5_firstStatus_1 14 rfl rfl)
theorem dX5_firstStatus_39 : decode cX5_firstStatus 39 = .ok (.getfield 43, 3) := dk_180 0 43 (dk_at dksX5_firstStatus_1 15 rfl rfl)
theorem dX5_firstStatus_42 : decode cX5_firstStatus 42 = .ok (.iload_n 1, 1) := dk_27 (dk_at dksX5_firstStatus_1 18 rfl rfl)
theorem dX5_firstStatus_43 : decode cX5_firstStatus 43 = .ok (.iaload, 1) := dk_46 (dk_at dksX5_firstStatus_1 19 rfl rfl)
theorem dX5_firstStatus_44 : decode cX5_firstStatus 44 = .ok (.bipush 24, 2) := dk_16 24 (dk_at dksX5_firstStatus_1 20 rfl rfl)
theorem dX5_firstStatus_46 : decode cX5_firstStatus 46 = .ok (.if_icmp .le 6, 3) := dk_164 0 6 (dk_at dksX5_firstStatus_2 0 rfl rfl)
theorem dX5_firstStatus_49 : decode cX5_firstStatus 49 = .ok (.bipush 7, 2) := dk_16 7 (dk_at dksX5_firstStatus_2 3 rfl rfl)
theorem dX5_firstStatus_51 : decode cX5_firstStatus 51 = .ok (.ireturn, 1) := dk_172 (dk_at dksX5_firstStatus_2 5 rfl rfl)
theorem dX5_firstStatus_52 : decode cX5_firstStatus 52 = .ok (.aload_n 0, 1) := dk_42 (dk_at dksX5_firstStatus_2 6 rfl rfl)
theorem dX5_firstStatus_53 : decode cX5_firstStatus 53 = .ok (.iload_n 1, 1) := dk_27 (dk_at dksX5_firstStatus_2 7 rfl rfl)
theorem dX5_firstStatus_54 : decode cX5_firstStatus 54 = .ok (.aload_n 0, 1) := dk_42 (dk_at dksX5_firstStatus_2 8 rfl rfl)
theorem dX5_firstStatus_55 : decode cX5_firstStatus 55 = .ok (.getfield 7, 3) := dk_180 0 7 (dk_at dksX5_firstStatus_2 9 rfl rfl)
theorem dX5_firstStatus_58 : decode cX5_firstStatus 58 = .ok (.aload_n 0, 1) := dk_42 (dk_at dksX5_firstStatus_2 12 rfl rfl)
theorem dX5_firstStatus_59 : decode cX5_firstStatus 59 = .ok (.iload_n 1, 1) := dk_27 (dk_at dksX5_firstStatus_2 13 rfl rfl)
theorem dX5_firstStatus_60 : decode cX5_firstStatus 60 = .ok (.invokevirtual 118, 3) := dk_182 0 118 (dk_at dksX5_firstStatus_2 14 rfl rfl)
theorem dX5_firstStatus_63 : decode cX5_firstStatus 63 = .ok (.invokevirtual 328, 3) := dk_182 1 72 (dk_at dksX5_firstStatus_2 17 rfl rfl)
theorem dX5_firstStatus_66 : decode cX5_firstStatus 66 = .ok (.ifCond .eq 7, 3) := dk_153 0 7 (dk_at dksX5_firstStatus_2 20 rfl rfl)
theorem dX5_firstStatus_69 : decode cX5_firstStatus 69 = .ok (.iconst 2, 1) := dk_5 (dk_at dksX5_firstStatus_2 23 rfl rfl)
theorem dX5_firstStatus_70 : decode cX5_firstStatus 70 = .ok (.goto 4, 3) := dk_167 0 4 (dk_at dksX5_firstStatus_3 0 rfl rfl)
theorem dX5_firstStatus_73 : decode cX5_firstStatus 73 = .ok (.iconst 3, 1) := dk_6 (dk_at dksX5_firstStatus_3 3 rfl rfl)
theorem dX5_firstStatus_74 : decode cX5_firstStatus 74 = .ok (.ireturn, 1) := dk_172 (dk_at dksX5_firstStatus_3 4 rfl rfl)
abbrev cX5_isNew : ByteArray := prog_17_method_76_code
def yX5_isNew : MethodName := ⟨RX5, "isNew", "(I[JI)Z"⟩
def dkwX5_isNew_3 : List UInt8 := [167, 255, 217, 4, 172]
abbrev dktX5_isNew_3 : List UInt8 := dkwX5_isNew_3 ++ []
def dkwX5_isNew_2 : List UInt8 := [17, 0, 200, 27, 104, 21, 4, 96, 52, 44, 29, 21, 4, 184, 0, 114, 159, 0, 5, 3, 172, 132, 4, 1]
abbrev dktX5_isNew_2 : List UInt8 := dkwX5_isNew_2 ++ dktX5_isNew_3
def dkwX5_isNew_1 : List UInt8 := [159, 0, 5, 3, 172, 3, 54, 4, 21, 4, 42, 180, 0, 43, 27, 46, 162, 0, 34, 42, 180, 0, 46]
abbrev dktX5_isNew_1 : List UInt8 := dkwX5_isNew_1 ++ dktX5_isNew_2
def dkwX5_isNew_0 : List UInt8 := [42, 180, 0, 43, 27, 46, 16, 24, 163, 0, 19, 44, 29, 16, 24, 184, 0, 121, 42, 180, 0, 43, 27, 46]
abbrev dktX5_isNew_0 : List UInt8 := dkwX5_isNew_0 ++ dktX5_isNew_1
theorem dksX5_isNew_0 : cX5_isNew.data.toList.drop 0 = dktX5_isNew_0 := by decide +kernel
theorem dksX5_isNew_1 : cX5_isNew.data.toList.drop 24 = dktX5_isNew_1 := dk_seg dksX5_isNew_0 24 rfl rfl
theorem dksX5_isNew_2 : cX5_isNew.data.toList.drop 47 = dktX5_isNew_2 := dk_seg dksX5_isNew_1 23 rfl rfl
theorem dksX5_isNew_3 : cX5_isNew.data.toList.drop 71 = dktX5_isNew_3 := dk_seg dksX5_isNew_2 24 rfl rfl
theorem dX5_isNew_0 : decode cX5_isNew 0 = .ok (.aload_n 0, 1) := dk_42 (dk_at dksX5_isNew_0 0 rfl rfl)
theorem dX5_isNew_1 : decode cX5_isNew 1 = .ok (.getfield 43, 3) := dk_180 0 43 (dk_at dksX5_isNew_0 1 rfl rfl)
theorem dX5_isNew_4 : decode cX5_isNew 4 = .ok (.iload_n 1, 1) := dk_27 (dk_at dksX5_isNew_0 4 rfl rfl)
theorem dX5_isNew_5 : decode cX5_isNew 5 = .ok (.iaload, 1) := dk_46 (dk_at dksX5_isNew_0 5 rfl rfl)
theorem dX5_isNew_6 : decode cX5_isNew 6 = .ok (.bipush 24, 2) := dk_16 24 (dk_at dksX5_isNew_0 6 rfl rfl)
theorem dX5_isNew_8 : decode cX5_isNew 8 = .ok (.if_icmp .gt 19, 3) := dk_163 0 19 (dk_at dksX5_isNew_0 8 rfl rfl)
theorem dX5_isNew_11 : decode cX5_isNew 11 = .ok (.aload_n 2, 1) := dk_44 (dk_at dksX5_isNew_0 11 rfl rfl)
theorem dX5_isNew_12 : decode cX5_isNew 12 = .ok (.iload_n 3, 1) := dk_29 (dk_at dksX5_isNew_0 12 rfl rfl)
theorem dX5_isNew_13 : decode cX5_isNew 13 = .ok (.bipush 24, 2) := dk_16 24 (dk_at dksX5_isNew_0 13 rfl rfl)
theorem dX5_isNew_15 : decode cX5_isNew 15 = .ok (.invokestatic 121, 3) := dk_184 0 121 (dk_at dksX5_isNew_0 15 rfl rfl)
theorem dX5_isNew_18 : decode cX5_isNew 18 = .ok (.aload_n 0, 1) := dk_42 (dk_at dksX5_isNew_0 18 rfl rfl)
theorem dX5_isNew_19 : decode cX5_isNew 19 = .ok (.getfield 43, 3) := dk_180 0 43 (dk_at dksX5_isNew_0 19 rfl rfl)
theorem dX5_isNew_22 : decode cX5_isNew 22 = .ok (.iload_n 1, 1) := dk_27 (dk_at dksX5_isNew_0 22 rfl rfl)
theorem dX5_isNew_23 : decode cX5_isNew 23 = .ok (.iaload, 1) := dk_46 (dk_at dksX5_isNew_0 23 rfl rfl)
theorem dX5_isNew_24 : decode cX5_isNew 24 = .ok (.if_icmp .eq 5, 3) := dk_159 0 5 (dk_at dksX5_isNew_1 0 rfl rfl)
theorem dX5_isNew_27 : decode cX5_isNew 27 = .ok (.iconst 0, 1) := dk_3 (dk_at dksX5_isNew_1 3 rfl rfl)
theorem dX5_isNew_28 : decode cX5_isNew 28 = .ok (.ireturn, 1) := dk_172 (dk_at dksX5_isNew_1 4 rfl rfl)
theorem dX5_isNew_29 : decode cX5_isNew 29 = .ok (.iconst 0, 1) := dk_3 (dk_at dksX5_isNew_1 5 rfl rfl)
theorem dX5_isNew_30 : decode cX5_isNew 30 = .ok (.istore 4, 2) := dk_54 4 (dk_at dksX5_isNew_1 6 rfl rfl)
theorem dX5_isNew_32 : decode cX5_isNew 32 = .ok (.iload 4, 2) := dk_21 4 (dk_at dksX5_isNew_1 8 rfl rfl)
theorem dX5_isNew_34 : decode cX5_isNew 34 = .ok (.aload_n 0, 1) := dk_42 (dk_at dksX5_isNew_1 10 rfl rfl)
theorem dX5_isNew_35 : decode cX5_isNew 35 = .ok (.getfield 43, 3) := dk_180 0 43 (dk_at dksX5_isNew_1 11 rfl rfl)
theorem dX5_isNew_38 : decode cX5_isNew 38 = .ok (.iload_n 1, 1) := dk_27 (dk_at dksX5_isNew_1 14 rfl rfl)
theorem dX5_isNew_39 : decode cX5_isNew 39 = .ok (.iaload, 1) := dk_46 (dk_at dksX5_isNew_1 15 rfl rfl)
theorem dX5_isNew_40 : decode cX5_isNew 40 = .ok (.if_icmp .ge 34, 3) := dk_162 0 34 (dk_at dksX5_isNew_1 16 rfl rfl)
theorem dX5_isNew_43 : decode cX5_isNew 43 = .ok (.aload_n 0, 1) := dk_42 (dk_at dksX5_isNew_1 19 rfl rfl)
theorem dX5_isNew_44 : decode cX5_isNew 44 = .ok (.getfield 46, 3) := dk_180 0 46 (dk_at dksX5_isNew_1 20 rfl rfl)
theorem dX5_isNew_47 : decode cX5_isNew 47 = .ok (.sipush 200, 3) := dk_17 0 200 (dk_at dksX5_isNew_2 0 rfl rfl)
theorem dX5_isNew_50 : decode cX5_isNew 50 = .ok (.iload_n 1, 1) := dk_27 (dk_at dksX5_isNew_2 3 rfl rfl)
theorem dX5_isNew_51 : decode cX5_isNew 51 = .ok (.imul, 1) := dk_104 (dk_at dksX5_isNew_2 4 rfl rfl)
theorem dX5_isNew_52 : decode cX5_isNew 52 = .ok (.iload 4, 2) := dk_21 4 (dk_at dksX5_isNew_2 5 rfl rfl)
theorem dX5_isNew_54 : decode cX5_isNew 54 = .ok (.iadd, 1) := dk_96 (dk_at dksX5_isNew_2 7 rfl rfl)
theorem dX5_isNew_55 : decode cX5_isNew 55 = .ok (.caload, 1) := dk_52 (dk_at dksX5_isNew_2 8 rfl rfl)
theorem dX5_isNew_56 : decode cX5_isNew 56 = .ok (.aload_n 2, 1) := dk_44 (dk_at dksX5_isNew_2 9 rfl rfl)
theorem dX5_isNew_57 : decode cX5_isNew 57 = .ok (.iload_n 3, 1) := dk_29 (dk_at dksX5_isNew_2 10 rfl rfl)
theorem dX5_isNew_58 : decode cX5_isNew 58 = .ok (.iload 4, 2) := dk_21 4 (dk_at dksX5_isNew_2 11 rfl rfl)
theorem dX5_isNew_60 : decode cX5_isNew 60 = .ok (.invokestatic 114, 3) := dk_184 0 114 (dk_at dksX5_isNew_2 13 rfl rfl)
theorem dX5_isNew_63 : decode cX5_isNew 63 = .ok (.if_icmp .eq 5, 3) := dk_159 0 5 (dk_at dksX5_isNew_2 16 rfl rfl)
theorem dX5_isNew_66 : decode cX5_isNew 66 = .ok (.iconst 0, 1) := dk_3 (dk_at dksX5_isNew_2 19 rfl rfl)
theorem dX5_isNew_67 : decode cX5_isNew 67 = .ok (.ireturn, 1) := dk_172 (dk_at dksX5_isNew_2 20 rfl rfl)
theorem dX5_isNew_68 : decode cX5_isNew 68 = .ok (.iinc 4 1, 3) := dk_132 4 1 (dk_at dksX5_isNew_2 21 rfl rfl)
theorem dX5_isNew_71 : decode cX5_isNew 71 = .ok (.goto (-39), 3) := dk_167 255 217 (dk_at dksX5_isNew_3 0 rfl rfl)
theorem dX5_isNew_74 : decode cX5_isNew 74 = .ok (.iconst 1, 1) := dk_4 (dk_at dksX5_isNew_3 3 rfl rfl)
theorem dX5_isNew_75 : decode cX5_isNew 75 = .ok (.ireturn, 1) := dk_172 (dk_at dksX5_isNew_3 4 rfl rfl)
abbrev cX5_isRound : ByteArray := prog_17_method_80_code
def yX5_isRound : MethodName := ⟨RX5, "isRound", "()Z"⟩
def dkwX5_isRound_4 : List UInt8 := [167, 255, 233, 27, 172]
abbrev dktX5_isRound_4 : List UInt8 := dkwX5_isRound_4 ++ []
def dkwX5_isRound_3 : List UInt8 := [61, 28, 42, 182, 0, 101, 162, 0, 21, 42, 180, 0, 49, 28, 42, 180, 0, 52, 28, 46, 79, 132, 2, 1]
abbrev dktX5_isRound_3 : List UInt8 := dkwX5_isRound_3 ++ dktX5_isRound_4
def dkwX5_isRound_2 : List UInt8 := [46, 42, 180, 0, 49, 28, 46, 159, 0, 7, 4, 167, 0, 4, 3, 128, 60, 132, 2, 1, 167, 255, 192, 3]
abbrev dktX5_isRound_2 : List UInt8 := dkwX5_isRound_2 ++ dktX5_isRound_3
def dkwX5_isRound_1 : List UInt8 := [160, 0, 11, 42, 28, 182, 1, 79, 167, 0, 9, 42, 180, 0, 49, 28, 46, 79, 27, 42, 180, 0, 52, 28]
abbrev dktX5_isRound_1 : List UInt8 := dkwX5_isRound_1 ++ dktX5_isRound_2
def dkwX5_isRound_0 : List UInt8 := [3, 60, 3, 61, 28, 42, 182, 0, 101, 162, 0, 62, 42, 180, 0, 52, 28, 42, 180, 0, 49, 28, 46, 6]
abbrev dktX5_isRound_0 : List UInt8 := dkwX5_isRound_0 ++ dktX5_isRound_1
theorem dksX5_isRound_0 : cX5_isRound.data.toList.drop 0 = dktX5_isRound_0 := by decide +kernel
theorem dksX5_isRound_1 : cX5_isRound.data.toList.drop 24 = dktX5_isRound_1 := dk_seg dksX5_isRound_0 24 rfl rfl
theorem dksX5_isRound_2 : cX5_isRound.data.toList.drop 48 = dktX5_isRound_2 := dk_seg dksX5_isRound_1 24 rfl rfl
theorem dksX5_isRound_3 : cX5_isRound.data.toList.drop 72 = dktX5_isRound_3 := dk_seg dksX5_isRound_2 24 rfl rfl
theorem dksX5_isRound_4 : cX5_isRound.data.toList.drop 96 = dktX5_isRound_4 := dk_seg dksX5_isRound_3 24 rfl rfl
theorem dX5_isRound_0 : decode cX5_isRound 0 = .ok (.iconst 0, 1) := dk_3 (dk_at dksX5_isRound_0 0 rfl rfl)
theorem dX5_isRound_1 : decode cX5_isRound 1 = .ok (.istore_n 1, 1) := dk_60 (dk_at dksX5_isRound_0 1 rfl rfl)
theorem dX5_isRound_2 : decode cX5_isRound 2 = .ok (.iconst 0, 1) := dk_3 (dk_at dksX5_isRound_0 2 rfl rfl)
theorem dX5_isRound_3 : decode cX5_isRound 3 = .ok (.istore_n 2, 1) := dk_61 (dk_at dksX5_isRound_0 3 rfl rfl)
theorem dX5_isRound_4 : decode cX5_isRound 4 = .ok (.iload_n 2, 1) := dk_28 (dk_at dksX5_isRound_0 4 rfl rfl)
theorem dX5_isRound_5 : decode cX5_isRound 5 = .ok (.aload_n 0, 1) := dk_42 (dk_at dksX5_isRound_0 5 rfl rfl)
theorem dX5_isRound_6 : decode cX5_isRound 6 = .ok (.invokevirtual 101, 3) := dk_182 0 101 (dk_at dksX5_isRound_0 6 rfl rfl)
theorem dX5_isRound_9 : decode cX5_isRound 9 = .ok (.if_icmp .ge 62, 3) := dk_162 0 62 (dk_at dksX5_isRound_0 9 rfl rfl)
theorem dX5_isRound_12 : decode cX5_isRound 12 = .ok (.aload_n 0, 1) := dk_42 (dk_at dksX5_isRound_0 12 rfl rfl)
theorem dX5_isRound_13 : decode cX5_isRound 13 = .ok (.getfield 52, 3) := dk_180 0 52 (dk_at dksX5_isRound_0 13 rfl rfl)
theorem dX5_isRound_16 : decode cX5_isRound 16 = .ok (.iload_n 2, 1) := dk_28 (dk_at dksX5_isRound_0 16 rfl rfl)
theorem dX5_isRound_17 : decode cX5_isRound 17 = .ok (.aload_n 0, 1) := dk_42 (dk_at dksX5_isRound_0 17 rfl rfl)
theorem dX5_isRound_18 : decode cX5_isRound 18 = .ok (.getfield 49, 3) := dk_180 0 49 (dk_at dksX5_isRound_0 18 rfl rfl)
theorem dX5_isRound_21 : decode cX5_isRound 21 = .ok (.iload_n 2, 1) := dk_28 (dk_at dksX5_isRound_0 21 rfl rfl)
theorem dX5_isRound_22 : decode cX5_isRound 22 = .ok (.iaload, 1) := dk_46 (dk_at dksX5_isRound_0 22 rfl rfl)
theorem dX5_isRound_23 : decode cX5_isRound 23 = .ok (.iconst 3, 1) := dk_6 (dk_at dksX5_isRound_0 23 rfl rfl)
theorem dX5_isRound_24 : decode cX5_isRound 24 = .ok (.if_icmp .ne 11, 3) := dk_160 0 11 (dk_at dksX5_isRound_1 0 rfl rfl)
theorem dX5_isRound_27 : decode cX5_isRound 27 = .ok (.aload_n 0, 1) := dk_42 (dk_at dksX5_isRound_1 3 rfl rfl)
theorem dX5_isRound_28 : decode cX5_isRound 28 = .ok (.iload_n 2, 1) := dk_28 (dk_at dksX5_isRound_1 4 rfl rfl)
theorem dX5_isRound_29 : decode cX5_isRound 29 = .ok (.invokevirtual 335, 3) := dk_182 1 79 (dk_at dksX5_isRound_1 5 rfl rfl)
theorem dX5_isRound_32 : decode cX5_isRound 32 = .ok (.goto 9, 3) := dk_167 0 9 (dk_at dksX5_isRound_1 8 rfl rfl)
theorem dX5_isRound_35 : decode cX5_isRound 35 = .ok (.aload_n 0, 1) := dk_42 (dk_at dksX5_isRound_1 11 rfl rfl)
theorem dX5_isRound_36 : decode cX5_isRound 36 = .ok (.getfield 49, 3) := dk_180 0 49 (dk_at dksX5_isRound_1 12 rfl rfl)
theorem dX5_isRound_39 : decode cX5_isRound 39 = .ok (.iload_n 2, 1) := dk_28 (dk_at dksX5_isRound_1 15 rfl rfl)
theorem dX5_isRound_40 : decode cX5_isRound 40 = .ok (.iaload, 1) := dk_46 (dk_at dksX5_isRound_1 16 rfl rfl)
theorem dX5_isRound_41 : decode cX5_isRound 41 = .ok (.iastore, 1) := dk_79 (dk_at dksX5_isRound_1 17 rfl rfl)
theorem dX5_isRound_42 : decode cX5_isRound 42 = .ok (.iload_n 1, 1) := dk_27 (dk_at dksX5_isRound_1 18 rfl rfl)
theorem dX5_isRound_43 : decode cX5_isRound 43 = .ok (.aload_n 0, 1) := dk_42 (dk_at dksX5_isRound_1 19 rfl rfl)
theorem dX5_isRound_44 : decode cX5_isRound 44 = .ok (.getfield 52, 3) := dk_180 0 52 (dk_at dksX5_isRound_1 20 rfl rfl)
theorem dX5_isRound_47 : decode cX5_isRound 47 = .ok (.iload_n 2, 1) := dk_28 (dk_at dksX5_isRound_1 23 rfl rfl)
theorem dX5_isRound_48 : decode cX5_isRound 48 = .ok (.iaload, 1) := dk_46 (dk_at dksX5_isRound_2 0 rfl rfl)
theorem dX5_isRound_49 : decode cX5_isRound 49 = .ok (.aload_n 0, 1) := dk_42 (dk_at dksX5_isRound_2 1 rfl rfl)
theorem dX5_isRound_50 : decode cX5_isRound 50 = .ok (.getfield 49, 3) := dk_180 0 49 (dk_at dksX5_isRound_2 2 rfl rfl)
theorem dX5_isRound_53 : decode cX5_isRound 53 = .ok (.iload_n 2, 1) := dk_28 (dk_at dksX5_isRound_2 5 rfl rfl)
theorem dX5_isRound_54 : decode cX5_isRound 54 = .ok (.iaload, 1) := dk_46 (dk_at dksX5_isRound_2 6 rfl rfl)
theorem dX5_isRound_55 : decode cX5_isRound 55 = .ok (.if_icmp .eq 7, 3) := dk_159 0 7 (dk_at dksX5_isRound_2 7 rfl rfl)
theorem dX5_isRound_58 : decode cX5_isRound 58 = .ok (.iconst 1, 1) := dk_4 (dk_at dksX5_isRound_2 10 rfl rfl)
theorem dX5_isRound_59 : decode cX5_isRound 59 = .ok (.goto 4, 3) := dk_167 0 4 (dk_at dksX5_isRound_2 11 rfl rfl)
theorem dX5_isRound_62 : decode cX5_isRound 62 = .ok (.iconst 0, 1) := dk_3 (dk_at dksX5_isRound_2 14 rfl rfl)
theorem dX5_isRound_63 : decode cX5_isRound 63 = .ok (.ior, 1) := dk_128 (dk_at dksX5_isRound_2 15 rfl rfl)
theorem dX5_isRound_64 : decode cX5_isRound 64 = .ok (.istore_n 1, 1) := dk_60 (dk_at dksX5_isRound_2 16 rfl rfl)
theorem dX5_isRound_65 : decode cX5_isRound 65 = .ok (.iinc 2 1, 3) := dk_132 2 1 (dk_at dksX5_isRound_2 17 rfl rfl)
theorem dX5_isRound_68 : decode cX5_isRound 68 = .ok (.goto (-64), 3) := dk_167 255 192 (dk_at dksX5_isRound_2 20 rfl rfl)
theorem dX5_isRound_71 : decode cX5_isRound 71 = .ok (.iconst 0, 1) := dk_3 (dk_at dksX5_isRound_2 23 rfl rfl)
theorem dX5_isRound_72 : decode cX5_isRound 72 = .ok (.istore_n 2, 1) := dk_61 (dk_at dksX5_isRound_3 0 rfl rfl)
theorem dX5_isRound_73 : decode cX5_isRound 73 = .ok (.iload_n 2, 1) := dk_28 (dk_at dksX5_isRound_3 1 rfl rfl)
theorem dX5_isRound_74 : decode cX5_isRound 74 = .ok (.aload_n 0, 1) := dk_42 (dk_at dksX5_isRound_3 2 rfl rfl)
theorem dX5_isRound_75 : decode cX5_isRound 75 = .ok (.invokevirtual 101, 3) := dk_182 0 101 (dk_at dksX5_isRound_3 3 rfl rfl)
theorem dX5_isRound_78 : decode cX5_isRound 78 = .ok (.if_icmp .ge 21, 3) := dk_162 0 21 (dk_at dksX5_isRound_3 6 rfl rfl)
theorem dX5_isRound_81 : decode cX5_isRound 81 = .ok (.aload_n 0, 1) := dk_42 (dk_at dksX5_isRound_3 9 rfl rfl)
theorem dX5_isRound_82 : decode cX5_isRound 82 = .ok (.getfield 49, 3) := dk_180 0 49 (dk_at dksX5_isRound_3 10 rfl rfl)
theorem dX5_isRound_85 : decode cX5_isRound 85 = .ok (.iload_n 2, 1) := dk_28 (dk_at dksX5_isRound_3 13 rfl rfl)
theorem dX5_isRound_86 : decode cX5_isRound 86 = .ok (.aload_n 0, 1) := dk_42 (dk_at dksX5_isRound_3 14 rfl rfl)
theorem dX5_isRound_87 : decode cX5_isRound 87 = .ok (.getfield 52, 3) := dk_180 0 52 (dk_at dksX5_isRound_3 15 rfl rfl)
theorem dX5_isRound_90 : decode cX5_isRound 90 = .ok (.iload_n 2, 1) := dk_28 (dk_at dksX5_isRound_3 18 rfl rfl)
theorem dX5_isRound_91 : decode cX5_isRound 91 = .ok (.iaload, 1) := dk_46 (dk_at dksX5_isRound_3 19 rfl rfl)
theorem dX5_isRound_92 : decode cX5_isRound 92 = .ok (.iastore, 1) := dk_79 (dk_at dksX5_isRound_3 20 rfl rfl)
theorem dX5_isRound_93 : decode cX5_isRound 93 = .ok (.iinc 2 1, 3) := dk_132 2 1 (dk_at dksX5_isRound_3 21 rfl rfl)
theorem dX5_isRound_96 : decode cX5_isRound 96 = .ok (.goto (-23), 3) := dk_167 255 233 (dk_at dksX5_isRound_4 0 rfl rfl)
theorem dX5_isRound_99 : decode cX5_isRound 99 = .ok (.iload_n 1, 1) := dk_27 (dk_at dksX5_isRound_4 3 rfl rfl)
theorem dX5_isRound_100 : decode cX5_isRound 100 = .ok (.ireturn, 1) := dk_172 (dk_at dksX5_isRound_4 4 rfl rfl)
abbrev cX5_statusBehind : ByteArray := prog_17_method_79_code
def yX5_statusBehind : MethodName := ⟨RX5, "statusBehind", "(I)I"⟩
def dkwX5_statusBehind_3 : List UInt8 := [167, 0, 4, 3, 128, 61, 132, 3, 1, 167, 255, 181, 28, 153, 0, 7, 8, 167, 0, 4, 6, 172]
abbrev dktX5_statusBehind_3 : List UInt8 := dkwX5_statusBehind_3 ++ []
def dkwX5_statusBehind_2 : List UInt8 := [6, 159, 0, 24, 42, 27, 42, 180, 0, 7, 42, 29, 182, 0, 118, 182, 1, 72, 153, 0, 7, 4]
abbrev dktX5_statusBehind_2 : List UInt8 := dkwX5_statusBehind_2 ++ dktX5_statusBehind_3
def dkwX5_statusBehind_1 : List UInt8 := [29, 46, 6, 160, 0, 14, 42, 27, 29, 182, 1, 76, 153, 0, 5, 7, 172, 28, 42, 180, 0, 49, 29, 46]
abbrev dktX5_statusBehind_1 : List UInt8 := dkwX5_statusBehind_1 ++ dktX5_statusBehind_2
def dkwX5_statusBehind_0 : List UInt8 := [3, 61, 3, 62, 29, 42, 182, 0, 101, 162, 0, 73, 29, 27, 160, 0, 6, 167, 0, 59, 42, 180, 0, 49]
abbrev dktX5_statusBehind_0 : List UInt8 := dkwX5_statusBehind_0 ++ dktX5_statusBehind_1
theorem dksX5_statusBehind_0 : cX5_statusBehind.data.toList.drop 0 = dktX5_statusBehind_0 := by decide +kernel
theorem dksX5_statusBehind_1 : cX5_statusBehind.data.toList.drop 24 = dktX5_statusBehind_1 := dk_seg dksX5_statusBehind_0 24 rfl rfl
theorem dksX5_statusBehind_2 : cX5_statusBehind.data.toList.drop 48 = dktX5_statusBehind_2 := dk_seg dksX5_statusBehind_1 24 rfl rfl
theorem dksX5_statusBehind_3 : cX5_statusBehind.data.toList.drop 70 = dktX5_statusBehind_3 := dk_seg dksX5_statusBehind_2 22 rfl rfl
theorem dX5_statusBehind_0 : decode cX5_statusBehind 0 = .ok (.iconst 0, 1) := dk_3 (dk_at dksX5_statusBehind_0 0 rfl rfl)
theorem dX5_statusBehind_1 : decode cX5_statusBehind 1 = .ok (.istore_n 2, 1) := dk_61 (dk_at dksX5_statusBehind_0 1 rfl rfl)
theorem dX5_statusBehind_2 : decode cX5_statusBehind 2 = .ok (.iconst 0, 1) := dk_3 (dk_at dksX5_statusBehind_0 2 rfl rfl)
theorem dX5_statusBehind_3 : decode cX5_statusBehind 3 = .ok (.istore_n 3, 1) := dk_62 (dk_at dksX5_statusBehind_0 3 rfl rfl)
theorem dX5_statusBehind_4 : decode cX5_statusBehind 4 = .ok (.iload_n 3, 1) := dk_29 (dk_at dksX5_statusBehind_0 4 rfl rfl)
theorem dX5_statusBehind_5 : decode cX5_statusBehind 5 = .ok (.aload_n 0, 1) := dk_42 (dk_at dksX5_statusBehind_0 5 rfl rfl)
theorem dX5_statusBehind_6 : decode cX5_statusBehind 6 = .ok (.invokevirtual 101, 3) := dk_182 0 101 (dk_at dksX5_statusBehind_0 6 rfl rfl)
theorem dX5_statusBehind_9 : decode cX5_statusBehind 9 = .ok (.if_icmp .ge 73, 3) := dk_162 0 73 (dk_at dksX5_statusBehind_0 9 rfl rfl)
theorem dX5_statusBehind_12 : decode cX5_statusBehind 12 = .ok (.iload_n 3, 1) := dk_29 (dk_at dksX5_statusBehind_0 12 rfl rfl)
theorem dX5_statusBehind_13 : decode cX5_statusBehind 13 = .ok (.iload_n 1, 1) := dk_27 (dk_at dksX5_statusBehind_0 13 rfl rfl)
theorem dX5_statusBehind_14 : decode cX5_statusBehind 14 = .ok (.if_icmp .ne 6, 3) := dk_160 0 6 (dk_at dksX5_statusBehind_0 14 rfl rfl)
theorem dX5_statusBehind_17 : decode cX5_statusBehind 17 = .ok (.goto 59, 3) := dk_167 0 59 (dk_at dksX5_statusBehind_0 17 rfl rfl)
theorem dX5_statusBehind_20 : decode cX5_statusBehind 20 = .ok (.aload_n 0, 1) := dk_42 (dk_at dksX5_statusBehind_0 20 rfl rfl)
theorem dX5_statusBehind_21 : decode cX5_statusBehind 21 = .ok (.getfield 49, 3) := dk_180 0 49 (dk_at dksX5_statusBehind_0 21 rfl rfl)
theorem dX5_statusBehind_24 : decode cX5_statusBehind 24 = .ok (.iload_n 3, 1) := dk_29 (dk_at dksX5_statusBehind_1 0 rfl rfl)
theorem dX5_statusBehind_25 : decode cX5_statusBehind 25 = .ok (.iaload, 1) := dk_46 (dk_at dksX5_statusBehind_1 1 rfl rfl)
theorem dX5_statusBehind_26 : decode cX5_statusBehind 26 = .ok (.iconst 3, 1) := dk_6 (dk_at dksX5_statusBehind_1 2 rfl rfl)
theorem dX5_statusBehind_27 : decode cX5_statusBehind 27 = .ok (.if_icmp .ne 14, 3) := dk_160 0 14 (dk_at dksX5_statusBehind_1 3 rfl rfl)
theorem dX5_statusBehind_30 : decode cX5_statusBehind 30 = .ok (.aload_n 0, 1) := dk_42 (dk_at dksX5_statusBehind_1 6 rfl rfl)
theorem dX5_statusBehind_31 : decode cX5_statusBehind 31 = .ok (.iload_n 1, 1) := dk_27 (dk_at dksX5_statusBehind_1 7 rfl rfl)
theorem dX5_statusBehind_32 : decode cX5_statusBehind 32 = .ok (.iload_n 3, 1) := dk_29 (dk_at dksX5_statusBehind_1 8 rfl rfl)
theorem dX5_statusBehind_33 : decode cX5_statusBehind 33 = .ok (.invokevirtual 332, 3) := dk_182 1 76 (dk_at dksX5_statusBehind_1 9 rfl rfl)
theorem dX5_statusBehind_36 : decode cX5_statusBehind 36 = .ok (.ifCond .eq 5, 3) := dk_153 0 5 (dk_at dksX5_statusBehind_1 12 rfl rfl)
theorem dX5_statusBehind_39 : decode cX5_statusBehind 39 = .ok (.iconst 4, 1) := dk_7 (dk_at dksX5_statusBehind_1 15 rfl rfl)
theorem dX5_statusBehind_40 : decode cX5_statusBehind 40 = .ok (.ireturn, 1) := dk_172 (dk_at dksX5_statusBehind_1 16 rfl rfl)
theorem dX5_statusBehind_41 : decode cX5_statusBehind 41 = .ok (.iload_n 2, 1) := dk_28 (dk_at dksX5_statusBehind_1 17 rfl rfl)
theorem dX5_statusBehind_42 : decode cX5_statusBehind 42 = .ok (.aload_n 0, 1) := dk_42 (dk_at dksX5_statusBehind_1 18 rfl rfl)
theorem dX5_statusBehind_43 : decode cX5_statusBehind 43 = .ok (.getfield 49, 3) := dk_180 0 49 (dk_at dksX5_statusBehind_1 19 rfl rfl)
theorem dX5_statusBehind_46 : decode cX5_statusBehind 46 = .ok (.iload_n 3, 1) := dk_29 (dk_at dksX5_statusBehind_1 22 rfl rfl)
theorem dX5_statusBehind_47 : decode cX5_statusBehind 47 = .ok (.iaload, 1) := dk_46 (dk_at dksX5_statusBehind_1 23 rfl rfl)
theorem dX5_statusBehind_48 : decode cX5_statusBehind 48 = .ok (.iconst 3, 1) := dk_6 (dk_at dksX5_statusBehind_2 0 rfl rfl)
theorem dX5_statusBehind_49 : decode cX5_statusBehind 49 = .ok (.if_icmp .eq 24, 3) := dk_159 0 24 (dk_at dksX5_statusBehind_2 1 rfl rfl)
theorem dX5_statusBehind_52 : decode cX5_statusBehind 52 = .ok (.aload_n 0, 1) := dk_42 (dk_at dksX5_statusBehind_2 4 rfl rfl)
theorem dX5_statusBehind_53 : decode cX5_statusBehind 53 = .ok (.iload_n 1, 1) := dk_27 (dk_at dksX5_statusBehind_2 5 rfl rfl)
theorem dX5_statusBehind_54 : decode cX5_statusBehind 54 = .ok (.aload_n 0, 1) := dk_42 (dk_at dksX5_statusBehind_2 6 rfl rfl)
theorem dX5_statusBehind_55 : decode cX5_statusBehind 55 = .ok (.getfield 7, 3) := dk_180 0 7 (dk_at dksX5_statusBehind_2 7 rfl rfl)
theorem dX5_statusBehind_58 : decode cX5_statusBehind 58 = .ok (.aload_n 0, 1) := dk_42 (dk_at dksX5_statusBehind_2 10 rfl rfl)
theorem dX5_statusBehind_59 : decode cX5_statusBehind 59 = .ok (.iload_n 3, 1) := dk_29 (dk_at dksX5_statusBehind_2 11 rfl rfl)
theorem dX5_statusBehind_60 : decode cX5_statusBehind 60 = .ok (.invokevirtual 118, 3) := dk_182 0 118 (dk_at dksX5_statusBehind_2 12 rfl rfl)
theorem dX5_statusBehind_63 : decode cX5_statusBehind 63 = .ok (.invokevirtual 328, 3) := dk_182 1 72 (dk_at dksX5_statusBehind_2 15 rfl rfl)
theorem dX5_statusBehind_66 : decode cX5_statusBehind 66 = .ok (.ifCond .eq 7, 3) := dk_153 0 7 (dk_at dksX5_statusBehind_2 18 rfl rfl)
theorem dX5_statusBehind_69 : decode cX5_statusBehind 69 = .ok (.iconst 1, 1) := dk_4 (dk_at dksX5_statusBehind_2 21 rfl rfl)
theorem dX5_statusBehind_70 : decode cX5_statusBehind 70 = .ok (.goto 4, 3) := dk_167 0 4 (dk_at dksX5_statusBehind_3 0 rfl rfl)
theorem dX5_statusBehind_73 : decode cX5_statusBehind 73 = .ok (.iconst 0, 1) := dk_3 (dk_at dksX5_statusBehind_3 3 rfl rfl)
theorem dX5_statusBehind_74 : decode cX5_statusBehind 74 = .ok (.ior, 1) := dk_128 (dk_at dksX5_statusBehind_3 4 rfl rfl)
theorem dX5_statusBehind_75 : decode cX5_statusBehind 75 = .ok (.istore_n 2, 1) := dk_61 (dk_at dksX5_statusBehind_3 5 rfl rfl)
theorem dX5_statusBehind_76 : decode cX5_statusBehind 76 = .ok (.iinc 3 1, 3) := dk_132 3 1 (dk_at dksX5_statusBehind_3 6 rfl rfl)
theorem dX5_statusBehind_79 : decode cX5_statusBehind 79 = .ok (.goto (-75), 3) := dk_167 255 181 (dk_at dksX5_statusBehind_3 9 rfl rfl)
theorem dX5_statusBehind_82 : decode cX5_statusBehind 82 = .ok (.iload_n 2, 1) := dk_28 (dk_at dksX5_statusBehind_3 12 rfl rfl)
theorem dX5_statusBehind_83 : decode cX5_statusBehind 83 = .ok (.ifCond .eq 7, 3) := dk_153 0 7 (dk_at dksX5_statusBehind_3 13 rfl rfl)
theorem dX5_statusBehind_86 : decode cX5_statusBehind 86 = .ok (.iconst 5, 1) := dk_8 (dk_at dksX5_statusBehind_3 16 rfl rfl)
theorem dX5_statusBehind_87 : decode cX5_statusBehind 87 = .ok (.goto 4, 3) := dk_167 0 4 (dk_at dksX5_statusBehind_3 17 rfl rfl)
theorem dX5_statusBehind_90 : decode cX5_statusBehind 90 = .ok (.iconst 3, 1) := dk_6 (dk_at dksX5_statusBehind_3 20 rfl rfl)
theorem dX5_statusBehind_91 : decode cX5_statusBehind 91 = .ok (.ireturn, 1) := dk_172 (dk_at dksX5_statusBehind_3 21 rfl rfl)
abbrev cX5_areNewAlike : ByteArray := prog_17_method_77_code
def yX5_areNewAlike : MethodName := ⟨RX5, "areNewAlike", "(II)Z"⟩
def dkwX5_areNewAlike_3 : List UInt8 := [29, 96, 52, 159, 0, 5, 3, 172, 132, 3, 1, 167, 255, 214, 4, 172]
abbrev dktX5_areNewAlike_3 : List UInt8 := dkwX5_areNewAlike_3 ++ []
def dkwX5_areNewAlike_2 : List UInt8 := [162, 0, 38, 42, 180, 0, 46, 17, 0, 200, 27, 104, 29, 96, 52, 42, 180, 0, 46, 17, 0, 200, 28, 104]
abbrev dktX5_areNewAlike_2 : List UInt8 := dkwX5_areNewAlike_2 ++ dktX5_areNewAlike_3
def dkwX5_areNewAlike_1 : List UInt8 := [27, 46, 42, 180, 0, 43, 28, 46, 159, 0, 5, 3, 172, 3, 62, 29, 42, 180, 0, 43, 27, 46]
abbrev dktX5_areNewAlike_1 : List UInt8 := dkwX5_areNewAlike_1 ++ dktX5_areNewAlike_2
def dkwX5_areNewAlike_0 : List UInt8 := [42, 180, 0, 31, 27, 46, 2, 159, 0, 28, 42, 180, 0, 31, 28, 46, 2, 159, 0, 18, 42, 180, 0, 43]
abbrev dktX5_areNewAlike_0 : List UInt8 := dkwX5_areNewAlike_0 ++ dktX5_areNewAlike_1
theorem dksX5_areNewAlike_0 : cX5_areNewAlike.data.toList.drop 0 = dktX5_areNewAlike_0 := by decide +kernel
theorem dksX5_areNewAlike_1 : cX5_areNewAlike.data.toList.drop 24 = dktX5_areNewAlike_1 := dk_seg dksX5_areNewAlike_0 24 rfl rfl
theorem dksX5_areNewAlike_2 : cX5_areNewAlike.data.toList.drop 46 = dktX5_areNewAlike_2 := dk_seg dksX5_areNewAlike_1 22 rfl rfl
theorem dksX5_areNewAlike_3 : cX5_areNewAlike.data.toList.drop 70 = dktX5_areNewAlike_3 := dk_seg dksX5_areNewAlike_2 24 rfl rfl
theorem dX5_areNewAlike_0 : decode cX5_areNewAlike 0 = .ok (.aload_n 0, 1) := dk_42 (dk_at dksX5_areNewAlike_0 0 rfl rfl)
theorem dX5_areNewAlike_1 : decode cX5_areNewAlike 1 = .ok (.getfield 31, 3) := dk_180 0 31 (dk_at dksX5_areNewAlike_0 1 rfl rfl)
theorem dX5_areNewAlike_4 : decode cX5_areNewAlike 4 = .ok (.iload_n 1, 1) := dk_27 (dk_at dksX5_areNewAlike_0 4 rfl rfl)
theorem dX5_areNewAlike_5 : decode cX5_areNewAlike 5 = .ok (.iaload, 1) := dk_46 (dk_at dksX5_areNewAlike_0 5 rfl rfl)
theorem dX5_areNewAlike_6 : decode cX5_areNewAlike 6 = .ok (.iconst (-1), 1) := dk_2 (dk_at dksX5_areNewAlike_0 6 rfl rfl)
theorem dX5_areNewAlike_7 : decode cX5_areNewAlike 7 = .ok (.if_icmp .eq 28, 3) := dk_159 0 28 (dk_at dksX5_areNewAlike_0 7 rfl rfl)
theorem dX5_areNewAlike_10 : decode cX5_areNewAlike 10 = .ok (.aload_n 0, 1) := dk_42 (dk_at dksX5_areNewAlike_0 10 rfl rfl)
theorem dX5_areNewAlike_11 : decode cX5_areNewAlike 11 = .ok (.getfield 31, 3) := dk_180 0 31 (dk_at dksX5_areNewAlike_0 11 rfl rfl)
theorem dX5_areNewAlike_14 : decode cX5_areNewAlike 14 = .ok (.iload_n 2, 1) := dk_28 (dk_at dksX5_areNewAlike_0 14 rfl rfl)
theorem dX5_areNewAlike_15 : decode cX5_areNewAlike 15 = .ok (.iaload, 1) := dk_46 (dk_at dksX5_areNewAlike_0 15 rfl rfl)
theorem dX5_areNewAlike_16 : decode cX5_areNewAlike 16 = .ok (.iconst (-1), 1) := dk_2 (dk_at dksX5_areNewAlike_0 16 rfl rfl)
theorem dX5_areNewAlike_17 : decode cX5_areNewAlike 17 = .ok (.if_icmp .eq 18, 3) := dk_159 0 18 (dk_at dksX5_areNewAlike_0 17 rfl rfl)
theorem dX5_areNewAlike_20 : decode cX5_areNewAlike 20 = .ok (.aload_n 0, 1) := dk_42 (dk_at dksX5_areNewAlike_0 20 rfl rfl)
theorem dX5_areNewAlike_21 : decode cX5_areNewAlike 21 = .ok (.getfield 43, 3) := dk_180 0 43 (dk_at dksX5_areNewAlike_0 21 rfl rfl)
theorem dX5_areNewAlike_24 : decode cX5_areNewAlike 24 = .ok (.iload_n 1, 1) := dk_27 (dk_at dksX5_areNewAlike_1 0 rfl rfl)
theorem dX5_areNewAlike_25 : decode cX5_areNewAlike 25 = .ok (.iaload, 1) := dk_46 (dk_at dksX5_areNewAlike_1 1 rfl rfl)
theorem dX5_areNewAlike_26 : decode cX5_areNewAlike 26 = .ok (.aload_n 0, 1) := dk_42 (dk_at dksX5_areNewAlike_1 2 rfl rfl)
theorem dX5_areNewAlike_27 : decode cX5_areNewAlike 27 = .ok (.getfield 43, 3) := dk_180 0 43 (dk_at dksX5_areNewAlike_1 3 rfl rfl)
theorem dX5_areNewAlike_30 : decode cX5_areNewAlike 30 = .ok (.iload_n 2, 1) := dk_28 (dk_at dksX5_areNewAlike_1 6 rfl rfl)
theorem dX5_areNewAlike_31 : decode cX5_areNewAlike 31 = .ok (.iaload, 1) := dk_46 (dk_at dksX5_areNewAlike_1 7 rfl rfl)
theorem dX5_areNewAlike_32 : decode cX5_areNewAlike 32 = .ok (.if_icmp .eq 5, 3) := dk_159 0 5 (dk_at dksX5_areNewAlike_1 8 rfl rfl)
theorem dX5_areNewAlike_35 : decode cX5_areNewAlike 35 = .ok (.iconst 0, 1) := dk_3 (dk_at dksX5_areNewAlike_1 11 rfl rfl)
theorem dX5_areNewAlike_36 : decode cX5_areNewAlike 36 = .ok (.ireturn, 1) := dk_172 (dk_at dksX5_areNewAlike_1 12 rfl rfl)
theorem dX5_areNewAlike_37 : decode cX5_areNewAlike 37 = .ok (.iconst 0, 1) := dk_3 (dk_at dksX5_areNewAlike_1 13 rfl rfl)
theorem dX5_areNewAlike_38 : decode cX5_areNewAlike 38 = .ok (.istore_n 3, 1) := dk_62 (dk_at dksX5_areNewAlike_1 14 rfl rfl)
theorem dX5_areNewAlike_39 : decode cX5_areNewAlike 39 = .ok (.iload_n 3, 1) := dk_29 (dk_at dksX5_areNewAlike_1 15 rfl rfl)
theorem dX5_areNewAlike_40 : decode cX5_areNewAlike 40 = .ok (.aload_n 0, 1) := dk_42 (dk_at dksX5_areNewAlike_1 16 rfl rfl)
theorem dX5_areNewAlike_41 : decode cX5_areNewAlike 41 = .ok (.getfield 43, 3) := dk_180 0 43 (dk_at dksX5_areNewAlike_1 17 rfl rfl)
theorem dX5_areNewAlike_44 : decode cX5_areNewAlike 44 = .ok (.iload_n 1, 1) := dk_27 (dk_at dksX5_areNewAlike_1 20 rfl rfl)
theorem dX5_areNewAlike_45 : decode cX5_areNewAlike 45 = .ok (.iaload, 1) := dk_46 (dk_at dksX5_areNewAlike_1 21 rfl rfl)
theorem dX5_areNewAlike_46 : decode cX5_areNewAlike 46 = .ok (.if_icmp .ge 38, 3) := dk_162 0 38 (dk_at dksX5_areNewAlike_2 0 rfl rfl)
theorem dX5_areNewAlike_49 : decode cX5_areNewAlike 49 = .ok (.aload_n 0, 1) := dk_42 (dk_at dksX5_areNewAlike_2 3 rfl rfl)
theorem dX5_areNewAlike_50 : decode cX5_areNewAlike 50 = .ok (.getfield 46, 3) := dk_180 0 46 (dk_at dksX5_areNewAlike_2 4 rfl rfl)
theorem dX5_areNewAlike_53 : decode cX5_areNewAlike 53 = .ok (.sipush 200, 3) := dk_17 0 200 (dk_at dksX5_areNewAlike_2 7 rfl rfl)
theorem dX5_areNewAlike_56 : decode cX5_areNewAlike 56 = .ok (.iload_n 1, 1) := dk_27 (dk_at dksX5_areNewAlike_2 10 rfl rfl)
theorem dX5_areNewAlike_57 : decode cX5_areNewAlike 57 = .ok (.imul, 1) := dk_104 (dk_at dksX5_areNewAlike_2 11 rfl rfl)
theorem dX5_areNewAlike_58 : decode cX5_areNewAlike 58 = .ok (.iload_n 3, 1) := dk_29 (dk_at dksX5_areNewAlike_2 12 rfl rfl)
theorem dX5_areNewAlike_59 : decode cX5_areNewAlike 59 = .ok (.iadd, 1) := dk_96 (dk_at dksX5_areNewAlike_2 13 rfl rfl)
theorem dX5_areNewAlike_60 : decode cX5_areNewAlike 60 = .ok (.caload, 1) := dk_52 (dk_at dksX5_areNewAlike_2 14 rfl rfl)
theorem dX5_areNewAlike_61 : decode cX5_areNewAlike 61 = .ok (.aload_n 0, 1) := dk_42 (dk_at dksX5_areNewAlike_2 15 rfl rfl)
theorem dX5_areNewAlike_62 : decode cX5_areNewAlike 62 = .ok (.getfield 46, 3) := dk_180 0 46 (dk_at dksX5_areNewAlike_2 16 rfl rfl)
theorem dX5_areNewAlike_65 : decode cX5_areNewAlike 65 = .ok (.sipush 200, 3) := dk_17 0 200 (dk_at dksX5_areNewAlike_2 19 rfl rfl)
theorem dX5_areNewAlike_68 : decode cX5_areNewAlike 68 = .ok (.iload_n 2, 1) := dk_28 (dk_at dksX5_areNewAlike_2 22 rfl rfl)
theorem dX5_areNewAlike_69 : decode cX5_areNewAlike 69 = .ok (.imul, 1) := dk_104 (dk_at dksX5_areNewAlike_2 23 rfl rfl)
theorem dX5_areNewAlike_70 : decode cX5_areNewAlike 70 = .ok (.iload_n 3, 1) := dk_29 (dk_at dksX5_areNewAlike_3 0 rfl rfl)
theorem dX5_areNewAlike_71 : decode cX5_areNewAlike 71 = .ok (.iadd, 1) := dk_96 (dk_at dksX5_areNewAlike_3 1 rfl rfl)
theorem dX5_areNewAlike_72 : decode cX5_areNewAlike 72 = .ok (.caload, 1) := dk_52 (dk_at dksX5_areNewAlike_3 2 rfl rfl)
theorem dX5_areNewAlike_73 : decode cX5_areNewAlike 73 = .ok (.if_icmp .eq 5, 3) := dk_159 0 5 (dk_at dksX5_areNewAlike_3 3 rfl rfl)
theorem dX5_areNewAlike_76 : decode cX5_areNewAlike 76 = .ok (.iconst 0, 1) := dk_3 (dk_at dksX5_areNewAlike_3 6 rfl rfl)
theorem dX5_areNewAlike_77 : decode cX5_areNewAlike 77 = .ok (.ireturn, 1) := dk_172 (dk_at dksX5_areNewAlike_3 7 rfl rfl)
theorem dX5_areNewAlike_78 : decode cX5_areNewAlike 78 = .ok (.iinc 3 1, 3) := dk_132 3 1 (dk_at dksX5_areNewAlike_3 8 rfl rfl)
theorem dX5_areNewAlike_81 : decode cX5_areNewAlike 81 = .ok (.goto (-42), 3) := dk_167 255 214 (dk_at dksX5_areNewAlike_3 11 rfl rfl)
theorem dX5_areNewAlike_84 : decode cX5_areNewAlike 84 = .ok (.iconst 1, 1) := dk_4 (dk_at dksX5_areNewAlike_3 14 rfl rfl)
theorem dX5_areNewAlike_85 : decode cX5_areNewAlike 85 = .ok (.ireturn, 1) := dk_172 (dk_at dksX5_areNewAlike_3 15 rfl rfl)
abbrev cX5_filesOf : ByteArray := prog_17_method_85_code
def yX5_filesOf : MethodName := ⟨RX5, "filesOf", "(I)I"⟩
def dkwX5_filesOf_1 : List UInt8 := [182, 0, 130, 172]
abbrev dktX5_filesOf_1 : List UInt8 := dkwX5_filesOf_1 ++ []
def dkwX5_filesOf_0 : List UInt8 := [42, 3, 181, 0, 91, 42, 27, 182, 1, 41, 153, 0, 11, 42, 27, 182, 1, 106, 167, 0, 8, 42, 4]
abbrev dktX5_filesOf_0 : List UInt8 := dkwX5_filesOf_0 ++ dktX5_filesOf_1
theorem dksX5_filesOf_0 : cX5_filesOf.data.toList.drop 0 = dktX5_filesOf_0 := by decide +kernel
theorem dksX5_filesOf_1 : cX5_filesOf.data.toList.drop 23 = dktX5_filesOf_1 := dk_seg dksX5_filesOf_0 23 rfl rfl
theorem dX5_filesOf_0 : decode cX5_filesOf 0 = .ok (.aload_n 0, 1) := dk_42 (dk_at dksX5_filesOf_0 0 rfl rfl)
theorem dX5_filesOf_1 : decode cX5_filesOf 1 = .ok (.iconst 0, 1) := dk_3 (dk_at dksX5_filesOf_0 1 rfl rfl)
theorem dX5_filesOf_2 : decode cX5_filesOf 2 = .ok (.putfield 91, 3) := dk_181 0 91 (dk_at dksX5_filesOf_0 2 rfl rfl)
theorem dX5_filesOf_5 : decode cX5_filesOf 5 = .ok (.aload_n 0, 1) := dk_42 (dk_at dksX5_filesOf_0 5 rfl rfl)
theorem dX5_filesOf_6 : decode cX5_filesOf 6 = .ok (.iload_n 1, 1) := dk_27 (dk_at dksX5_filesOf_0 6 rfl rfl)
theorem dX5_filesOf_7 : decode cX5_filesOf 7 = .ok (.invokevirtual 297, 3) := dk_182 1 41 (dk_at dksX5_filesOf_0 7 rfl rfl)
theorem dX5_filesOf_10 : decode cX5_filesOf 10 = .ok (.ifCond .eq 11, 3) := dk_153 0 11 (dk_at dksX5_filesOf_0 10 rfl rfl)
theorem dX5_filesOf_13 : decode cX5_filesOf 13 = .ok (.aload_n 0, 1) := dk_42 (dk_at dksX5_filesOf_0 13 rfl rfl)
theorem dX5_filesOf_14 : decode cX5_filesOf 14 = .ok (.iload_n 1, 1) := dk_27 (dk_at dksX5_filesOf_0 14 rfl rfl)
theorem dX5_filesOf_15 : decode cX5_filesOf 15 = .ok (.invokevirtual 362, 3) := dk_182 1 106 (dk_at dksX5_filesOf_0 15 rfl rfl)
theorem dX5_filesOf_18 : decode cX5_filesOf 18 = .ok (.goto 8, 3) := dk_167 0 8 (dk_at dksX5_filesOf_0 18 rfl rfl)
theorem dX5_filesOf_21 : decode cX5_filesOf 21 = .ok (.aload_n 0, 1) := dk_42 (dk_at dksX5_filesOf_0 21 rfl rfl)
theorem dX5_filesOf_22 : decode cX5_filesOf 22 = .ok (.iconst 1, 1) := dk_4 (dk_at dksX5_filesOf_0 22 rfl rfl)
theorem dX5_filesOf_23 : decode cX5_filesOf 23 = .ok (.invokevirtual 130, 3) := dk_182 0 130 (dk_at dksX5_filesOf_1 0 rfl rfl)
theorem dX5_filesOf_26 : decode cX5_filesOf 26 = .ok (.ireturn, 1) := dk_172 (dk_at dksX5_filesOf_1 3 rfl rfl)
abbrev cX5_setWith : ByteArray := prog_17_method_84_code
def yX5_setWith : MethodName := ⟨RX5, "setWith", "(I)I"⟩
def dkwX5_setWith_1 : List UInt8 := [160, 0, 9, 28, 4, 29, 120, 128, 61, 132, 3, 1, 167, 255, 229, 28, 172]
abbrev dktX5_setWith_1 : List UInt8 := dkwX5_setWith_1 ++ []
def dkwX5_setWith_0 : List UInt8 := [42, 182, 1, 100, 3, 61, 3, 62, 29, 42, 182, 0, 101, 162, 0, 25, 42, 180, 0, 31, 29, 46, 27]
abbrev dktX5_setWith_0 : List UInt8 := dkwX5_setWith_0 ++ dktX5_setWith_1
theorem dksX5_setWith_0 : cX5_setWith.data.toList.drop 0 = dktX5_setWith_0 := by decide +kernel
theorem dksX5_setWith_1 : cX5_setWith.data.toList.drop 23 = dktX5_setWith_1 := dk_seg dksX5_setWith_0 23 rfl rfl
theorem dX5_setWith_0 : decode cX5_setWith 0 = .ok (.aload_n 0, 1) := dk_42 (dk_at dksX5_setWith_0 0 rfl rfl)
theorem dX5_setWith_1 : decode cX5_setWith 1 = .ok (.invokevirtual 356, 3) := dk_182 1 100 (dk_at dksX5_setWith_0 1 rfl rfl)
theorem dX5_setWith_4 : decode cX5_setWith 4 = .ok (.iconst 0, 1) := dk_3 (dk_at dksX5_setWith_0 4 rfl rfl)
theorem dX5_setWith_5 : decode cX5_setWith 5 = .ok (.istore_n 2, 1) := dk_61 (dk_at dksX5_setWith_0 5 rfl rfl)
theorem dX5_setWith_6 : decode cX5_setWith 6 = .ok (.iconst 0, 1) := dk_3 (dk_at dksX5_setWith_0 6 rfl rfl)
theorem dX5_setWith_7 : decode cX5_setWith 7 = .ok (.istore_n 3, 1) := dk_62 (dk_at dksX5_setWith_0 7 rfl rfl)
theorem dX5_setWith_8 : decode cX5_setWith 8 = .ok (.iload_n 3, 1) := dk_29 (dk_at dksX5_setWith_0 8 rfl rfl)
theorem dX5_setWith_9 : decode cX5_setWith 9 = .ok (.aload_n 0, 1) := dk_42 (dk_at dksX5_setWith_0 9 rfl rfl)
theorem dX5_setWith_10 : decode cX5_setWith 10 = .ok (.invokevirtual 101, 3) := dk_182 0 101 (dk_at dksX5_setWith_0 10 rfl rfl)
theorem dX5_setWith_13 : decode cX5_setWith 13 = .ok (.if_icmp .ge 25, 3) := dk_162 0 25 (dk_at dksX5_setWith_0 13 rfl rfl)
theorem dX5_setWith_16 : decode cX5_setWith 16 = .ok (.aload_n 0, 1) := dk_42 (dk_at dksX5_setWith_0 16 rfl rfl)
theorem dX5_setWith_17 : decode cX5_setWith 17 = .ok (.getfield 31, 3) := dk_180 0 31 (dk_at dksX5_setWith_0 17 rfl rfl)
theorem dX5_setWith_20 : decode cX5_setWith 20 = .ok (.iload_n 3, 1) := dk_29 (dk_at dksX5_setWith_0 20 rfl rfl)
theorem dX5_setWith_21 : decode cX5_setWith 21 = .ok (.iaload, 1) := dk_46 (dk_at dksX5_setWith_0 21 rfl rfl)
theorem dX5_setWith_22 : decode cX5_setWith 22 = .ok (.iload_n 1, 1) := dk_27 (dk_at dksX5_setWith_0 22 rfl rfl)
theorem dX5_setWith_23 : decode cX5_setWith 23 = .ok (.if_icmp .ne 9, 3) := dk_160 0 9 (dk_at dksX5_setWith_1 0 rfl rfl)
theorem dX5_setWith_26 : decode cX5_setWith 26 = .ok (.iload_n 2, 1) := dk_28 (dk_at dksX5_setWith_1 3 rfl rfl)
theorem dX5_setWith_27 : decode cX5_setWith 27 = .ok (.iconst 1, 1) := dk_4 (dk_at dksX5_setWith_1 4 rfl rfl)
theorem dX5_setWith_28 : decode cX5_setWith 28 = .ok (.iload_n 3, 1) := dk_29 (dk_at dksX5_setWith_1 5 rfl rfl)
theorem dX5_setWith_29 : decode cX5_setWith 29 = .ok (.ishl, 1) := dk_120 (dk_at dksX5_setWith_1 6 rfl rfl)
theorem dX5_setWith_30 : decode cX5_setWith 30 = .ok (.ior, 1) := dk_128 (dk_at dksX5_setWith_1 7 rfl rfl)
theorem dX5_setWith_31 : decode cX5_setWith 31 = .ok (.istore_n 2, 1) := dk_61 (dk_at dksX5_setWith_1 8 rfl rfl)
theorem dX5_setWith_32 : decode cX5_setWith 32 = .ok (.iinc 3 1, 3) := dk_132 3 1 (dk_at dksX5_setWith_1 9 rfl rfl)
theorem dX5_setWith_35 : decode cX5_setWith 35 = .ok (.goto (-27), 3) := dk_167 255 229 (dk_at dksX5_setWith_1 12 rfl rfl)
theorem dX5_setWith_38 : decode cX5_setWith 38 = .ok (.iload_n 2, 1) := dk_28 (dk_at dksX5_setWith_1 15 rfl rfl)
theorem dX5_setWith_39 : decode cX5_setWith 39 = .ok (.ireturn, 1) := dk_172 (dk_at dksX5_setWith_1 16 rfl rfl)
abbrev cX5_groups : ByteArray := prog_17_method_86_code
def yX5_groups : MethodName := ⟨RX5, "groups", "(I)I"⟩
def dkwX5_groups_4 : List UInt8 := [132, 3, 1, 167, 255, 186, 28, 172]
abbrev dktX5_groups_4 : List UInt8 := dkwX5_groups_4 ++ []
def dkwX5_groups_3 : List UInt8 := [4, 167, 0, 4, 3, 126, 54, 4, 132, 5, 1, 167, 255, 227, 21, 4, 153, 0, 6, 132, 2, 1]
abbrev dktX5_groups_3 : List UInt8 := dkwX5_groups_3 ++ dktX5_groups_4
def dkwX5_groups_2 : List UInt8 := [4, 54, 4, 3, 54, 5, 21, 5, 29, 162, 0, 29, 21, 4, 42, 21, 5, 29, 182, 1, 69, 154, 0, 7]
abbrev dktX5_groups_2 : List UInt8 := dkwX5_groups_2 ++ dktX5_groups_3
def dkwX5_groups_1 : List UInt8 := [61, 3, 62, 29, 42, 182, 0, 101, 162, 0, 68, 42, 180, 0, 31, 29, 46, 27, 159, 0, 6, 167, 0, 49]
abbrev dktX5_groups_1 : List UInt8 := dkwX5_groups_1 ++ dktX5_groups_2
def dkwX5_groups_0 : List UInt8 := [42, 3, 181, 0, 91, 42, 27, 182, 1, 41, 154, 0, 9, 42, 4, 182, 0, 130, 172, 42, 182, 1, 100, 3]
abbrev dktX5_groups_0 : List UInt8 := dkwX5_groups_0 ++ dktX5_groups_1
theorem dksX5_groups_0 : cX5_groups.data.toList.drop 0 = dktX5_groups_0 := by decide +kernel
theorem dksX5_groups_1 : cX5_groups.data.toList.drop 24 = dktX5_groups_1 := dk_seg dksX5_groups_0 24 rfl rfl
theorem dksX5_groups_2 : cX5_groups.data.toList.drop 48 = dktX5_groups_2 := dk_seg dksX5_groups_1 24 rfl rfl
theorem dksX5_groups_3 : cX5_groups.data.toList.drop 72 = dktX5_groups_3 := dk_seg dksX5_groups_2 24 rfl rfl
theorem dksX5_groups_4 : cX5_groups.data.toList.drop 94 = dktX5_groups_4 := dk_seg dksX5_groups_3 22 rfl rfl
theorem dX5_groups_0 : decode cX5_groups 0 = .ok (.aload_n 0, 1) := dk_42 (dk_at dksX5_groups_0 0 rfl rfl)
theorem dX5_groups_1 : decode cX5_groups 1 = .ok (.iconst 0, 1) := dk_3 (dk_at dksX5_groups_0 1 rfl rfl)
theorem dX5_groups_2 : decode cX5_groups 2 = .ok (.putfield 91, 3) := dk_181 0 91 (dk_at dksX5_groups_0 2 rfl rfl)
theorem dX5_groups_5 : decode cX5_groups 5 = .ok (.aload_n 0, 1) := dk_42 (dk_at dksX5_groups_0 5 rfl rfl)
theorem dX5_groups_6 : decode cX5_groups 6 = .ok (.iload_n 1, 1) := dk_27 (dk_at dksX5_groups_0 6 rfl rfl)
theorem dX5_groups_7 : decode cX5_groups 7 = .ok (.invokevirtual 297, 3) := dk_182 1 41 (dk_at dksX5_groups_0 7 rfl rfl)
theorem dX5_groups_10 : decode cX5_groups 10 = .ok (.ifCond .ne 9, 3) := dk_154 0 9 (dk_at dksX5_groups_0 10 rfl rfl)
theorem dX5_groups_13 : decode cX5_groups 13 = .ok (.aload_n 0, 1) := dk_42 (dk_at dksX5_groups_0 13 rfl rfl)
theorem dX5_groups_14 : decode cX5_groups 14 = .ok (.iconst 1, 1) := dk_4 (dk_at dksX5_groups_0 14 rfl rfl)
theorem dX5_groups_15 : decode cX5_groups 15 = .ok (.invokevirtual 130, 3) := dk_182 0 130 (dk_at dksX5_groups_0 15 rfl rfl)
theorem dX5_groups_18 : decode cX5_groups 18 = .ok (.ireturn, 1) := dk_172 (dk_at dksX5_groups_0 18 rfl rfl)
theorem dX5_groups_19 : decode cX5_groups 19 = .ok (.aload_n 0, 1) := dk_42 (dk_at dksX5_groups_0 19 rfl rfl)
theorem dX5_groups_20 : decode cX5_groups 20 = .ok (.invokevirtual 356, 3) := dk_182 1 100 (dk_at dksX5_groups_0 20 rfl rfl)
theorem dX5_groups_23 : decode cX5_groups 23 = .ok (.iconst 0, 1) := dk_3 (dk_at dksX5_groups_0 23 rfl rfl)
theorem dX5_groups_24 : decode cX5_groups 24 = .ok (.istore_n 2, 1) := dk_61 (dk_at dksX5_groups_1 0 rfl rfl)
theorem dX5_groups_25 : decode cX5_groups 25 = .ok (.iconst 0, 1) := dk_3 (dk_at dksX5_groups_1 1 rfl rfl)
theorem dX5_groups_26 : decode cX5_groups 26 = .ok (.istore_n 3, 1) := dk_62 (dk_at dksX5_groups_1 2 rfl rfl)
theorem dX5_groups_27 : decode cX5_groups 27 = .ok (.iload_n 3, 1) := dk_29 (dk_at dksX5_groups_1 3 rfl rfl)
theorem dX5_groups_28 : decode cX5_groups 28 = .ok (.aload_n 0, 1) := dk_42 (dk_at dksX5_groups_1 4 rfl rfl)
theorem dX5_groups_29 : decode cX5_groups 29 = .ok (.invokevirtual 101, 3) := dk_182 0 101 (dk_at dksX5_groups_1 5 rfl rfl)
theorem dX5_groups_32 : decode cX5_groups 32 = .ok (.if_icmp .ge 68, 3) := dk_162 0 68 (dk_at dksX5_groups_1 8 rfl rfl)
theorem dX5_groups_35 : decode cX5_groups 35 = .ok (.aload_n 0, 1) := dk_42 (dk_at dksX5_groups_1 11 rfl rfl)
theorem dX5_groups_36 : decode cX5_groups 36 = .ok (.getfield 31, 3) := dk_180 0 31 (dk_at dksX5_groups_1 12 rfl rfl)
theorem dX5_groups_39 : decode cX5_groups 39 = .ok (.iload_n 3, 1) := dk_29 (dk_at dksX5_groups_1 15 rfl rfl)
theorem dX5_groups_40 : decode cX5_groups 40 = .ok (.iaload, 1) := dk_46 (dk_at dksX5_groups_1 16 rfl rfl)
theorem dX5_groups_41 : decode cX5_groups 41 = .ok (.iload_n 1, 1) := dk_27 (dk_at dksX5_groups_1 17 rfl rfl)
theorem dX5_groups_42 : decode cX5_groups 42 = .ok (.if_icmp .eq 6, 3) := dk_159 0 6 (dk_at dksX5_groups_1 18 rfl rfl)
theorem dX5_groups_45 : decode cX5_groups 45 = .ok (.goto 49, 3) := dk_167 0 49 (dk_at dksX5_groups_1 21 rfl rfl)
theorem dX5_groups_48 : decode cX5_groups 48 = .ok (.iconst 1, 1) := dk_4 (dk_at dksX5_groups_2 0 rfl rfl)
theorem dX5_groups_49 : decode cX5_groups 49 = .ok (.istore 4, 2) := dk_54 4 (dk_at dksX5_groups_2 1 rfl rfl)
theorem dX5_groups_51 : decode cX5_groups 51 = .ok (.iconst 0, 1) := dk_3 (dk_at dksX5_groups_2 3 rfl rfl)
theorem dX5_groups_52 : decode cX5_groups 52 = .ok (.istore 5, 2) := dk_54 5 (dk_at dksX5_groups_2 4 rfl rfl)
theorem dX5_groups_54 : decode cX5_groups 54 = .ok (.iload 5, 2) := dk_21 5 (dk_at dksX5_groups_2 6 rfl rfl)
theorem dX5_groups_56 : decode cX5_groups 56 = .ok (.iload_n 3, 1) := dk_29 (dk_at dksX5_groups_2 8 rfl rfl)
theorem dX5_groups_57 : decode cX5_groups 57 = .ok (.if_icmp .ge 29, 3) := dk_162 0 29 (dk_at dksX5_groups_2 9 rfl rfl)
theorem dX5_groups_60 : decode cX5_groups 60 = .ok (.iload 4, 2) := dk_21 4 (dk_at dksX5_groups_2 12 rfl rfl)
theorem dX5_groups_62 : decode cX5_groups 62 = .ok (.aload_n 0, 1) := dk_42 (dk_at dksX5_groups_2 14 rfl rfl)
theorem dX5_groups_63 : decode cX5_groups 63 = .ok (.iload 5, 2) := dk_21 5 (dk_at dksX5_groups_2 15 rfl rfl)
theorem dX5_groups_65 : decode cX5_groups 65 = .ok (.iload_n 3, 1) := dk_29 (dk_at dksX5_groups_2 17 rfl rfl)
theorem dX5_groups_66 : decode cX5_groups 66 = .ok (.invokevirtual 325, 3) := dk_182 1 69 (dk_at dksX5_groups_2 18 rfl rfl)
theorem dX5_groups_69 : decode cX5_groups 69 = .ok (.ifCond .ne 7, 3) := dk_154 0 7 (dk_at dksX5_groups_2 21 rfl rfl)
theorem dX5_groups_72 : decode cX5_groups 72 = .ok (.iconst 1, 1) := dk_4 (dk_at dksX5_groups_3 0 rfl rfl)
theorem dX5_groups_73 : decode cX5_groups 73 = .ok (.goto 4, 3) := dk_167 0 4 (dk_at dksX5_groups_3 1 rfl rfl)
theorem dX5_groups_76 : decode cX5_groups 76 = .ok (.iconst 0, 1) := dk_3 (dk_at dksX5_groups_3 4 rfl rfl)
theorem dX5_groups_77 : decode cX5_groups 77 = .ok (.iand, 1) := dk_126 (dk_at dksX5_groups_3 5 rfl rfl)
theorem dX5_groups_78 : decode cX5_groups 78 = .ok (.istore 4, 2) := dk_54 4 (dk_at dksX5_groups_3 6 rfl rfl)
theorem dX5_groups_80 : decode cX5_groups 80 = .ok (.iinc 5 1, 3) := dk_132 5 1 (dk_at dksX5_groups_3 8 rfl rfl)
theorem dX5_groups_83 : decode cX5_groups 83 = .ok (.goto (-29), 3) := dk_167 255 227 (dk_at dksX5_groups_3 11 rfl rfl)
theorem dX5_groups_86 : decode cX5_groups 86 = .ok (.iload 4, 2) := dk_21 4 (dk_at dksX5_groups_3 14 rfl rfl)
theorem dX5_groups_88 : decode cX5_groups 88 = .ok (.ifCond .eq 6, 3) := dk_153 0 6 (dk_at dksX5_groups_3 16 rfl rfl)
theorem dX5_groups_91 : decode cX5_groups 91 = .ok (.iinc 2 1, 3) := dk_132 2 1 (dk_at dksX5_groups_3 19 rfl rfl)
theorem dX5_groups_94 : decode cX5_groups 94 = .ok (.iinc 3 1, 3) := dk_132 3 1 (dk_at dksX5_groups_4 0 rfl rfl)
theorem dX5_groups_97 : decode cX5_groups 97 = .ok (.goto (-70), 3) := dk_167 255 186 (dk_at dksX5_groups_4 3 rfl rfl)
theorem dX5_groups_100 : decode cX5_groups 100 = .ok (.iload_n 2, 1) := dk_28 (dk_at dksX5_groups_4 6 rfl rfl)
theorem dX5_groups_101 : decode cX5_groups 101 = .ok (.ireturn, 1) := dk_172 (dk_at dksX5_groups_4 7 rfl rfl)
abbrev cX5_counter : ByteArray := prog_17_method_87_code
def yX5_counter : MethodName := ⟨RX5, "counter", "(I)I"⟩
def dkwX5_counter_1 : List UInt8 := [42, 180, 0, 40, 27, 46, 172]
abbrev dktX5_counter_1 : List UInt8 := dkwX5_counter_1 ++ []
def dkwX5_counter_0 : List UInt8 := [42, 27, 182, 1, 103, 154, 0, 5, 3, 172, 42, 180, 0, 31, 27, 46, 2, 160, 0, 7, 2, 167, 0, 9]
abbrev dktX5_counter_0 : List UInt8 := dkwX5_counter_0 ++ dktX5_counter_1
theorem dksX5_counter_0 : cX5_counter.data.toList.drop 0 = dktX5_counter_0 := by decide +kernel
theorem dksX5_counter_1 : cX5_counter.data.toList.drop 24 = dktX5_counter_1 := dk_seg dksX5_counter_0 24 rfl rfl
theorem dX5_counter_0 : decode cX5_counter 0 = .ok (.aload_n 0, 1) := dk_42 (dk_at dksX5_counter_0 0 rfl rfl)
theorem dX5_counter_1 : decode cX5_counter 1 = .ok (.iload_n 1, 1) := dk_27 (dk_at dksX5_counter_0 1 rfl rfl)
theorem dX5_counter_2 : decode cX5_counter 2 = .ok (.invokevirtual 359, 3) := dk_182 1 103 (dk_at dksX5_counter_0 2 rfl rfl)
theorem dX5_counter_5 : decode cX5_counter 5 = .ok (.ifCond .ne 5, 3) := dk_154 0 5 (dk_at dksX5_counter_0 5 rfl rfl)
theorem dX5_counter_8 : decode cX5_counter 8 = .ok (.iconst 0, 1) := dk_3 (dk_at dksX5_counter_0 8 rfl rfl)
theorem dX5_counter_9 : decode cX5_counter 9 = .ok (.ireturn, 1) := dk_172 (dk_at dksX5_counter_0 9 rfl rfl)
theorem dX5_counter_10 : decode cX5_counter 10 = .ok (.aload_n 0, 1) := dk_42 (dk_at dksX5_counter_0 10 rfl rfl)
theorem dX5_counter_11 : decode cX5_counter 11 = .ok (.getfield 31, 3) := dk_180 0 31 (dk_at dksX5_counter_0 11 rfl rfl)
theorem dX5_counter_14 : decode cX5_counter 14 = .ok (.iload_n 1, 1) := dk_27 (dk_at dksX5_counter_0 14 rfl rfl)
theorem dX5_counter_15 : decode cX5_counter 15 = .ok (.iaload, 1) := dk_46 (dk_at dksX5_counter_0 15 rfl rfl)
theorem dX5_counter_16 : decode cX5_counter 16 = .ok (.iconst (-1), 1) := dk_2 (dk_at dksX5_counter_0 16 rfl rfl)
theorem dX5_counter_17 : decode cX5_counter 17 = .ok (.if_icmp .ne 7, 3) := dk_160 0 7 (dk_at dksX5_counter_0 17 rfl rfl)
theorem dX5_counter_20 : decode cX5_counter 20 = .ok (.iconst (-1), 1) := dk_2 (dk_at dksX5_counter_0 20 rfl rfl)
theorem dX5_counter_21 : decode cX5_counter 21 = .ok (.goto 9, 3) := dk_167 0 9 (dk_at dksX5_counter_0 21 rfl rfl)
theorem dX5_counter_24 : decode cX5_counter 24 = .ok (.aload_n 0, 1) := dk_42 (dk_at dksX5_counter_1 0 rfl rfl)
theorem dX5_counter_25 : decode cX5_counter 25 = .ok (.getfield 40, 3) := dk_180 0 40 (dk_at dksX5_counter_1 1 rfl rfl)
theorem dX5_counter_28 : decode cX5_counter 28 = .ok (.iload_n 1, 1) := dk_27 (dk_at dksX5_counter_1 4 rfl rfl)
theorem dX5_counter_29 : decode cX5_counter 29 = .ok (.iaload, 1) := dk_46 (dk_at dksX5_counter_1 5 rfl rfl)
theorem dX5_counter_30 : decode cX5_counter 30 = .ok (.ireturn, 1) := dk_172 (dk_at dksX5_counter_1 6 rfl rfl)
abbrev cX5_status : ByteArray := prog_17_method_88_code
def yX5_status : MethodName := ⟨RX5, "status", "(I)I"⟩
def dkwX5_status_0 : List UInt8 := [42, 27, 182, 1, 103, 153, 0, 12, 42, 180, 0, 49, 27, 46, 167, 0, 4, 3, 172]
abbrev dktX5_status_0 : List UInt8 := dkwX5_status_0 ++ []
theorem dksX5_status_0 : cX5_status.data.toList.drop 0 = dktX5_status_0 := by decide +kernel
theorem dX5_status_0 : decode cX5_status 0 = .ok (.aload_n 0, 1) := dk_42 (dk_at dksX5_status_0 0 rfl rfl)
theorem dX5_status_1 : decode cX5_status 1 = .ok (.iload_n 1, 1) := dk_27 (dk_at dksX5_status_0 1 rfl rfl)
theorem dX5_status_2 : decode cX5_status 2 = .ok (.invokevirtual 359, 3) := dk_182 1 103 (dk_at dksX5_status_0 2 rfl rfl)
theorem dX5_status_5 : decode cX5_status 5 = .ok (.ifCond .eq 12, 3) := dk_153 0 12 (dk_at dksX5_status_0 5 rfl rfl)
theorem dX5_status_8 : decode cX5_status 8 = .ok (.aload_n 0, 1) := dk_42 (dk_at dksX5_status_0 8 rfl rfl)
theorem dX5_status_9 : decode cX5_status 9 = .ok (.getfield 49, 3) := dk_180 0 49 (dk_at dksX5_status_0 9 rfl rfl)
theorem dX5_status_12 : decode cX5_status 12 = .ok (.iload_n 1, 1) := dk_27 (dk_at dksX5_status_0 12 rfl rfl)
theorem dX5_status_13 : decode cX5_status 13 = .ok (.iaload, 1) := dk_46 (dk_at dksX5_status_0 13 rfl rfl)
theorem dX5_status_14 : decode cX5_status 14 = .ok (.goto 4, 3) := dk_167 0 4 (dk_at dksX5_status_0 14 rfl rfl)
theorem dX5_status_17 : decode cX5_status 17 = .ok (.iconst 0, 1) := dk_3 (dk_at dksX5_status_0 17 rfl rfl)
theorem dX5_status_18 : decode cX5_status 18 = .ok (.ireturn, 1) := dk_172 (dk_at dksX5_status_0 18 rfl rfl)
abbrev cX5_newLength : ByteArray := prog_17_method_89_code
def yX5_newLength : MethodName := ⟨RX5, "newLength", "(I)I"⟩
def dkwX5_newLength_1 : List UInt8 := [42, 180, 0, 43, 27, 46, 172]
abbrev dktX5_newLength_1 : List UInt8 := dkwX5_newLength_1 ++ []
def dkwX5_newLength_0 : List UInt8 := [42, 27, 182, 1, 103, 154, 0, 5, 3, 172, 42, 180, 0, 31, 27, 46, 2, 160, 0, 7, 2, 167, 0, 9]
abbrev dktX5_newLength_0 : List UInt8 := dkwX5_newLength_0 ++ dktX5_newLength_1
theorem dksX5_newLength_0 : cX5_newLength.data.toList.drop 0 = dktX5_newLength_0 := by decide +kernel
theorem dksX5_newLength_1 : cX5_newLength.data.toList.drop 24 = dktX5_newLength_1 := dk_seg dksX5_newLength_0 24 rfl rfl
theorem dX5_newLength_0 : decode cX5_newLength 0 = .ok (.aload_n 0, 1) := dk_42 (dk_at dksX5_newLength_0 0 rfl rfl)
theorem dX5_newLength_1 : decode cX5_newLength 1 = .ok (.iload_n 1, 1) := dk_27 (dk_at dksX5_newLength_0 1 rfl rfl)
theorem dX5_newLength_2 : decode cX5_newLength 2 = .ok (.invokevirtual 359, 3) := dk_182 1 103 (dk_at dksX5_newLength_0 2 rfl rfl)
theorem dX5_newLength_5 : decode cX5_newLength 5 = .ok (.ifCond .ne 5, 3) := dk_154 0 5 (dk_at dksX5_newLength_0 5 rfl rfl)
theorem dX5_newLength_8 : decode cX5_newLength 8 = .ok (.iconst 0, 1) := dk_3 (dk_at dksX5_newLength_0 8 rfl rfl)
theorem dX5_newLength_9 : decode cX5_newLength 9 = .ok (.ireturn, 1) := dk_172 (dk_at dksX5_newLength_0 9 rfl rfl)
theorem dX5_newLength_10 : decode cX5_newLength 10 = .ok (.aload_n 0, 1) := dk_42 (dk_at dksX5_newLength_0 10 rfl rfl)
theorem dX5_newLength_11 : decode cX5_newLength 11 = .ok (.getfield 31, 3) := dk_180 0 31 (dk_at dksX5_newLength_0 11 rfl rfl)
theorem dX5_newLength_14 : decode cX5_newLength 14 = .ok (.iload_n 1, 1) := dk_27 (dk_at dksX5_newLength_0 14 rfl rfl)
theorem dX5_newLength_15 : decode cX5_newLength 15 = .ok (.iaload, 1) := dk_46 (dk_at dksX5_newLength_0 15 rfl rfl)
theorem dX5_newLength_16 : decode cX5_newLength 16 = .ok (.iconst (-1), 1) := dk_2 (dk_at dksX5_newLength_0 16 rfl rfl)
theorem dX5_newLength_17 : decode cX5_newLength 17 = .ok (.if_icmp .ne 7, 3) := dk_160 0 7 (dk_at dksX5_newLength_0 17 rfl rfl)
theorem dX5_newLength_20 : decode cX5_newLength 20 = .ok (.iconst (-1), 1) := dk_2 (dk_at dksX5_newLength_0 20 rfl rfl)
theorem dX5_newLength_21 : decode cX5_newLength 21 = .ok (.goto 9, 3) := dk_167 0 9 (dk_at dksX5_newLength_0 21 rfl rfl)
theorem dX5_newLength_24 : decode cX5_newLength 24 = .ok (.aload_n 0, 1) := dk_42 (dk_at dksX5_newLength_1 0 rfl rfl)
theorem dX5_newLength_25 : decode cX5_newLength 25 = .ok (.getfield 43, 3) := dk_180 0 43 (dk_at dksX5_newLength_1 1 rfl rfl)
theorem dX5_newLength_28 : decode cX5_newLength 28 = .ok (.iload_n 1, 1) := dk_27 (dk_at dksX5_newLength_1 4 rfl rfl)
theorem dX5_newLength_29 : decode cX5_newLength 29 = .ok (.iaload, 1) := dk_46 (dk_at dksX5_newLength_1 5 rfl rfl)
theorem dX5_newLength_30 : decode cX5_newLength 30 = .ok (.ireturn, 1) := dk_172 (dk_at dksX5_newLength_1 6 rfl rfl)
abbrev cX5_withStatus : ByteArray := prog_17_method_90_code
def yX5_withStatus : MethodName := ⟨RX5, "withStatus", "(I)I"⟩
def dkwX5_withStatus_1 : List UInt8 := [180, 0, 49, 29, 46, 27, 160, 0, 9, 28, 4, 29, 120, 128, 61, 132, 3, 1, 167, 255, 229, 28, 172]
abbrev dktX5_withStatus_1 : List UInt8 := dkwX5_withStatus_1 ++ []
def dkwX5_withStatus_0 : List UInt8 := [42, 3, 181, 0, 91, 42, 182, 1, 100, 3, 61, 3, 62, 29, 42, 182, 0, 101, 162, 0, 25, 42]
abbrev dktX5_withStatus_0 : List UInt8 := dkwX5_withStatus_0 ++ dktX5_withStatus_1
theorem dksX5_withStatus_0 : cX5_withStatus.data.toList.drop 0 = dktX5_withStatus_0 := by decide +kernel
theorem dksX5_withStatus_1 : cX5_withStatus.data.toList.drop 22 = dktX5_withStatus_1 := dk_seg dksX5_withStatus_0 22 rfl rfl
theorem dX5_withStatus_0 : decode cX5_withStatus 0 = .ok (.aload_n 0, 1) := dk_42 (dk_at dksX5_withStatus_0 0 rfl rfl)
theorem dX5_withStatus_1 : decode cX5_withStatus 1 = .ok (.iconst 0, 1) := dk_3 (dk_at dksX5_withStatus_0 1 rfl rfl)
theorem dX5_withStatus_2 : decode cX5_withStatus 2 = .ok (.putfield 91, 3) := dk_181 0 91 (dk_at dksX5_withStatus_0 2 rfl rfl)
theorem dX5_withStatus_5 : decode cX5_withStatus 5 = .ok (.aload_n 0, 1) := dk_42 (dk_at dksX5_withStatus_0 5 rfl rfl)
theorem dX5_withStatus_6 : decode cX5_withStatus 6 = .ok (.invokevirtual 356, 3) := dk_182 1 100 (dk_at dksX5_withStatus_0 6 rfl rfl)
theorem dX5_withStatus_9 : decode cX5_withStatus 9 = .ok (.iconst 0, 1) := dk_3 (dk_at dksX5_withStatus_0 9 rfl rfl)
theorem dX5_withStatus_10 : decode cX5_withStatus 10 = .ok (.istore_n 2, 1) := dk_61 (dk_at dksX5_withStatus_0 10 rfl rfl)
theorem dX5_withStatus_11 : decode cX5_withStatus 11 = .ok (.iconst 0, 1) := dk_3 (dk_at dksX5_withStatus_0 11 rfl rfl)
theorem dX5_withStatus_12 : decode cX5_withStatus 12 = .ok (.istore_n 3, 1) := dk_62 (dk_at dksX5_withStatus_0 12 rfl rfl)
theorem dX5_withStatus_13 : decode cX5_withStatus 13 = .ok (.iload_n 3, 1) := dk_29 (dk_at dksX5_withStatus_0 13 rfl rfl)
theorem dX5_withStatus_14 : decode cX5_withStatus 14 = .ok (.aload_n 0, 1) := dk_42 (dk_at dksX5_withStatus_0 14 rfl rfl)
theorem dX5_withStatus_15 : decode cX5_withStatus 15 = .ok (.invokevirtual 101, 3) := dk_182 0 101 (dk_at dksX5_withStatus_0 15 rfl rfl)
theorem dX5_withStatus_18 : decode cX5_withStatus 18 = .ok (.if_icmp .ge 25, 3) := dk_162 0 25 (dk_at dksX5_withStatus_0 18 rfl rfl)
theorem dX5_withStatus_21 : decode cX5_withStatus 21 = .ok (.aload_n 0, 1) := dk_42 (dk_at dksX5_withStatus_0 21 rfl rfl)
theorem dX5_withStatus_22 : decode cX5_withStatus 22 = .ok (.getfield 49, 3) := dk_180 0 49 (dk_at dksX5_withStatus_1 0 rfl rfl)
theorem dX5_withStatus_25 : decode cX5_withStatus 25 = .ok (.iload_n 3, 1) := dk_29 (dk_at dksX5_withStatus_1 3 rfl rfl)
theorem dX5_withStatus_26 : decode cX5_withStatus 26 = .ok (.iaload, 1) := dk_46 (dk_at dksX5_withStatus_1 4 rfl rfl)
theorem dX5_withStatus_27 : decode cX5_withStatus 27 = .ok (.iload_n 1, 1) := dk_27 (dk_at dksX5_withStatus_1 5 rfl rfl)
theorem dX5_withStatus_28 : decode cX5_withStatus 28 = .ok (.if_icmp .ne 9, 3) := dk_160 0 9 (dk_at dksX5_withStatus_1 6 rfl rfl)
theorem dX5_withStatus_31 : decode cX5_withStatus 31 = .ok (.iload_n 2, 1) := dk_28 (dk_at dksX5_withStatus_1 9 rfl rfl)
theorem dX5_withStatus_32 : decode cX5_withStatus 32 = .ok (.iconst 1, 1) := dk_4 (dk_at dksX5_withStatus_1 10 rfl rfl)
theorem dX5_withStatus_33 : decode cX5_withStatus 33 = .ok (.iload_n 3, 1) := dk_29 (dk_at dksX5_withStatus_1 11 rfl rfl)
theorem dX5_withStatus_34 : decode cX5_withStatus 34 = .ok (.ishl, 1) := dk_120 (dk_at dksX5_withStatus_1 12 rfl rfl)
theorem dX5_withStatus_35 : decode cX5_withStatus 35 = .ok (.ior, 1) := dk_128 (dk_at dksX5_withStatus_1 13 rfl rfl)
theorem dX5_withStatus_36 : decode cX5_withStatus 36 = .ok (.istore_n 2, 1) := dk_61 (dk_at dksX5_withStatus_1 14 rfl rfl)
theorem dX5_withStatus_37 : decode cX5_withStatus 37 = .ok (.iinc 3 1, 3) := dk_132 3 1 (dk_at dksX5_withStatus_1 15 rfl rfl)
theorem dX5_withStatus_40 : decode cX5_withStatus 40 = .ok (.goto (-27), 3) := dk_167 255 229 (dk_at dksX5_withStatus_1 18 rfl rfl)
theorem dX5_withStatus_43 : decode cX5_withStatus 43 = .ok (.iload_n 2, 1) := dk_28 (dk_at dksX5_withStatus_1 21 rfl rfl)
theorem dX5_withStatus_44 : decode cX5_withStatus 44 = .ok (.ireturn, 1) := dk_172 (dk_at dksX5_withStatus_1 22 rfl rfl)
abbrev cX5_owner : ByteArray := prog_17_method_91_code
def yX5_owner : MethodName := ⟨RX5, "owner", "(I)I"⟩
def dkwX5_owner_2 : List UInt8 := [182, 1, 72, 153, 0, 5, 28, 172, 132, 2, 1, 167, 255, 211, 2, 172]
abbrev dktX5_owner_2 : List UInt8 := dkwX5_owner_2 ++ []
def dkwX5_owner_1 : List UInt8 := [27, 46, 2, 159, 0, 33, 28, 27, 159, 0, 22, 42, 27, 42, 180, 0, 7, 42, 28, 182, 0, 118]
abbrev dktX5_owner_1 : List UInt8 := dkwX5_owner_1 ++ dktX5_owner_2
def dkwX5_owner_0 : List UInt8 := [42, 27, 182, 1, 103, 154, 0, 5, 3, 172, 3, 61, 28, 42, 182, 0, 101, 162, 0, 43, 42, 180, 0, 31]
abbrev dktX5_owner_0 : List UInt8 := dkwX5_owner_0 ++ dktX5_owner_1
theorem dksX5_owner_0 : cX5_owner.data.toList.drop 0 = dktX5_owner_0 := by decide +kernel
theorem dksX5_owner_1 : cX5_owner.data.toList.drop 24 = dktX5_owner_1 := dk_seg dksX5_owner_0 24 rfl rfl
theorem dksX5_owner_2 : cX5_owner.data.toList.drop 46 = dktX5_owner_2 := dk_seg dksX5_owner_1 22 rfl rfl
theorem dX5_owner_0 : decode cX5_owner 0 = .ok (.aload_n 0, 1) := dk_42 (dk_at dksX5_owner_0 0 rfl rfl)
theorem dX5_owner_1 : decode cX5_owner 1 = .ok (.iload_n 1, 1) := dk_27 (dk_at dksX5_owner_0 1 rfl rfl)
theorem dX5_owner_2 : decode cX5_owner 2 = .ok (.invokevirtual 359, 3) := dk_182 1 103 (dk_at dksX5_owner_0 2 rfl rfl)
theorem dX5_owner_5 : decode cX5_owner 5 = .ok (.ifCond .ne 5, 3) := dk_154 0 5 (dk_at dksX5_owner_0 5 rfl rfl)
theorem dX5_owner_8 : decode cX5_owner 8 = .ok (.iconst 0, 1) := dk_3 (dk_at dksX5_owner_0 8 rfl rfl)
theorem dX5_owner_9 : decode cX5_owner 9 = .ok (.ireturn, 1) := dk_172 (dk_at dksX5_owner_0 9 rfl rfl)
theorem dX5_owner_10 : decode cX5_owner 10 = .ok (.iconst 0, 1) := dk_3 (dk_at dksX5_owner_0 10 rfl rfl)
theorem dX5_owner_11 : decode cX5_owner 11 = .ok (.istore_n 2, 1) := dk_61 (dk_at dksX5_owner_0 11 rfl rfl)
theorem dX5_owner_12 : decode cX5_owner 12 = .ok (.iload_n 2, 1) := dk_28 (dk_at dksX5_owner_0 12 rfl rfl)
theorem dX5_owner_13 : decode cX5_owner 13 = .ok (.aload_n 0, 1) := dk_42 (dk_at dksX5_owner_0 13 rfl rfl)
theorem dX5_owner_14 : decode cX5_owner 14 = .ok (.invokevirtual 101, 3) := dk_182 0 101 (dk_at dksX5_owner_0 14 rfl rfl)
theorem dX5_owner_17 : decode cX5_owner 17 = .ok (.if_icmp .ge 43, 3) := dk_162 0 43 (dk_at dksX5_owner_0 17 rfl rfl)
theorem dX5_owner_20 : decode cX5_owner 20 = .ok (.aload_n 0, 1) := dk_42 (dk_at dksX5_owner_0 20 rfl rfl)
theorem dX5_owner_21 : decode cX5_owner 21 = .ok (.getfield 31, 3) := dk_180 0 31 (dk_at dksX5_owner_0 21 rfl rfl)
theorem dX5_owner_24 : decode cX5_owner 24 = .ok (.iload_n 1, 1) := dk_27 (dk_at dksX5_owner_1 0 rfl rfl)
theorem dX5_owner_25 : decode cX5_owner 25 = .ok (.iaload, 1) := dk_46 (dk_at dksX5_owner_1 1 rfl rfl)
theorem dX5_owner_26 : decode cX5_owner 26 = .ok (.iconst (-1), 1) := dk_2 (dk_at dksX5_owner_1 2 rfl rfl)
theorem dX5_owner_27 : decode cX5_owner 27 = .ok (.if_icmp .eq 33, 3) := dk_159 0 33 (dk_at dksX5_owner_1 3 rfl rfl)
theorem dX5_owner_30 : decode cX5_owner 30 = .ok (.iload_n 2, 1) := dk_28 (dk_at dksX5_owner_1 6 rfl rfl)
theorem dX5_owner_31 : decode cX5_owner 31 = .ok (.iload_n 1, 1) := dk_27 (dk_at dksX5_owner_1 7 rfl rfl)
theorem dX5_owner_32 : decode cX5_owner 32 = .ok (.if_icmp .eq 22, 3) := dk_159 0 22 (dk_at dksX5_owner_1 8 rfl rfl)
theorem dX5_owner_35 : decode cX5_owner 35 = .ok (.aload_n 0, 1) := dk_42 (dk_at dksX5_owner_1 11 rfl rfl)
theorem dX5_owner_36 : decode cX5_owner 36 = .ok (.iload_n 1, 1) := dk_27 (dk_at dksX5_owner_1 12 rfl rfl)
theorem dX5_owner_37 : decode cX5_owner 37 = .ok (.aload_n 0, 1) := dk_42 (dk_at dksX5_owner_1 13 rfl rfl)
theorem dX5_owner_38 : decode cX5_owner 38 = .ok (.getfield 7, 3) := dk_180 0 7 (dk_at dksX5_owner_1 14 rfl rfl)
theorem dX5_owner_41 : decode cX5_owner 41 = .ok (.aload_n 0, 1) := dk_42 (dk_at dksX5_owner_1 17 rfl rfl)
theorem dX5_owner_42 : decode cX5_owner 42 = .ok (.iload_n 2, 1) := dk_28 (dk_at dksX5_owner_1 18 rfl rfl)
theorem dX5_owner_43 : decode cX5_owner 43 = .ok (.invokevirtual 118, 3) := dk_182 0 118 (dk_at dksX5_owner_1 19 rfl rfl)
theorem dX5_owner_46 : decode cX5_owner 46 = .ok (.invokevirtual 328, 3) := dk_182 1 72 (dk_at dksX5_owner_2 0 rfl rfl)
theorem dX5_owner_49 : decode cX5_owner 49 = .ok (.ifCond .eq 5, 3) := dk_153 0 5 (dk_at dksX5_owner_2 3 rfl rfl)
theorem dX5_owner_52 : decode cX5_owner 52 = .ok (.iload_n 2, 1) := dk_28 (dk_at dksX5_owner_2 6 rfl rfl)
theorem dX5_owner_53 : decode cX5_owner 53 = .ok (.ireturn, 1) := dk_172 (dk_at dksX5_owner_2 7 rfl rfl)
theorem dX5_owner_54 : decode cX5_owner 54 = .ok (.iinc 2 1, 3) := dk_132 2 1 (dk_at dksX5_owner_2 8 rfl rfl)
theorem dX5_owner_57 : decode cX5_owner 57 = .ok (.goto (-45), 3) := dk_167 255 211 (dk_at dksX5_owner_2 11 rfl rfl)
theorem dX5_owner_60 : decode cX5_owner 60 = .ok (.iconst (-1), 1) := dk_2 (dk_at dksX5_owner_2 14 rfl rfl)
theorem dX5_owner_61 : decode cX5_owner 61 = .ok (.ireturn, 1) := dk_172 (dk_at dksX5_owner_2 15 rfl rfl)
abbrev cX5_rival : ByteArray := prog_17_method_92_code
def yX5_rival : MethodName := ⟨RX5, "rival", "(I)I"⟩
def dkwX5_rival_1 : List UInt8 := [159, 0, 14, 42, 27, 28, 182, 1, 76, 153, 0, 5, 28, 172, 132, 2, 1, 167, 255, 229, 2, 172]
abbrev dktX5_rival_1 : List UInt8 := dkwX5_rival_1 ++ []
def dkwX5_rival_0 : List UInt8 := [42, 27, 182, 1, 103, 154, 0, 5, 3, 172, 3, 61, 28, 42, 182, 0, 101, 162, 0, 25, 28, 27]
abbrev dktX5_rival_0 : List UInt8 := dkwX5_rival_0 ++ dktX5_rival_1
theorem dksX5_rival_0 : cX5_rival.data.toList.drop 0 = dktX5_rival_0 := by decide +kernel
theorem dksX5_rival_1 : cX5_rival.data.toList.drop 22 = dktX5_rival_1 := dk_seg dksX5_rival_0 22 rfl rfl
theorem dX5_rival_0 : decode cX5_rival 0 = .ok (.aload_n 0, 1) := dk_42 (dk_at dksX5_rival_0 0 rfl rfl)
theorem dX5_rival_1 : decode cX5_rival 1 = .ok (.iload_n 1, 1) := dk_27 (dk_at dksX5_rival_0 1 rfl rfl)
theorem dX5_rival_2 : decode cX5_rival 2 = .ok (.invokevirtual 359, 3) := dk_182 1 103 (dk_at dksX5_rival_0 2 rfl rfl)
theorem dX5_rival_5 : decode cX5_rival 5 = .ok (.ifCond .ne 5, 3) := dk_154 0 5 (dk_at dksX5_rival_0 5 rfl rfl)
theorem dX5_rival_8 : decode cX5_rival 8 = .ok (.iconst 0, 1) := dk_3 (dk_at dksX5_rival_0 8 rfl rfl)
theorem dX5_rival_9 : decode cX5_rival 9 = .ok (.ireturn, 1) := dk_172 (dk_at dksX5_rival_0 9 rfl rfl)
theorem dX5_rival_10 : decode cX5_rival 10 = .ok (.iconst 0, 1) := dk_3 (dk_at dksX5_rival_0 10 rfl rfl)
theorem dX5_rival_11 : decode cX5_rival 11 = .ok (.istore_n 2, 1) := dk_61 (dk_at dksX5_rival_0 11 rfl rfl)
theorem dX5_rival_12 : decode cX5_rival 12 = .ok (.iload_n 2, 1) := dk_28 (dk_at dksX5_rival_0 12 rfl rfl)
theorem dX5_rival_13 : decode cX5_rival 13 = .ok (.aload_n 0, 1) := dk_42 (dk_at dksX5_rival_0 13 rfl rfl)
theorem dX5_rival_14 : decode cX5_rival 14 = .ok (.invokevirtual 101, 3) := dk_182 0 101 (dk_at dksX5_rival_0 14 rfl rfl)
theorem dX5_rival_17 : decode cX5_rival 17 = .ok (.if_icmp .ge 25, 3) := dk_162 0 25 (dk_at dksX5_rival_0 17 rfl rfl)
theorem dX5_rival_20 : decode cX5_rival 20 = .ok (.iload_n 2, 1) := dk_28 (dk_at dksX5_rival_0 20 rfl rfl)
theorem dX5_rival_21 : decode cX5_rival 21 = .ok (.iload_n 1, 1) := dk_27 (dk_at dksX5_rival_0 21 rfl rfl)
theorem dX5_rival_22 : decode cX5_rival 22 = .ok (.if_icmp .eq 14, 3) := dk_159 0 14 (dk_at dksX5_rival_1 0 rfl rfl)
theorem dX5_rival_25 : decode cX5_rival 25 = .ok (.aload_n 0, 1) := dk_42 (dk_at dksX5_rival_1 3 rfl rfl)
theorem dX5_rival_26 : decode cX5_rival 26 = .ok (.iload_n 1, 1) := dk_27 (dk_at dksX5_rival_1 4 rfl rfl)
theorem dX5_rival_27 : decode cX5_rival 27 = .ok (.iload_n 2, 1) := dk_28 (dk_at dksX5_rival_1 5 rfl rfl)
theorem dX5_rival_28 : decode cX5_rival 28 = .ok (.invokevirtual 332, 3) := dk_182 1 76 (dk_at dksX5_rival_1 6 rfl rfl)
theorem dX5_rival_31 : decode cX5_rival 31 = .ok (.ifCond .eq 5, 3) := dk_153 0 5 (dk_at dksX5_rival_1 9 rfl rfl)
theorem dX5_rival_34 : decode cX5_rival 34 = .ok (.iload_n 2, 1) := dk_28 (dk_at dksX5_rival_1 12 rfl rfl)
theorem dX5_rival_35 : decode cX5_rival 35 = .ok (.ireturn, 1) := dk_172 (dk_at dksX5_rival_1 13 rfl rfl)
theorem dX5_rival_36 : decode cX5_rival 36 = .ok (.iinc 2 1, 3) := dk_132 2 1 (dk_at dksX5_rival_1 14 rfl rfl)
theorem dX5_rival_39 : decode cX5_rival 39 = .ok (.goto (-27), 3) := dk_167 255 229 (dk_at dksX5_rival_1 17 rfl rfl)
theorem dX5_rival_42 : decode cX5_rival 42 = .ok (.iconst (-1), 1) := dk_2 (dk_at dksX5_rival_1 20 rfl rfl)
theorem dX5_rival_43 : decode cX5_rival 43 = .ok (.ireturn, 1) := dk_172 (dk_at dksX5_rival_1 21 rfl rfl)
abbrev cX5_rounds : ByteArray := prog_17_method_93_code
def yX5_rounds : MethodName := ⟨RX5, "rounds", "()I"⟩
def dkwX5_rounds_0 : List UInt8 := [42, 3, 181, 0, 91, 42, 182, 1, 100, 42, 180, 1, 94, 172]
abbrev dktX5_rounds_0 : List UInt8 := dkwX5_rounds_0 ++ []
theorem dksX5_rounds_0 : cX5_rounds.data.toList.drop 0 = dktX5_rounds_0 := by decide +kernel
theorem dX5_rounds_0 : decode cX5_rounds 0 = .ok (.aload_n 0, 1) := dk_42 (dk_at dksX5_rounds_0 0 rfl rfl)
theorem dX5_rounds_1 : decode cX5_rounds 1 = .ok (.iconst 0, 1) := dk_3 (dk_at dksX5_rounds_0 1 rfl rfl)
theorem dX5_rounds_2 : decode cX5_rounds 2 = .ok (.putfield 91, 3) := dk_181 0 91 (dk_at dksX5_rounds_0 2 rfl rfl)
theorem dX5_rounds_5 : decode cX5_rounds 5 = .ok (.aload_n 0, 1) := dk_42 (dk_at dksX5_rounds_0 5 rfl rfl)
theorem dX5_rounds_6 : decode cX5_rounds 6 = .ok (.invokevirtual 356, 3) := dk_182 1 100 (dk_at dksX5_rounds_0 6 rfl rfl)
theorem dX5_rounds_9 : decode cX5_rounds 9 = .ok (.aload_n 0, 1) := dk_42 (dk_at dksX5_rounds_0 9 rfl rfl)
theorem dX5_rounds_10 : decode cX5_rounds 10 = .ok (.getfield 350, 3) := dk_180 1 94 (dk_at dksX5_rounds_0 10 rfl rfl)
theorem dX5_rounds_13 : decode cX5_rounds 13 = .ok (.ireturn, 1) := dk_172 (dk_at dksX5_rounds_0 13 rfl rfl)
abbrev cX5_steps : ByteArray := prog_17_method_101_code
def yX5_steps : MethodName := ⟨RX5, "steps", "()I"⟩
def dkwX5_steps_0 : List UInt8 := [42, 3, 181, 0, 91, 42, 182, 1, 133, 42, 180, 1, 119, 172]
abbrev dktX5_steps_0 : List UInt8 := dkwX5_steps_0 ++ []
theorem dksX5_steps_0 : cX5_steps.data.toList.drop 0 = dktX5_steps_0 := by decide +kernel
theorem dX5_steps_0 : decode cX5_steps 0 = .ok (.aload_n 0, 1) := dk_42 (dk_at dksX5_steps_0 0 rfl rfl)
theorem dX5_steps_1 : decode cX5_steps 1 = .ok (.iconst 0, 1) := dk_3 (dk_at dksX5_steps_0 1 rfl rfl)
theorem dX5_steps_2 : decode cX5_steps 2 = .ok (.putfield 91, 3) := dk_181 0 91 (dk_at dksX5_steps_0 2 rfl rfl)
theorem dX5_steps_5 : decode cX5_steps 5 = .ok (.aload_n 0, 1) := dk_42 (dk_at dksX5_steps_0 5 rfl rfl)
theorem dX5_steps_6 : decode cX5_steps 6 = .ok (.invokevirtual 389, 3) := dk_182 1 133 (dk_at dksX5_steps_0 6 rfl rfl)
theorem dX5_steps_9 : decode cX5_steps 9 = .ok (.aload_n 0, 1) := dk_42 (dk_at dksX5_steps_0 9 rfl rfl)
theorem dX5_steps_10 : decode cX5_steps 10 = .ok (.getfield 375, 3) := dk_180 1 119 (dk_at dksX5_steps_0 10 rfl rfl)
theorem dX5_steps_13 : decode cX5_steps 13 = .ok (.ireturn, 1) := dk_172 (dk_at dksX5_steps_0 13 rfl rfl)
abbrev cX5_laysPlan : ByteArray := prog_17_method_100_code
def yX5_laysPlan : MethodName := ⟨RX5, "laysPlan", "()V"⟩
def dkwX5_laysPlan_4 : List UInt8 := [3, 182, 1, 122, 3, 182, 1, 126, 167, 255, 213, 177]
abbrev dktX5_laysPlan_4 : List UInt8 := dkwX5_laysPlan_4 ++ []
def dkwX5_laysPlan_3 : List UInt8 := [182, 1, 122, 60, 27, 2, 159, 0, 12, 42, 27, 4, 182, 1, 126, 167, 0, 17, 42, 182, 1, 130, 42, 42]
abbrev dktX5_laysPlan_3 : List UInt8 := dkwX5_laysPlan_3 ++ dktX5_laysPlan_4
def dkwX5_laysPlan_2 : List UInt8 := [180, 0, 62, 27, 3, 84, 132, 1, 1, 167, 255, 212, 42, 3, 182, 1, 122, 2, 159, 0, 40, 42, 4]
abbrev dktX5_laysPlan_2 : List UInt8 := dkwX5_laysPlan_2 ++ dktX5_laysPlan_3
def dkwX5_laysPlan_1 : List UInt8 := [27, 182, 0, 118, 42, 180, 0, 55, 6, 27, 104, 184, 0, 236, 42, 180, 0, 58, 27, 3, 84, 42]
abbrev dktX5_laysPlan_1 : List UInt8 := dkwX5_laysPlan_1 ++ dktX5_laysPlan_2
def dkwX5_laysPlan_0 : List UInt8 := [42, 182, 1, 100, 42, 3, 181, 1, 119, 3, 60, 27, 42, 182, 0, 101, 162, 0, 42, 42, 180, 0, 7, 42]
abbrev dktX5_laysPlan_0 : List UInt8 := dkwX5_laysPlan_0 ++ dktX5_laysPlan_1
theorem dksX5_laysPlan_0 : cX5_laysPlan.data.toList.drop 0 = dktX5_laysPlan_0 := by decide +kernel
theorem dksX5_laysPlan_1 : cX5_laysPlan.data.toList.drop 24 = dktX5_laysPlan_1 := dk_seg dksX5_laysPlan_0 24 rfl rfl
theorem dksX5_laysPlan_2 : cX5_laysPlan.data.toList.drop 46 = dktX5_laysPlan_2 := dk_seg dksX5_laysPlan_1 22 rfl rfl
theorem dksX5_laysPlan_3 : cX5_laysPlan.data.toList.drop 69 = dktX5_laysPlan_3 := dk_seg dksX5_laysPlan_2 23 rfl rfl
theorem dksX5_laysPlan_4 : cX5_laysPlan.data.toList.drop 93 = dktX5_laysPlan_4 := dk_seg dksX5_laysPlan_3 24 rfl rfl
theorem dX5_laysPlan_0 : decode cX5_laysPlan 0 = .ok (.aload_n 0, 1) := dk_42 (dk_at dksX5_laysPlan_0 0 rfl rfl)
theorem dX5_laysPlan_1 : decode cX5_laysPlan 1 = .ok (.invokevirtual 356, 3) := dk_182 1 100 (dk_at dksX5_laysPlan_0 1 rfl rfl)
theorem dX5_laysPlan_4 : decode cX5_laysPlan 4 = .ok (.aload_n 0, 1) := dk_42 (dk_at dksX5_laysPlan_0 4 rfl rfl)
theorem dX5_laysPlan_5 : decode cX5_laysPlan 5 = .ok (.iconst 0, 1) := dk_3 (dk_at dksX5_laysPlan_0 5 rfl rfl)
theorem dX5_laysPlan_6 : decode cX5_laysPlan 6 = .ok (.putfield 375, 3) := dk_181 1 119 (dk_at dksX5_laysPlan_0 6 rfl rfl)
theorem dX5_laysPlan_9 : decode cX5_laysPlan 9 = .ok (.iconst 0, 1) := dk_3 (dk_at dksX5_laysPlan_0 9 rfl rfl)
theorem dX5_laysPlan_10 : decode cX5_laysPlan 10 = .ok (.istore_n 1, 1) := dk_60 (dk_at dksX5_laysPlan_0 10 rfl rfl)
theorem dX5_laysPlan_11 : decode cX5_laysPlan 11 = .ok (.iload_n 1, 1) := dk_27 (dk_at dksX5_laysPlan_0 11 rfl rfl)
theorem dX5_laysPlan_12 : decode cX5_laysPlan 12 = .ok (.aload_n 0, 1) := dk_42 (dk_at dksX5_laysPlan_0 12 rfl rfl)
theorem dX5_laysPlan_13 : decode cX5_laysPlan 13 = .ok (.invokevirtual 101, 3) := dk_182 0 101 (dk_at dksX5_laysPlan_0 13 rfl rfl)
theorem dX5_laysPlan_16 : decode cX5_laysPlan 16 = .ok (.if_icmp .ge 42, 3) := dk_162 0 42 (dk_at dksX5_laysPlan_0 16 rfl rfl)
theorem dX5_laysPlan_19 : decode cX5_laysPlan 19 = .ok (.aload_n 0, 1) := dk_42 (dk_at dksX5_laysPlan_0 19 rfl rfl)
theorem dX5_laysPlan_20 : decode cX5_laysPlan 20 = .ok (.getfield 7, 3) := dk_180 0 7 (dk_at dksX5_laysPlan_0 20 rfl rfl)
theorem dX5_laysPlan_23 : decode cX5_laysPlan 23 = .ok (.aload_n 0, 1) := dk_42 (dk_at dksX5_laysPlan_0 23 rfl rfl)
theorem dX5_laysPlan_24 : decode cX5_laysPlan 24 = .ok (.iload_n 1, 1) := dk_27 (dk_at dksX5_laysPlan_1 0 rfl rfl)
theorem dX5_laysPlan_25 : decode cX5_laysPlan 25 = .ok (.invokevirtual 118, 3) := dk_182 0 118 (dk_at dksX5_laysPlan_1 1 rfl rfl)
theorem dX5_laysPlan_28 : decode cX5_laysPlan 28 = .ok (.aload_n 0, 1) := dk_42 (dk_at dksX5_laysPlan_1 4 rfl rfl)
theorem dX5_laysPlan_29 : decode cX5_laysPlan 29 = .ok (.getfield 55, 3) := dk_180 0 55 (dk_at dksX5_laysPlan_1 5 rfl rfl)
theorem dX5_laysPlan_32 : decode cX5_laysPlan 32 = .ok (.iconst 3, 1) := dk_6 (dk_at dksX5_laysPlan_1 8 rfl rfl)
theorem dX5_laysPlan_33 : decode cX5_laysPlan 33 = .ok (.iload_n 1, 1) := dk_27 (dk_at dksX5_laysPlan_1 9 rfl rfl)
theorem dX5_laysPlan_34 : decode cX5_laysPlan 34 = .ok (.imul, 1) := dk_104 (dk_at dksX5_laysPlan_1 10 rfl rfl)
theorem dX5_laysPlan_35 : decode cX5_laysPlan 35 = .ok (.invokestatic 236, 3) := dk_184 0 236 (dk_at dksX5_laysPlan_1 11 rfl rfl)
theorem dX5_laysPlan_38 : decode cX5_laysPlan 38 = .ok (.aload_n 0, 1) := dk_42 (dk_at dksX5_laysPlan_1 14 rfl rfl)
theorem dX5_laysPlan_39 : decode cX5_laysPlan 39 = .ok (.getfield 58, 3) := dk_180 0 58 (dk_at dksX5_laysPlan_1 15 rfl rfl)
theorem dX5_laysPlan_42 : decode cX5_laysPlan 42 = .ok (.iload_n 1, 1) := dk_27 (dk_at dksX5_laysPlan_1 18 rfl rfl)
theorem dX5_laysPlan_43 : decode cX5_laysPlan 43 = .ok (.iconst 0, 1) := dk_3 (dk_at dksX5_laysPlan_1 19 rfl rfl)
theorem dX5_laysPlan_44 : decode cX5_laysPlan 44 = .ok (.bastore, 1) := dk_84 (dk_at dksX5_laysPlan_1 20 rfl rfl)
theorem dX5_laysPlan_45 : decode cX5_laysPlan 45 = .ok (.aload_n 0, 1) := dk_42 (dk_at dksX5_laysPlan_1 21 rfl rfl)
theorem dX5_laysPlan_46 : decode cX5_laysPlan 46 = .ok (.getfield 62, 3) := dk_180 0 62 (dk_at dksX5_laysPlan_2 0 rfl rfl)
theorem dX5_laysPlan_49 : decode cX5_laysPlan 49 = .ok (.iload_n 1, 1) := dk_27 (dk_at dksX5_laysPlan_2 3 rfl rfl)
theorem dX5_laysPlan_50 : decode cX5_laysPlan 50 = .ok (.iconst 0, 1) := dk_3 (dk_at dksX5_laysPlan_2 4 rfl rfl)
theorem dX5_laysPlan_51 : decode cX5_laysPlan 51 = .ok (.bastore, 1) := dk_84 (dk_at dksX5_laysPlan_2 5 rfl rfl)
theorem dX5_laysPlan_52 : decode cX5_laysPlan 52 = .ok (.iinc 1 1, 3) := dk_132 1 1 (dk_at dksX5_laysPlan_2 6 rfl rfl)
theorem dX5_laysPlan_55 : decode cX5_laysPlan 55 = .ok (.goto (-44), 3) := dk_167 255 212 (dk_at dksX5_laysPlan_2 9 rfl rfl)
theorem dX5_laysPlan_58 : decode cX5_laysPlan 58 = .ok (.aload_n 0, 1) := dk_42 (dk_at dksX5_laysPlan_2 12 rfl rfl)
theorem dX5_laysPlan_59 : decode cX5_laysPlan 59 = .ok (.iconst 0, 1) := dk_3 (dk_at dksX5_laysPlan_2 13 rfl rfl)
theorem dX5_laysPlan_60 : decode cX5_laysPlan 60 = .ok (.invokevirtual 378, 3) := dk_182 1 122 (dk_at dksX5_laysPlan_2 14 rfl rfl)
theorem dX5_laysPlan_63 : decode cX5_laysPlan 63 = .ok (.iconst (-1), 1) := dk_2 (dk_at dksX5_laysPlan_2 17 rfl rfl)
theorem dX5_laysPlan_64 : decode cX5_laysPlan 64 = .ok (.if_icmp .eq 40, 3) := dk_159 0 40 (dk_at dksX5_laysPlan_2 18 rfl rfl)
theorem dX5_laysPlan_67 : decode cX5_laysPlan 67 = .ok (.aload_n 0, 1) := dk_42 (dk_at dksX5_laysPlan_2 21 rfl rfl)
theorem dX5_laysPlan_68 : decode cX5_laysPlan 68 = .ok (.iconst 1, 1) := dk_4 (dk_at dksX5_laysPlan_2 22 rfl rfl)
theorem dX5_laysPlan_69 : decode cX5_laysPlan 69 = .ok (.invokevirtual 378, 3) := dk_182 1 122 (dk_at dksX5_laysPlan_3 0 rfl rfl)
theorem dX5_laysPlan_72 : decode cX5_laysPlan 72 = .ok (.istore_n 1, 1) := dk_60 (dk_at dksX5_laysPlan_3 3 rfl rfl)
theorem dX5_laysPlan_73 : decode cX5_laysPlan 73 = .ok (.iload_n 1, 1) := dk_27 (dk_at dksX5_laysPlan_3 4 rfl rfl)
theorem dX5_laysPlan_74 : decode cX5_laysPlan 74 = .ok (.iconst (-1), 1) := dk_2 (dk_at dksX5_laysPlan_3 5 rfl rfl)
theorem dX5_laysPlan_75 : decode cX5_laysPlan 75 = .ok (.if_icmp .eq 12, 3) := dk_159 0 12 (dk_at dksX5_laysPlan_3 6 rfl rfl)
theorem dX5_laysPlan_78 : decode cX5_laysPlan 78 = .ok (.aload_n 0, 1) := dk_42 (dk_at dksX5_laysPlan_3 9 rfl rfl)
theorem dX5_laysPlan_79 : decode cX5_laysPlan 79 = .ok (.iload_n 1, 1) := dk_27 (dk_at dksX5_laysPlan_3 10 rfl rfl)
theorem dX5_laysPlan_80 : decode cX5_laysPlan 80 = .ok (.iconst 1, 1) := dk_4 (dk_at dksX5_laysPlan_3 11 rfl rfl)
theorem dX5_laysPlan_81 : decode cX5_laysPlan 81 = .ok (.invokevirtual 382, 3) := dk_182 1 126 (dk_at dksX5_laysPlan_3 12 rfl rfl)
theorem dX5_laysPlan_84 : decode cX5_laysPlan 84 = .ok (.goto 17, 3) := dk_167 0 17 (dk_at dksX5_laysPlan_3 15 rfl rfl)
theorem dX5_laysPlan_87 : decode cX5_laysPlan 87 = .ok (.aload_n 0, 1) := dk_42 (dk_at dksX5_laysPlan_3 18 rfl rfl)
theorem dX5_laysPlan_88 : decode cX5_laysPlan 88 = .ok (.invokevirtual 386, 3) := dk_182 1 130 (dk_at dksX5_laysPlan_3 19 rfl rfl)
theorem dX5_laysPlan_91 : decode cX5_laysPlan 91 = .ok (.aload_n 0, 1) := dk_42 (dk_at dksX5_laysPlan_3 22 rfl rfl)
theorem dX5_laysPlan_92 : decode cX5_laysPlan 92 = .ok (.aload_n 0, 1) := dk_42 (dk_at dksX5_laysPlan_3 23 rfl rfl)
theorem dX5_laysPlan_93 : decode cX5_laysPlan 93 = .ok (.iconst 0, 1) := dk_3 (dk_at dksX5_laysPlan_4 0 rfl rfl)
theorem dX5_laysPlan_94 : decode cX5_laysPlan 94 = .ok (.invokevirtual 378, 3) := dk_182 1 122 (dk_at dksX5_laysPlan_4 1 rfl rfl)
theorem dX5_laysPlan_97 : decode cX5_laysPlan 97 = .ok (.iconst 0, 1) := dk_3 (dk_at dksX5_laysPlan_4 4 rfl rfl)
theorem dX5_laysPlan_98 : decode cX5_laysPlan 98 = .ok (.invokevirtual 382, 3) := dk_182 1 126 (dk_at dksX5_laysPlan_4 5 rfl rfl)
theorem dX5_laysPlan_101 : decode cX5_laysPlan 101 = .ok (.goto (-43), 3) := dk_167 255 213 (dk_at dksX5_laysPlan_4 8 rfl rfl)
theorem dX5_laysPlan_104 : decode cX5_laysPlan 104 = .ok (.return_, 1) := dk_177 (dk_at dksX5_laysPlan_4 11 rfl rfl)
abbrev cX5_nextFile : ByteArray := prog_17_method_98_code
def yX5_nextFile : MethodName := ⟨RX5, "nextFile", "(Z)I"⟩
def dkwX5_nextFile_2 : List UInt8 := [167, 255, 212, 2, 172]
abbrev dktX5_nextFile_2 : List UInt8 := dkwX5_nextFile_2 ++ []
def dkwX5_nextFile_1 : List UInt8 := [28, 51, 154, 0, 17, 27, 153, 0, 11, 42, 28, 182, 1, 116, 154, 0, 5, 28, 172, 132, 2, 1]
abbrev dktX5_nextFile_1 : List UInt8 := dkwX5_nextFile_1 ++ dktX5_nextFile_2
def dkwX5_nextFile_0 : List UInt8 := [3, 61, 28, 42, 182, 0, 101, 162, 0, 42, 42, 180, 0, 49, 28, 46, 6, 160, 0, 26, 42, 180, 0, 58]
abbrev dktX5_nextFile_0 : List UInt8 := dkwX5_nextFile_0 ++ dktX5_nextFile_1
theorem dksX5_nextFile_0 : cX5_nextFile.data.toList.drop 0 = dktX5_nextFile_0 := by decide +kernel
theorem dksX5_nextFile_1 : cX5_nextFile.data.toList.drop 24 = dktX5_nextFile_1 := dk_seg dksX5_nextFile_0 24 rfl rfl
theorem dksX5_nextFile_2 : cX5_nextFile.data.toList.drop 46 = dktX5_nextFile_2 := dk_seg dksX5_nextFile_1 22 rfl rfl
theorem dX5_nextFile_0 : decode cX5_nextFile 0 = .ok (.iconst 0, 1) := dk_3 (dk_at dksX5_nextFile_0 0 rfl rfl)
theorem dX5_nextFile_1 : decode cX5_nextFile 1 = .ok (.istore_n 2, 1) := dk_61 (dk_at dksX5_nextFile_0 1 rfl rfl)
theorem dX5_nextFile_2 : decode cX5_nextFile 2 = .ok (.iload_n 2, 1) := dk_28 (dk_at dksX5_nextFile_0 2 rfl rfl)
theorem dX5_nextFile_3 : decode cX5_nextFile 3 = .ok (.aload_n 0, 1) := dk_42 (dk_at dksX5_nextFile_0 3 rfl rfl)
theorem dX5_nextFile_4 : decode cX5_nextFile 4 = .ok (.invokevirtual 101, 3) := dk_182 0 101 (dk_at dksX5_nextFile_0 4 rfl rfl)
theorem dX5_nextFile_7 : decode cX5_nextFile 7 = .ok (.if_icmp .ge 42, 3) := dk_162 0 42 (dk_at dksX5_nextFile_0 7 rfl rfl)
theorem dX5_nextFile_10 : decode cX5_nextFile 10 = .ok (.aload_n 0, 1) := dk_42 (dk_at dksX5_nextFile_0 10 rfl rfl)
theorem dX5_nextFile_11 : decode cX5_nextFile 11 = .ok (.getfield 49, 3) := dk_180 0 49 (dk_at dksX5_nextFile_0 11 rfl rfl)
theorem dX5_nextFile_14 : decode cX5_nextFile 14 = .ok (.iload_n 2, 1) := dk_28 (dk_at dksX5_nextFile_0 14 rfl rfl)
theorem dX5_nextFile_15 : decode cX5_nextFile 15 = .ok (.iaload, 1) := dk_46 (dk_at dksX5_nextFile_0 15 rfl rfl)
theorem dX5_nextFile_16 : decode cX5_nextFile 16 = .ok (.iconst 3, 1) := dk_6 (dk_at dksX5_nextFile_0 16 rfl rfl)
theorem dX5_nextFile_17 : decode cX5_nextFile 17 = .ok (.if_icmp .ne 26, 3) := dk_160 0 26 (dk_at dksX5_nextFile_0 17 rfl rfl)
theorem dX5_nextFile_20 : decode cX5_nextFile 20 = .ok (.aload_n 0, 1) := dk_42 (dk_at dksX5_nextFile_0 20 rfl rfl)
theorem dX5_nextFile_21 : decode cX5_nextFile 21 = .ok (.getfield 58, 3) := dk_180 0 58 (dk_at dksX5_nextFile_0 21 rfl rfl)
theorem dX5_nextFile_24 : decode cX5_nextFile 24 = .ok (.iload_n 2, 1) := dk_28 (dk_at dksX5_nextFile_1 0 rfl rfl)
theorem dX5_nextFile_25 : decode cX5_nextFile 25 = .ok (.baload, 1) := dk_51 (dk_at dksX5_nextFile_1 1 rfl rfl)
theorem dX5_nextFile_26 : decode cX5_nextFile 26 = .ok (.ifCond .ne 17, 3) := dk_154 0 17 (dk_at dksX5_nextFile_1 2 rfl rfl)
theorem dX5_nextFile_29 : decode cX5_nextFile 29 = .ok (.iload_n 1, 1) := dk_27 (dk_at dksX5_nextFile_1 5 rfl rfl)
theorem dX5_nextFile_30 : decode cX5_nextFile 30 = .ok (.ifCond .eq 11, 3) := dk_153 0 11 (dk_at dksX5_nextFile_1 6 rfl rfl)
theorem dX5_nextFile_33 : decode cX5_nextFile 33 = .ok (.aload_n 0, 1) := dk_42 (dk_at dksX5_nextFile_1 9 rfl rfl)
theorem dX5_nextFile_34 : decode cX5_nextFile 34 = .ok (.iload_n 2, 1) := dk_28 (dk_at dksX5_nextFile_1 10 rfl rfl)
theorem dX5_nextFile_35 : decode cX5_nextFile 35 = .ok (.invokevirtual 372, 3) := dk_182 1 116 (dk_at dksX5_nextFile_1 11 rfl rfl)
theorem dX5_nextFile_38 : decode cX5_nextFile 38 = .ok (.ifCond .ne 5, 3) := dk_154 0 5 (dk_at dksX5_nextFile_1 14 rfl rfl)
theorem dX5_nextFile_41 : decode cX5_nextFile 41 = .ok (.iload_n 2, 1) := dk_28 (dk_at dksX5_nextFile_1 17 rfl rfl)
theorem dX5_nextFile_42 : decode cX5_nextFile 42 = .ok (.ireturn, 1) := dk_172 (dk_at dksX5_nextFile_1 18 rfl rfl)
theorem dX5_nextFile_43 : decode cX5_nextFile 43 = .ok (.iinc 2 1, 3) := dk_132 2 1 (dk_at dksX5_nextFile_1 19 rfl rfl)
theorem dX5_nextFile_46 : decode cX5_nextFile 46 = .ok (.goto (-44), 3) := dk_167 255 212 (dk_at dksX5_nextFile_2 0 rfl rfl)
theorem dX5_nextFile_49 : decode cX5_nextFile 49 = .ok (.iconst (-1), 1) := dk_2 (dk_at dksX5_nextFile_2 3 rfl rfl)
theorem dX5_nextFile_50 : decode cX5_nextFile 50 = .ok (.ireturn, 1) := dk_172 (dk_at dksX5_nextFile_2 4 rfl rfl)
abbrev cX5_isNewHeld : ByteArray := prog_17_method_95_code
def yX5_isNewHeld : MethodName := ⟨RX5, "isNewHeld", "(I)Z"⟩
def dkwX5_isNewHeld_1 : List UInt8 := [153, 0, 5, 4, 172, 132, 2, 1, 167, 255, 228, 3, 172]
abbrev dktX5_isNewHeld_1 : List UInt8 := dkwX5_isNewHeld_1 ++ []
def dkwX5_isNewHeld_0 : List UInt8 := [3, 61, 28, 42, 182, 0, 101, 162, 0, 26, 42, 27, 42, 180, 0, 55, 6, 28, 104, 182, 1, 72]
abbrev dktX5_isNewHeld_0 : List UInt8 := dkwX5_isNewHeld_0 ++ dktX5_isNewHeld_1
theorem dksX5_isNewHeld_0 : cX5_isNewHeld.data.toList.drop 0 = dktX5_isNewHeld_0 := by decide +kernel
theorem dksX5_isNewHeld_1 : cX5_isNewHeld.data.toList.drop 22 = dktX5_isNewHeld_1 := dk_seg dksX5_isNewHeld_0 22 rfl rfl
theorem dX5_isNewHeld_0 : decode cX5_isNewHeld 0 = .ok (.iconst 0, 1) := dk_3 (dk_at dksX5_isNewHeld_0 0 rfl rfl)
theorem dX5_isNewHeld_1 : decode cX5_isNewHeld 1 = .ok (.istore_n 2, 1) := dk_61 (dk_at dksX5_isNewHeld_0 1 rfl rfl)
theorem dX5_isNewHeld_2 : decode cX5_isNewHeld 2 = .ok (.iload_n 2, 1) := dk_28 (dk_at dksX5_isNewHeld_0 2 rfl rfl)
theorem dX5_isNewHeld_3 : decode cX5_isNewHeld 3 = .ok (.aload_n 0, 1) := dk_42 (dk_at dksX5_isNewHeld_0 3 rfl rfl)
theorem dX5_isNewHeld_4 : decode cX5_isNewHeld 4 = .ok (.invokevirtual 101, 3) := dk_182 0 101 (dk_at dksX5_isNewHeld_0 4 rfl rfl)
theorem dX5_isNewHeld_7 : decode cX5_isNewHeld 7 = .ok (.if_icmp .ge 26, 3) := dk_162 0 26 (dk_at dksX5_isNewHeld_0 7 rfl rfl)
theorem dX5_isNewHeld_10 : decode cX5_isNewHeld 10 = .ok (.aload_n 0, 1) := dk_42 (dk_at dksX5_isNewHeld_0 10 rfl rfl)
theorem dX5_isNewHeld_11 : decode cX5_isNewHeld 11 = .ok (.iload_n 1, 1) := dk_27 (dk_at dksX5_isNewHeld_0 11 rfl rfl)
theorem dX5_isNewHeld_12 : decode cX5_isNewHeld 12 = .ok (.aload_n 0, 1) := dk_42 (dk_at dksX5_isNewHeld_0 12 rfl rfl)
theorem dX5_isNewHeld_13 : decode cX5_isNewHeld 13 = .ok (.getfield 55, 3) := dk_180 0 55 (dk_at dksX5_isNewHeld_0 13 rfl rfl)
theorem dX5_isNewHeld_16 : decode cX5_isNewHeld 16 = .ok (.iconst 3, 1) := dk_6 (dk_at dksX5_isNewHeld_0 16 rfl rfl)
theorem dX5_isNewHeld_17 : decode cX5_isNewHeld 17 = .ok (.iload_n 2, 1) := dk_28 (dk_at dksX5_isNewHeld_0 17 rfl rfl)
theorem dX5_isNewHeld_18 : decode cX5_isNewHeld 18 = .ok (.imul, 1) := dk_104 (dk_at dksX5_isNewHeld_0 18 rfl rfl)
theorem dX5_isNewHeld_19 : decode cX5_isNewHeld 19 = .ok (.invokevirtual 328, 3) := dk_182 1 72 (dk_at dksX5_isNewHeld_0 19 rfl rfl)
theorem dX5_isNewHeld_22 : decode cX5_isNewHeld 22 = .ok (.ifCond .eq 5, 3) := dk_153 0 5 (dk_at dksX5_isNewHeld_1 0 rfl rfl)
theorem dX5_isNewHeld_25 : decode cX5_isNewHeld 25 = .ok (.iconst 1, 1) := dk_4 (dk_at dksX5_isNewHeld_1 3 rfl rfl)
theorem dX5_isNewHeld_26 : decode cX5_isNewHeld 26 = .ok (.ireturn, 1) := dk_172 (dk_at dksX5_isNewHeld_1 4 rfl rfl)
theorem dX5_isNewHeld_27 : decode cX5_isNewHeld 27 = .ok (.iinc 2 1, 3) := dk_132 2 1 (dk_at dksX5_isNewHeld_1 5 rfl rfl)
theorem dX5_isNewHeld_30 : decode cX5_isNewHeld 30 = .ok (.goto (-28), 3) := dk_167 255 228 (dk_at dksX5_isNewHeld_1 8 rfl rfl)
theorem dX5_isNewHeld_33 : decode cX5_isNewHeld 33 = .ok (.iconst 0, 1) := dk_3 (dk_at dksX5_isNewHeld_1 11 rfl rfl)
theorem dX5_isNewHeld_34 : decode cX5_isNewHeld 34 = .ok (.ireturn, 1) := dk_172 (dk_at dksX5_isNewHeld_1 12 rfl rfl)
abbrev cX5_goesTo : ByteArray := prog_17_method_99_code
def yX5_goesTo : MethodName := ⟨RX5, "goesTo", "(IZ)V"⟩
def dkwX5_goesTo_8 : List UInt8 := [177]
abbrev dktX5_goesTo_8 : List UInt8 := dkwX5_goesTo_8 ++ []
def dkwX5_goesTo_7 : List UInt8 := [180, 0, 62, 27, 28, 154, 0, 7, 4, 167, 0, 4, 3, 84, 42, 89, 180, 1, 119, 4, 96, 181, 1, 119]
abbrev dktX5_goesTo_7 : List UInt8 := dkwX5_goesTo_7 ++ dktX5_goesTo_8
def dkwX5_goesTo_6 : List UInt8 := [180, 0, 74, 29, 42, 180, 0, 55, 6, 27, 104, 184, 0, 236, 42, 180, 0, 58, 27, 28, 84, 42]
abbrev dktX5_goesTo_6 : List UInt8 := dkwX5_goesTo_6 ++ dktX5_goesTo_7
def dkwX5_goesTo_5 : List UInt8 := [132, 4, 1, 167, 255, 219, 167, 0, 16, 42, 180, 0, 77, 3, 42, 180, 0, 74, 29, 184, 0, 236, 42]
abbrev dktX5_goesTo_5 : List UInt8 := dkwX5_goesTo_5 ++ dktX5_goesTo_6
def dkwX5_goesTo_4 : List UInt8 := [180, 0, 74, 29, 21, 4, 42, 180, 0, 46, 17, 0, 200, 27, 104, 21, 4, 96, 52, 184, 0, 192]
abbrev dktX5_goesTo_4 : List UInt8 := dkwX5_goesTo_4 ++ dktX5_goesTo_5
def dkwX5_goesTo_3 : List UInt8 := [184, 0, 188, 28, 153, 0, 49, 3, 54, 4, 21, 4, 42, 180, 0, 43, 27, 46, 162, 0, 32, 42]
abbrev dktX5_goesTo_3 : List UInt8 := dkwX5_goesTo_3 ++ dktX5_goesTo_4
def dkwX5_goesTo_2 : List UInt8 := [3, 79, 42, 180, 0, 55, 6, 27, 104, 42, 180, 0, 71, 29, 184, 0, 236, 42, 180, 0, 74, 29, 6]
abbrev dktX5_goesTo_2 : List UInt8 := dkwX5_goesTo_2 ++ dktX5_goesTo_3
def dkwX5_goesTo_1 : List UInt8 := [180, 1, 119, 28, 154, 0, 7, 4, 167, 0, 17, 42, 180, 0, 62, 27, 51, 153, 0, 7, 5, 167, 0, 4]
abbrev dktX5_goesTo_1 : List UInt8 := dkwX5_goesTo_1 ++ dktX5_goesTo_2
def dkwX5_goesTo_0 : List UInt8 := [6, 42, 180, 1, 119, 104, 62, 42, 180, 0, 65, 42, 180, 1, 119, 27, 79, 42, 180, 0, 68, 42]
abbrev dktX5_goesTo_0 : List UInt8 := dkwX5_goesTo_0 ++ dktX5_goesTo_1
theorem dksX5_goesTo_0 : cX5_goesTo.data.toList.drop 0 = dktX5_goesTo_0 := by decide +kernel
theorem dksX5_goesTo_1 : cX5_goesTo.data.toList.drop 22 = dktX5_goesTo_1 := dk_seg dksX5_goesTo_0 22 rfl rfl
theorem dksX5_goesTo_2 : cX5_goesTo.data.toList.drop 46 = dktX5_goesTo_2 := dk_seg dksX5_goesTo_1 24 rfl rfl
theorem dksX5_goesTo_3 : cX5_goesTo.data.toList.drop 69 = dktX5_goesTo_3 := dk_seg dksX5_goesTo_2 23 rfl rfl
theorem dksX5_goesTo_4 : cX5_goesTo.data.toList.drop 91 = dktX5_goesTo_4 := dk_seg dksX5_goesTo_3 22 rfl rfl
theorem dksX5_goesTo_5 : cX5_goesTo.data.toList.drop 113 = dktX5_goesTo_5 := dk_seg dksX5_goesTo_4 22 rfl rfl
theorem dksX5_goesTo_6 : cX5_goesTo.data.toList.drop 136 = dktX5_goesTo_6 := dk_seg dksX5_goesTo_5 23 rfl rfl
theorem dksX5_goesTo_7 : cX5_goesTo.data.toList.drop 158 = dktX5_goesTo_7 := dk_seg dksX5_goesTo_6 22 rfl rfl
theorem dksX5_goesTo_8 : cX5_goesTo.data.toList.drop 182 = dktX5_goesTo_8 := dk_seg dksX5_goesTo_7 24 rfl rfl
theorem dX5_goesTo_0 : decode cX5_goesTo 0 = .ok (.iconst 3, 1) := dk_6 (dk_at dksX5_goesTo_0 0 rfl rfl)
theorem dX5_goesTo_1 : decode cX5_goesTo 1 = .ok (.aload_n 0, 1) := dk_42 (dk_at dksX5_goesTo_0 1 rfl rfl)
theorem dX5_goesTo_2 : decode cX5_goesTo 2 = .ok (.getfield 375, 3) := dk_180 1 119 (dk_at dksX5_goesTo_0 2 rfl rfl)
theorem dX5_goesTo_5 : decode cX5_goesTo 5 = .ok (.imul, 1) := dk_104 (dk_at dksX5_goesTo_0 5 rfl rfl)
theorem dX5_goesTo_6 : decode cX5_goesTo 6 = .ok (.istore_n 3, 1) := dk_62 (dk_at dksX5_goesTo_0 6 rfl rfl)
theorem dX5_goesTo_7 : decode cX5_goesTo 7 = .ok (.aload_n 0, 1) := dk_42 (dk_at dksX5_goesTo_0 7 rfl rfl)
theorem dX5_goesTo_8 : decode cX5_goesTo 8 = .ok (.getfield 65, 3) := dk_180 0 65 (dk_at dksX5_goesTo_0 8 rfl rfl)
theorem dX5_goesTo_11 : decode cX5_goesTo 11 = .ok (.aload_n 0, 1) := dk_42 (dk_at dksX5_goesTo_0 11 rfl rfl)
theorem dX5_goesTo_12 : decode cX5_goesTo 12 = .ok (.getfield 375, 3) := dk_180 1 119 (dk_at dksX5_goesTo_0 12 rfl rfl)
theorem dX5_goesTo_15 : decode cX5_goesTo 15 = .ok (.iload_n 1, 1) := dk_27 (dk_at dksX5_goesTo_0 15 rfl rfl)
theorem dX5_goesTo_16 : decode cX5_goesTo 16 = .ok (.iastore, 1) := dk_79 (dk_at dksX5_goesTo_0 16 rfl rfl)
theorem dX5_goesTo_17 : decode cX5_goesTo 17 = .ok (.aload_n 0, 1) := dk_42 (dk_at dksX5_goesTo_0 17 rfl rfl)
theorem dX5_goesTo_18 : decode cX5_goesTo 18 = .ok (.getfield 68, 3) := dk_180 0 68 (dk_at dksX5_goesTo_0 18 rfl rfl)
theorem dX5_goesTo_21 : decode cX5_goesTo 21 = .ok (.aload_n 0, 1) := dk_42 (dk_at dksX5_goesTo_0 21 rfl rfl)
theorem dX5_goesTo_22 : decode cX5_goesTo 22 = .ok (.getfield 375, 3) := dk_180 1 119 (dk_at dksX5_goesTo_1 0 rfl rfl)
theorem dX5_goesTo_25 : decode cX5_goesTo 25 = .ok (.iload_n 2, 1) := dk_28 (dk_at dksX5_goesTo_1 3 rfl rfl)
theorem dX5_goesTo_26 : decode cX5_goesTo 26 = .ok (.ifCond .ne 7, 3) := dk_154 0 7 (dk_at dksX5_goesTo_1 4 rfl rfl)
theorem dX5_goesTo_29 : decode cX5_goesTo 29 = .ok (.iconst 1, 1) := dk_4 (dk_at dksX5_goesTo_1 7 rfl rfl)
theorem dX5_goesTo_30 : decode cX5_goesTo 30 = .ok (.goto 17, 3) := dk_167 0 17 (dk_at dksX5_goesTo_1 8 rfl rfl)
theorem dX5_goesTo_33 : decode cX5_goesTo 33 = .ok (.aload_n 0, 1) := dk_42 (dk_at dksX5_goesTo_1 11 rfl rfl)
theorem dX5_goesTo_34 : decode cX5_goesTo 34 = .ok (.getfield 62, 3) := dk_180 0 62 (dk_at dksX5_goesTo_1 12 rfl rfl)
theorem dX5_goesTo_37 : decode cX5_goesTo 37 = .ok (.iload_n 1, 1) := dk_27 (dk_at dksX5_goesTo_1 15 rfl rfl)
theorem dX5_goesTo_38 : decode cX5_goesTo 38 = .ok (.baload, 1) := dk_51 (dk_at dksX5_goesTo_1 16 rfl rfl)
theorem dX5_goesTo_39 : decode cX5_goesTo 39 = .ok (.ifCond .eq 7, 3) := dk_153 0 7 (dk_at dksX5_goesTo_1 17 rfl rfl)
theorem dX5_goesTo_42 : decode cX5_goesTo 42 = .ok (.iconst 2, 1) := dk_5 (dk_at dksX5_goesTo_1 20 rfl rfl)
theorem dX5_goesTo_43 : decode cX5_goesTo 43 = .ok (.goto 4, 3) := dk_167 0 4 (dk_at dksX5_goesTo_1 21 rfl rfl)
theorem dX5_goesTo_46 : decode cX5_goesTo 46 = .ok (.iconst 0, 1) := dk_3 (dk_at dksX5_goesTo_2 0 rfl rfl)
theorem dX5_goesTo_47 : decode cX5_goesTo 47 = .ok (.iastore, 1) := dk_79 (dk_at dksX5_goesTo_2 1 rfl rfl)
theorem dX5_goesTo_48 : decode cX5_goesTo 48 = .ok (.aload_n 0, 1) := dk_42 (dk_at dksX5_goesTo_2 2 rfl rfl)
theorem dX5_goesTo_49 : decode cX5_goesTo 49 = .ok (.getfield 55, 3) := dk_180 0 55 (dk_at dksX5_goesTo_2 3 rfl rfl)
theorem dX5_goesTo_52 : decode cX5_goesTo 52 = .ok (.iconst 3, 1) := dk_6 (dk_at dksX5_goesTo_2 6 rfl rfl)
theorem dX5_goesTo_53 : decode cX5_goesTo 53 = .ok (.iload_n 1, 1) := dk_27 (dk_at dksX5_goesTo_2 7 rfl rfl)
theorem dX5_goesTo_54 : decode cX5_goesTo 54 = .ok (.imul, 1) := dk_104 (dk_at dksX5_goesTo_2 8 rfl rfl)
theorem dX5_goesTo_55 : decode cX5_goesTo 55 = .ok (.aload_n 0, 1) := dk_42 (dk_at dksX5_goesTo_2 9 rfl rfl)
theorem dX5_goesTo_56 : decode cX5_goesTo 56 = .ok (.getfield 71, 3) := dk_180 0 71 (dk_at dksX5_goesTo_2 10 rfl rfl)
theorem dX5_goesTo_59 : decode cX5_goesTo 59 = .ok (.iload_n 3, 1) := dk_29 (dk_at dksX5_goesTo_2 13 rfl rfl)
theorem dX5_goesTo_60 : decode cX5_goesTo 60 = .ok (.invokestatic 236, 3) := dk_184 0 236 (dk_at dksX5_goesTo_2 14 rfl rfl)
theorem dX5_goesTo_63 : decode cX5_goesTo 63 = .ok (.aload_n 0, 1) := dk_42 (dk_at dksX5_goesTo_2 17 rfl rfl)
theorem dX5_goesTo_64 : decode cX5_goesTo 64 = .ok (.getfield 74, 3) := dk_180 0 74 (dk_at dksX5_goesTo_2 18 rfl rfl)
theorem dX5_goesTo_67 : decode cX5_goesTo 67 = .ok (.iload_n 3, 1) := dk_29 (dk_at dksX5_goesTo_2 21 rfl rfl)
theorem dX5_goesTo_68 : decode cX5_goesTo 68 = .ok (.iconst 3, 1) := dk_6 (dk_at dksX5_goesTo_2 22 rfl rfl)
theorem dX5_goesTo_69 : decode cX5_goesTo 69 = .ok (.invokestatic 188, 3) := dk_184 0 188 (dk_at dksX5_goesTo_3 0 rfl rfl)
theorem dX5_goesTo_72 : decode cX5_goesTo 72 = .ok (.iload_n 2, 1) := dk_28 (dk_at dksX5_goesTo_3 3 rfl rfl)
theorem dX5_goesTo_73 : decode cX5_goesTo 73 = .ok (.ifCond .eq 49, 3) := dk_153 0 49 (dk_at dksX5_goesTo_3 4 rfl rfl)
theorem dX5_goesTo_76 : decode cX5_goesTo 76 = .ok (.iconst 0, 1) := dk_3 (dk_at dksX5_goesTo_3 7 rfl rfl)
theorem dX5_goesTo_77 : decode cX5_goesTo 77 = .ok (.istore 4, 2) := dk_54 4 (dk_at dksX5_goesTo_3 8 rfl rfl)
theorem dX5_goesTo_79 : decode cX5_goesTo 79 = .ok (.iload 4, 2) := dk_21 4 (dk_at dksX5_goesTo_3 10 rfl rfl)
theorem dX5_goesTo_81 : decode cX5_goesTo 81 = .ok (.aload_n 0, 1) := dk_42 (dk_at dksX5_goesTo_3 12 rfl rfl)
theorem dX5_goesTo_82 : decode cX5_goesTo 82 = .ok (.getfield 43, 3) := dk_180 0 43 (dk_at dksX5_goesTo_3 13 rfl rfl)
theorem dX5_goesTo_85 : decode cX5_goesTo 85 = .ok (.iload_n 1, 1) := dk_27 (dk_at dksX5_goesTo_3 16 rfl rfl)
theorem dX5_goesTo_86 : decode cX5_goesTo 86 = .ok (.iaload, 1) := dk_46 (dk_at dksX5_goesTo_3 17 rfl rfl)
theorem dX5_goesTo_87 : decode cX5_goesTo 87 = .ok (.if_icmp .ge 32, 3) := dk_162 0 32 (dk_at dksX5_goesTo_3 18 rfl rfl)
theorem dX5_goesTo_90 : decode cX5_goesTo 90 = .ok (.aload_n 0, 1) := dk_42 (dk_at dksX5_goesTo_3 21 rfl rfl)
theorem dX5_goesTo_91 : decode cX5_goesTo 91 = .ok (.getfield 74, 3) := dk_180 0 74 (dk_at dksX5_goesTo_4 0 rfl rfl)
theorem dX5_goesTo_94 : decode cX5_goesTo 94 = .ok (.iload_n 3, 1) := dk_29 (dk_at dksX5_goesTo_4 3 rfl rfl)
theorem dX5_goesTo_95 : decode cX5_goesTo 95 = .ok (.iload 4, 2) := dk_21 4 (dk_at dksX5_goesTo_4 4 rfl rfl)
theorem dX5_goesTo_97 : decode cX5_goesTo 97 = .ok (.aload_n 0, 1) := dk_42 (dk_at dksX5_goesTo_4 6 rfl rfl)
theorem dX5_goesTo_98 : decode cX5_goesTo 98 = .ok (.getfield 46, 3) := dk_180 0 46 (dk_at dksX5_goesTo_4 7 rfl rfl)
theorem dX5_goesTo_101 : decode cX5_goesTo 101 = .ok (.sipush 200, 3) := dk_17 0 200 (dk_at dksX5_goesTo_4 10 rfl rfl)
theorem dX5_goesTo_104 : decode cX5_goesTo 104 = .ok (.iload_n 1, 1) := dk_27 (dk_at dksX5_goesTo_4 13 rfl rfl)
theorem dX5_goesTo_105 : decode cX5_goesTo 105 = .ok (.imul, 1) := dk_104 (dk_at dksX5_goesTo_4 14 rfl rfl)
theorem dX5_goesTo_106 : decode cX5_goesTo 106 = .ok (.iload 4, 2) := dk_21 4 (dk_at dksX5_goesTo_4 15 rfl rfl)
theorem dX5_goesTo_108 : decode cX5_goesTo 108 = .ok (.iadd, 1) := dk_96 (dk_at dksX5_goesTo_4 17 rfl rfl)
theorem dX5_goesTo_109 : decode cX5_goesTo 109 = .ok (.caload, 1) := dk_52 (dk_at dksX5_goesTo_4 18 rfl rfl)
theorem dX5_goesTo_110 : decode cX5_goesTo 110 = .ok (.invokestatic 192, 3) := dk_184 0 192 (dk_at dksX5_goesTo_4 19 rfl rfl)
theorem dX5_goesTo_113 : decode cX5_goesTo 113 = .ok (.iinc 4 1, 3) := dk_132 4 1 (dk_at dksX5_goesTo_5 0 rfl rfl)
theorem dX5_goesTo_116 : decode cX5_goesTo 116 = .ok (.goto (-37), 3) := dk_167 255 219 (dk_at dksX5_goesTo_5 3 rfl rfl)
theorem dX5_goesTo_119 : decode cX5_goesTo 119 = .ok (.goto 16, 3) := dk_167 0 16 (dk_at dksX5_goesTo_5 6 rfl rfl)
theorem dX5_goesTo_122 : decode cX5_goesTo 122 = .ok (.aload_n 0, 1) := dk_42 (dk_at dksX5_goesTo_5 9 rfl rfl)
theorem dX5_goesTo_123 : decode cX5_goesTo 123 = .ok (.getfield 77, 3) := dk_180 0 77 (dk_at dksX5_goesTo_5 10 rfl rfl)
theorem dX5_goesTo_126 : decode cX5_goesTo 126 = .ok (.iconst 0, 1) := dk_3 (dk_at dksX5_goesTo_5 13 rfl rfl)
theorem dX5_goesTo_127 : decode cX5_goesTo 127 = .ok (.aload_n 0, 1) := dk_42 (dk_at dksX5_goesTo_5 14 rfl rfl)
theorem dX5_goesTo_128 : decode cX5_goesTo 128 = .ok (.getfield 74, 3) := dk_180 0 74 (dk_at dksX5_goesTo_5 15 rfl rfl)
theorem dX5_goesTo_131 : decode cX5_goesTo 131 = .ok (.iload_n 3, 1) := dk_29 (dk_at dksX5_goesTo_5 18 rfl rfl)
theorem dX5_goesTo_132 : decode cX5_goesTo 132 = .ok (.invokestatic 236, 3) := dk_184 0 236 (dk_at dksX5_goesTo_5 19 rfl rfl)
theorem dX5_goesTo_135 : decode cX5_goesTo 135 = .ok (.aload_n 0, 1) := dk_42 (dk_at dksX5_goesTo_5 22 rfl rfl)
theorem dX5_goesTo_136 : decode cX5_goesTo 136 = .ok (.getfield 74, 3) := dk_180 0 74 (dk_at dksX5_goesTo_6 0 rfl rfl)
theorem dX5_goesTo_139 : decode cX5_goesTo 139 = .ok (.iload_n 3, 1) := dk_29 (dk_at dksX5_goesTo_6 3 rfl rfl)
theorem dX5_goesTo_140 : decode cX5_goesTo 140 = .ok (.aload_n 0, 1) := dk_42 (dk_at dksX5_goesTo_6 4 rfl rfl)
theorem dX5_goesTo_141 : decode cX5_goesTo 141 = .ok (.getfield 55, 3) := dk_180 0 55 (dk_at dksX5_goesTo_6 5 rfl rfl)
theorem dX5_goesTo_144 : decode cX5_goesTo 144 = .ok (.iconst 3, 1) := dk_6 (dk_at dksX5_goesTo_6 8 rfl rfl)
theorem dX5_goesTo_145 : decode cX5_goesTo 145 = .ok (.iload_n 1, 1) := dk_27 (dk_at dksX5_goesTo_6 9 rfl rfl)
theorem dX5_goesTo_146 : decode cX5_goesTo 146 = .ok (.imul, 1) := dk_104 (dk_at dksX5_goesTo_6 10 rfl rfl)
theorem dX5_goesTo_147 : decode cX5_goesTo 147 = .ok (.invokestatic 236, 3) := dk_184 0 236 (dk_at dksX5_goesTo_6 11 rfl rfl)
theorem dX5_goesTo_150 : decode cX5_goesTo 150 = .ok (.aload_n 0, 1) := dk_42 (dk_at dksX5_goesTo_6 14 rfl rfl)
theorem dX5_goesTo_151 : decode cX5_goesTo 151 = .ok (.getfield 58, 3) := dk_180 0 58 (dk_at dksX5_goesTo_6 15 rfl rfl)
theorem dX5_goesTo_154 : decode cX5_goesTo 154 = .ok (.iload_n 1, 1) := dk_27 (dk_at dksX5_goesTo_6 18 rfl rfl)
theorem dX5_goesTo_155 : decode cX5_goesTo 155 = .ok (.iload_n 2, 1) := dk_28 (dk_at dksX5_goesTo_6 19 rfl rfl)
theorem dX5_goesTo_156 : decode cX5_goesTo 156 = .ok (.bastore, 1) := dk_84 (dk_at dksX5_goesTo_6 20 rfl rfl)
theorem dX5_goesTo_157 : decode cX5_goesTo 157 = .ok (.aload_n 0, 1) := dk_42 (dk_at dksX5_goesTo_6 21 rfl rfl)
theorem dX5_goesTo_158 : decode cX5_goesTo 158 = .ok (.getfield 62, 3) := dk_180 0 62 (dk_at dksX5_goesTo_7 0 rfl rfl)
theorem dX5_goesTo_161 : decode cX5_goesTo 161 = .ok (.iload_n 1, 1) := dk_27 (dk_at dksX5_goesTo_7 3 rfl rfl)
theorem dX5_goesTo_162 : decode cX5_goesTo 162 = .ok (.iload_n 2, 1) := dk_28 (dk_at dksX5_goesTo_7 4 rfl rfl)
theorem dX5_goesTo_163 : decode cX5_goesTo 163 = .ok (.ifCond .ne 7, 3) := dk_154 0 7 (dk_at dksX5_goesTo_7 5 rfl rfl)
theorem dX5_goesTo_166 : decode cX5_goesTo 166 = .ok (.iconst 1, 1) := dk_4 (dk_at dksX5_goesTo_7 8 rfl rfl)
theorem dX5_goesTo_167 : decode cX5_goesTo 167 = .ok (.goto 4, 3) := dk_167 0 4 (dk_at dksX5_goesTo_7 9 rfl rfl)
theorem dX5_goesTo_170 : decode cX5_goesTo 170 = .ok (.iconst 0, 1) := dk_3 (dk_at dksX5_goesTo_7 12 rfl rfl)
theorem dX5_goesTo_171 : decode cX5_goesTo 171 = .ok (.bastore, 1) := dk_84 (dk_at dksX5_goesTo_7 13 rfl rfl)
theorem dX5_goesTo_172 : decode cX5_goesTo 172 = .ok (.aload_n 0, 1) := dk_42 (dk_at dksX5_goesTo_7 14 rfl rfl)
theorem dX5_goesTo_173 : decode cX5_goesTo 173 = .ok (.dup, 1) := dk_89 (dk_at dksX5_goesTo_7 15 rfl rfl)
theorem dX5_goesTo_174 : decode cX5_goesTo 174 = .ok (.getfield 375, 3) := dk_180 1 119 (dk_at dksX5_goesTo_7 16 rfl rfl)
theorem dX5_goesTo_177 : decode cX5_goesTo 177 = .ok (.iconst 1, 1) := dk_4 (dk_at dksX5_goesTo_7 19 rfl rfl)
theorem dX5_goesTo_178 : decode cX5_goesTo 178 = .ok (.iadd, 1) := dk_96 (dk_at dksX5_goesTo_7 20 rfl rfl)
theorem dX5_goesTo_179 : decode cX5_goesTo 179 = .ok (.putfield 375, 3) := dk_181 1 119 (dk_at dksX5_goesTo_7 21 rfl rfl)
theorem dX5_goesTo_182 : decode cX5_goesTo 182 = .ok (.return_, 1) := dk_177 (dk_at dksX5_goesTo_8 0 rfl rfl)
abbrev cX5_makesSpare : ByteArray := prog_17_method_97_code
def yX5_makesSpare : MethodName := ⟨RX5, "makesSpare", "()V"⟩
def dkwX5_makesSpare_5 : List UInt8 := [177]
abbrev dktX5_makesSpare_5 : List UInt8 := dkwX5_makesSpare_5 ++ []
def dkwX5_makesSpare_4 : List UInt8 := [42, 42, 180, 0, 77, 3, 182, 1, 109, 154, 255, 154, 42, 42, 180, 0, 77, 3, 182, 1, 113, 154, 255, 142]
abbrev dktX5_makesSpare_4 : List UInt8 := dkwX5_makesSpare_4 ++ dktX5_makesSpare_5
def dkwX5_makesSpare_3 : List UInt8 := [27, 16, 9, 164, 0, 7, 7, 167, 0, 4, 6, 16, 48, 27, 16, 10, 112, 96, 184, 0, 192, 132, 1, 1]
abbrev dktX5_makesSpare_3 : List UInt8 := dkwX5_makesSpare_3 ++ dktX5_makesSpare_4
def dkwX5_makesSpare_2 : List UInt8 := [164, 0, 19, 42, 180, 0, 77, 3, 6, 16, 48, 27, 16, 10, 108, 96, 184, 0, 192, 42, 180, 0, 77, 3]
abbrev dktX5_makesSpare_2 : List UInt8 := dkwX5_makesSpare_2 ++ dktX5_makesSpare_3
def dkwX5_makesSpare_1 : List UInt8 := [180, 0, 77, 3, 4, 16, 109, 184, 0, 192, 42, 180, 0, 77, 3, 5, 16, 112, 184, 0, 192, 27, 16, 9]
abbrev dktX5_makesSpare_1 : List UInt8 := dkwX5_makesSpare_1 ++ dktX5_makesSpare_2
def dkwX5_makesSpare_0 : List UInt8 := [3, 60, 42, 180, 0, 77, 3, 6, 184, 0, 188, 42, 180, 0, 77, 3, 3, 16, 116, 184, 0, 192, 42]
abbrev dktX5_makesSpare_0 : List UInt8 := dkwX5_makesSpare_0 ++ dktX5_makesSpare_1
theorem dksX5_makesSpare_0 : cX5_makesSpare.data.toList.drop 0 = dktX5_makesSpare_0 := by decide +kernel
theorem dksX5_makesSpare_1 : cX5_makesSpare.data.toList.drop 23 = dktX5_makesSpare_1 := dk_seg dksX5_makesSpare_0 23 rfl rfl
theorem dksX5_makesSpare_2 : cX5_makesSpare.data.toList.drop 47 = dktX5_makesSpare_2 := dk_seg dksX5_makesSpare_1 24 rfl rfl
theorem dksX5_makesSpare_3 : cX5_makesSpare.data.toList.drop 71 = dktX5_makesSpare_3 := dk_seg dksX5_makesSpare_2 24 rfl rfl
theorem dksX5_makesSpare_4 : cX5_makesSpare.data.toList.drop 95 = dktX5_makesSpare_4 := dk_seg dksX5_makesSpare_3 24 rfl rfl
theorem dksX5_makesSpare_5 : cX5_makesSpare.data.toList.drop 119 = dktX5_makesSpare_5 := dk_seg dksX5_makesSpare_4 24 rfl rfl
theorem dX5_makesSpare_0 : decode cX5_makesSpare 0 = .ok (.iconst 0, 1) := dk_3 (dk_at dksX5_makesSpare_0 0 rfl rfl)
theorem dX5_makesSpare_1 : decode cX5_makesSpare 1 = .ok (.istore_n 1, 1) := dk_60 (dk_at dksX5_makesSpare_0 1 rfl rfl)
theorem dX5_makesSpare_2 : decode cX5_makesSpare 2 = .ok (.aload_n 0, 1) := dk_42 (dk_at dksX5_makesSpare_0 2 rfl rfl)
theorem dX5_makesSpare_3 : decode cX5_makesSpare 3 = .ok (.getfield 77, 3) := dk_180 0 77 (dk_at dksX5_makesSpare_0 3 rfl rfl)
theorem dX5_makesSpare_6 : decode cX5_makesSpare 6 = .ok (.iconst 0, 1) := dk_3 (dk_at dksX5_makesSpare_0 6 rfl rfl)
theorem dX5_makesSpare_7 : decode cX5_makesSpare 7 = .ok (.iconst 3, 1) := dk_6 (dk_at dksX5_makesSpare_0 7 rfl rfl)
theorem dX5_makesSpare_8 : decode cX5_makesSpare 8 = .ok (.invokestatic 188, 3) := dk_184 0 188 (dk_at dksX5_makesSpare_0 8 rfl rfl)
theorem dX5_makesSpare_11 : decode cX5_makesSpare 11 = .ok (.aload_n 0, 1) := dk_42 (dk_at dksX5_makesSpare_0 11 rfl rfl)
theorem dX5_makesSpare_12 : decode cX5_makesSpare 12 = .ok (.getfield 77, 3) := dk_180 0 77 (dk_at dksX5_makesSpare_0 12 rfl rfl)
theorem dX5_makesSpare_15 : decode cX5_makesSpare 15 = .ok (.iconst 0, 1) := dk_3 (dk_at dksX5_makesSpare_0 15 rfl rfl)
theorem dX5_makesSpare_16 : decode cX5_makesSpare 16 = .ok (.iconst 0, 1) := dk_3 (dk_at dksX5_makesSpare_0 16 rfl rfl)
theorem dX5_makesSpare_17 : decode cX5_makesSpare 17 = .ok (.bipush 116, 2) := dk_16 116 (dk_at dksX5_makesSpare_0 17 rfl rfl)
theorem dX5_makesSpare_19 : decode cX5_makesSpare 19 = .ok (.invokestatic 192, 3) := dk_184 0 192 (dk_at dksX5_makesSpare_0 19 rfl rfl)
theorem dX5_makesSpare_22 : decode cX5_makesSpare 22 = .ok (.aload_n 0, 1) := dk_42 (dk_at dksX5_makesSpare_0 22 rfl rfl)
theorem dX5_makesSpare_23 : decode cX5_makesSpare 23 = .ok (.getfield 77, 3) := dk_180 0 77 (dk_at dksX5_makesSpare_1 0 rfl rfl)
theorem dX5_makesSpare_26 : decode cX5_makesSpare 26 = .ok (.iconst 0, 1) := dk_3 (dk_at dksX5_makesSpare_1 3 rfl rfl)
theorem dX5_makesSpare_27 : decode cX5_makesSpare 27 = .ok (.iconst 1, 1) := dk_4 (dk_at dksX5_makesSpare_1 4 rfl rfl)
theorem dX5_makesSpare_28 : decode cX5_makesSpare 28 = .ok (.bipush 109, 2) := dk_16 109 (dk_at dksX5_makesSpare_1 5 rfl rfl)
theorem dX5_makesSpare_30 : decode cX5_makesSpare 30 = .ok (.invokestatic 192, 3) := dk_184 0 192 (dk_at dksX5_makesSpare_1 7 rfl rfl)
theorem dX5_makesSpare_33 : decode cX5_makesSpare 33 = .ok (.aload_n 0, 1) := dk_42 (dk_at dksX5_makesSpare_1 10 rfl rfl)
theorem dX5_makesSpare_34 : decode cX5_makesSpare 34 = .ok (.getfield 77, 3) := dk_180 0 77 (dk_at dksX5_makesSpare_1 11 rfl rfl)
theorem dX5_makesSpare_37 : decode cX5_makesSpare 37 = .ok (.iconst 0, 1) := dk_3 (dk_at dksX5_makesSpare_1 14 rfl rfl)
theorem dX5_makesSpare_38 : decode cX5_makesSpare 38 = .ok (.iconst 2, 1) := dk_5 (dk_at dksX5_makesSpare_1 15 rfl rfl)
theorem dX5_makesSpare_39 : decode cX5_makesSpare 39 = .ok (.bipush 112, 2) := dk_16 112 (dk_at dksX5_makesSpare_1 16 rfl rfl)
theorem dX5_makesSpare_41 : decode cX5_makesSpare 41 = .ok (.invokestatic 192, 3) := dk_184 0 192 (dk_at dksX5_makesSpare_1 18 rfl rfl)
theorem dX5_makesSpare_44 : decode cX5_makesSpare 44 = .ok (.iload_n 1, 1) := dk_27 (dk_at dksX5_makesSpare_1 21 rfl rfl)
theorem dX5_makesSpare_45 : decode cX5_makesSpare 45 = .ok (.bipush 9, 2) := dk_16 9 (dk_at dksX5_makesSpare_1 22 rfl rfl)
theorem dX5_makesSpare_47 : decode cX5_makesSpare 47 = .ok (.if_icmp .le 19, 3) := dk_164 0 19 (dk_at dksX5_makesSpare_2 0 rfl rfl)
theorem dX5_makesSpare_50 : decode cX5_makesSpare 50 = .ok (.aload_n 0, 1) := dk_42 (dk_at dksX5_makesSpare_2 3 rfl rfl)
theorem dX5_makesSpare_51 : decode cX5_makesSpare 51 = .ok (.getfield 77, 3) := dk_180 0 77 (dk_at dksX5_makesSpare_2 4 rfl rfl)
theorem dX5_makesSpare_54 : decode cX5_makesSpare 54 = .ok (.iconst 0, 1) := dk_3 (dk_at dksX5_makesSpare_2 7 rfl rfl)
theorem dX5_makesSpare_55 : decode cX5_makesSpare 55 = .ok (.iconst 3, 1) := dk_6 (dk_at dksX5_makesSpare_2 8 rfl rfl)
theorem dX5_makesSpare_56 : decode cX5_makesSpare 56 = .ok (.bipush 48, 2) := dk_16 48 (dk_at dksX5_makesSpare_2 9 rfl rfl)
theorem dX5_makesSpare_58 : decode cX5_makesSpare 58 = .ok (.iload_n 1, 1) := dk_27 (dk_at dksX5_makesSpare_2 11 rfl rfl)
theorem dX5_makesSpare_59 : decode cX5_makesSpare 59 = .ok (.bipush 10, 2) := dk_16 10 (dk_at dksX5_makesSpare_2 12 rfl rfl)
theorem dX5_makesSpare_61 : decode cX5_makesSpare 61 = .ok (.idiv, 1) := dk_108 (dk_at dksX5_makesSpare_2 14 rfl rfl)
theorem dX5_makesSpare_62 : decode cX5_makesSpare 62 = .ok (.iadd, 1) := dk_96 (dk_at dksX5_makesSpare_2 15 rfl rfl)
theorem dX5_makesSpare_63 : decode cX5_makesSpare 63 = .ok (.invokestatic 192, 3) := dk_184 0 192 (dk_at dksX5_makesSpare_2 16 rfl rfl)
theorem dX5_makesSpare_66 : decode cX5_makesSpare 66 = .ok (.aload_n 0, 1) := dk_42 (dk_at dksX5_makesSpare_2 19 rfl rfl)
theorem dX5_makesSpare_67 : decode cX5_makesSpare 67 = .ok (.getfield 77, 3) := dk_180 0 77 (dk_at dksX5_makesSpare_2 20 rfl rfl)
theorem dX5_makesSpare_70 : decode cX5_makesSpare 70 = .ok (.iconst 0, 1) := dk_3 (dk_at dksX5_makesSpare_2 23 rfl rfl)
theorem dX5_makesSpare_71 : decode cX5_makesSpare 71 = .ok (.iload_n 1, 1) := dk_27 (dk_at dksX5_makesSpare_3 0 rfl rfl)
theorem dX5_makesSpare_72 : decode cX5_makesSpare 72 = .ok (.bipush 9, 2) := dk_16 9 (dk_at dksX5_makesSpare_3 1 rfl rfl)
theorem dX5_makesSpare_74 : decode cX5_makesSpare 74 = .ok (.if_icmp .le 7, 3) := dk_164 0 7 (dk_at dksX5_makesSpare_3 3 rfl rfl)
theorem dX5_makesSpare_77 : decode cX5_makesSpare 77 = .ok (.iconst 4, 1) := dk_7 (dk_at dksX5_makesSpare_3 6 rfl rfl)
theorem dX5_makesSpare_78 : decode cX5_makesSpare 78 = .ok (.goto 4, 3) := dk_167 0 4 (dk_at dksX5_makesSpare_3 7 rfl rfl)
theorem dX5_makesSpare_81 : decode cX5_makesSpare 81 = .ok (.iconst 3, 1) := dk_6 (dk_at dksX5_makesSpare_3 10 rfl rfl)
theorem dX5_makesSpare_82 : decode cX5_makesSpare 82 = .ok (.bipush 48, 2) := dk_16 48 (dk_at dksX5_makesSpare_3 11 rfl rfl)
theorem dX5_makesSpare_84 : decode cX5_makesSpare 84 = .ok (.iload_n 1, 1) := dk_27 (dk_at dksX5_makesSpare_3 13 rfl rfl)
theorem dX5_makesSpare_85 : decode cX5_makesSpare 85 = .ok (.bipush 10, 2) := dk_16 10 (dk_at dksX5_makesSpare_3 14 rfl rfl)
theorem dX5_makesSpare_87 : decode cX5_makesSpare 87 = .ok (.irem, 1) := dk_112 (dk_at dksX5_makesSpare_3 16 rfl rfl)
theorem dX5_makesSpare_88 : decode cX5_makesSpare 88 = .ok (.iadd, 1) := dk_96 (dk_at dksX5_makesSpare_3 17 rfl rfl)
theorem dX5_makesSpare_89 : decode cX5_makesSpare 89 = .ok (.invokestatic 192, 3) := dk_184 0 192 (dk_at dksX5_makesSpare_3 18 rfl rfl)
theorem dX5_makesSpare_92 : decode cX5_makesSpare 92 = .ok (.iinc 1 1, 3) := dk_132 1 1 (dk_at dksX5_makesSpare_3 21 rfl rfl)
theorem dX5_makesSpare_95 : decode cX5_makesSpare 95 = .ok (.aload_n 0, 1) := dk_42 (dk_at dksX5_makesSpare_4 0 rfl rfl)
theorem dX5_makesSpare_96 : decode cX5_makesSpare 96 = .ok (.aload_n 0, 1) := dk_42 (dk_at dksX5_makesSpare_4 1 rfl rfl)
theorem dX5_makesSpare_97 : decode cX5_makesSpare 97 = .ok (.getfield 77, 3) := dk_180 0 77 (dk_at dksX5_makesSpare_4 2 rfl rfl)
theorem dX5_makesSpare_100 : decode cX5_makesSpare 100 = .ok (.iconst 0, 1) := dk_3 (dk_at dksX5_makesSpare_4 5 rfl rfl)
theorem dX5_makesSpare_101 : decode cX5_makesSpare 101 = .ok (.invokevirtual 365, 3) := dk_182 1 109 (dk_at dksX5_makesSpare_4 6 rfl rfl)
theorem dX5_makesSpare_104 : decode cX5_makesSpare 104 = .ok (.ifCond .ne (-102), 3) := dk_154 255 154 (dk_at dksX5_makesSpare_4 9 rfl rfl)
theorem dX5_makesSpare_107 : decode cX5_makesSpare 107 = .ok (.aload_n 0, 1) := dk_42 (dk_at dksX5_makesSpare_4 12 rfl rfl)
theorem dX5_makesSpare_108 : decode cX5_makesSpare 108 = .ok (.aload_n 0, 1) := dk_42 (dk_at dksX5_makesSpare_4 13 rfl rfl)
theorem dX5_makesSpare_109 : decode cX5_makesSpare 109 = .ok (.getfield 77, 3) := dk_180 0 77 (dk_at dksX5_makesSpare_4 14 rfl rfl)
theorem dX5_makesSpare_112 : decode cX5_makesSpare 112 = .ok (.iconst 0, 1) := dk_3 (dk_at dksX5_makesSpare_4 17 rfl rfl)
theorem dX5_makesSpare_113 : decode cX5_makesSpare 113 = .ok (.invokevirtual 369, 3) := dk_182 1 113 (dk_at dksX5_makesSpare_4 18 rfl rfl)
theorem dX5_makesSpare_116 : decode cX5_makesSpare 116 = .ok (.ifCond .ne (-114), 3) := dk_154 255 142 (dk_at dksX5_makesSpare_4 21 rfl rfl)
theorem dX5_makesSpare_119 : decode cX5_makesSpare 119 = .ok (.return_, 1) := dk_177 (dk_at dksX5_makesSpare_5 0 rfl rfl)
abbrev cX5_isHeld : ByteArray := prog_17_method_94_code
def yX5_isHeld : MethodName := ⟨RX5, "isHeld", "([JI)Z"⟩
def dkwX5_isHeld_1 : List UInt8 := [154, 0, 5, 4, 172, 132, 3, 1, 167, 255, 228, 3, 172]
abbrev dktX5_isHeld_1 : List UInt8 := dkwX5_isHeld_1 ++ []
def dkwX5_isHeld_0 : List UInt8 := [3, 62, 29, 42, 182, 0, 101, 162, 0, 26, 42, 180, 0, 55, 6, 29, 104, 43, 28, 184, 0, 232]
abbrev dktX5_isHeld_0 : List UInt8 := dkwX5_isHeld_0 ++ dktX5_isHeld_1
theorem dksX5_isHeld_0 : cX5_isHeld.data.toList.drop 0 = dktX5_isHeld_0 := by decide +kernel
theorem dksX5_isHeld_1 : cX5_isHeld.data.toList.drop 22 = dktX5_isHeld_1 := dk_seg dksX5_isHeld_0 22 rfl rfl
theorem dX5_isHeld_0 : decode cX5_isHeld 0 = .ok (.iconst 0, 1) := dk_3 (dk_at dksX5_isHeld_0 0 rfl rfl)
theorem dX5_isHeld_1 : decode cX5_isHeld 1 = .ok (.istore_n 3, 1) := dk_62 (dk_at dksX5_isHeld_0 1 rfl rfl)
theorem dX5_isHeld_2 : decode cX5_isHeld 2 = .ok (.iload_n 3, 1) := dk_29 (dk_at dksX5_isHeld_0 2 rfl rfl)
theorem dX5_isHeld_3 : decode cX5_isHeld 3 = .ok (.aload_n 0, 1) := dk_42 (dk_at dksX5_isHeld_0 3 rfl rfl)
theorem dX5_isHeld_4 : decode cX5_isHeld 4 = .ok (.invokevirtual 101, 3) := dk_182 0 101 (dk_at dksX5_isHeld_0 4 rfl rfl)
theorem dX5_isHeld_7 : decode cX5_isHeld 7 = .ok (.if_icmp .ge 26, 3) := dk_162 0 26 (dk_at dksX5_isHeld_0 7 rfl rfl)
theorem dX5_isHeld_10 : decode cX5_isHeld 10 = .ok (.aload_n 0, 1) := dk_42 (dk_at dksX5_isHeld_0 10 rfl rfl)
theorem dX5_isHeld_11 : decode cX5_isHeld 11 = .ok (.getfield 55, 3) := dk_180 0 55 (dk_at dksX5_isHeld_0 11 rfl rfl)
theorem dX5_isHeld_14 : decode cX5_isHeld 14 = .ok (.iconst 3, 1) := dk_6 (dk_at dksX5_isHeld_0 14 rfl rfl)
theorem dX5_isHeld_15 : decode cX5_isHeld 15 = .ok (.iload_n 3, 1) := dk_29 (dk_at dksX5_isHeld_0 15 rfl rfl)
theorem dX5_isHeld_16 : decode cX5_isHeld 16 = .ok (.imul, 1) := dk_104 (dk_at dksX5_isHeld_0 16 rfl rfl)
theorem dX5_isHeld_17 : decode cX5_isHeld 17 = .ok (.aload_n 1, 1) := dk_43 (dk_at dksX5_isHeld_0 17 rfl rfl)
theorem dX5_isHeld_18 : decode cX5_isHeld 18 = .ok (.iload_n 2, 1) := dk_28 (dk_at dksX5_isHeld_0 18 rfl rfl)
theorem dX5_isHeld_19 : decode cX5_isHeld 19 = .ok (.invokestatic 232, 3) := dk_184 0 232 (dk_at dksX5_isHeld_0 19 rfl rfl)
theorem dX5_isHeld_22 : decode cX5_isHeld 22 = .ok (.ifCond .ne 5, 3) := dk_154 0 5 (dk_at dksX5_isHeld_1 0 rfl rfl)
theorem dX5_isHeld_25 : decode cX5_isHeld 25 = .ok (.iconst 1, 1) := dk_4 (dk_at dksX5_isHeld_1 3 rfl rfl)
theorem dX5_isHeld_26 : decode cX5_isHeld 26 = .ok (.ireturn, 1) := dk_172 (dk_at dksX5_isHeld_1 4 rfl rfl)
theorem dX5_isHeld_27 : decode cX5_isHeld 27 = .ok (.iinc 3 1, 3) := dk_132 3 1 (dk_at dksX5_isHeld_1 5 rfl rfl)
theorem dX5_isHeld_30 : decode cX5_isHeld 30 = .ok (.goto (-28), 3) := dk_167 255 228 (dk_at dksX5_isHeld_1 8 rfl rfl)
theorem dX5_isHeld_33 : decode cX5_isHeld 33 = .ok (.iconst 0, 1) := dk_3 (dk_at dksX5_isHeld_1 11 rfl rfl)
theorem dX5_isHeld_34 : decode cX5_isHeld 34 = .ok (.ireturn, 1) := dk_172 (dk_at dksX5_isHeld_1 12 rfl rfl)
abbrev cX5_isNewOfAny : ByteArray := prog_17_method_96_code
def yX5_isNewOfAny : MethodName := ⟨RX5, "isNewOfAny", "([JI)Z"⟩
def dkwX5_isNewOfAny_1 : List UInt8 := [182, 1, 72, 153, 0, 5, 4, 172, 132, 3, 1, 167, 255, 223, 3, 172]
abbrev dktX5_isNewOfAny_1 : List UInt8 := dkwX5_isNewOfAny_1 ++ []
def dkwX5_isNewOfAny_0 : List UInt8 := [3, 62, 29, 42, 182, 0, 101, 162, 0, 31, 42, 180, 0, 49, 29, 46, 6, 160, 0, 15, 42, 29, 43, 28]
abbrev dktX5_isNewOfAny_0 : List UInt8 := dkwX5_isNewOfAny_0 ++ dktX5_isNewOfAny_1
theorem dksX5_isNewOfAny_0 : cX5_isNewOfAny.data.toList.drop 0 = dktX5_isNewOfAny_0 := by decide +kernel
theorem dksX5_isNewOfAny_1 : cX5_isNewOfAny.data.toList.drop 24 = dktX5_isNewOfAny_1 := dk_seg dksX5_isNewOfAny_0 24 rfl rfl
theorem dX5_isNewOfAny_0 : decode cX5_isNewOfAny 0 = .ok (.iconst 0, 1) := dk_3 (dk_at dksX5_isNewOfAny_0 0 rfl rfl)
theorem dX5_isNewOfAny_1 : decode cX5_isNewOfAny 1 = .ok (.istore_n 3, 1) := dk_62 (dk_at dksX5_isNewOfAny_0 1 rfl rfl)
theorem dX5_isNewOfAny_2 : decode cX5_isNewOfAny 2 = .ok (.iload_n 3, 1) := dk_29 (dk_at dksX5_isNewOfAny_0 2 rfl rfl)
theorem dX5_isNewOfAny_3 : decode cX5_isNewOfAny 3 = .ok (.aload_n 0, 1) := dk_42 (dk_at dksX5_isNewOfAny_0 3 rfl rfl)
theorem dX5_isNewOfAny_4 : decode cX5_isNewOfAny 4 = .ok (.invokevirtual 101, 3) := dk_182 0 101 (dk_at dksX5_isNewOfAny_0 4 rfl rfl)
theorem dX5_isNewOfAny_7 : decode cX5_isNewOfAny 7 = .ok (.if_icmp .ge 31, 3) := dk_162 0 31 (dk_at dksX5_isNewOfAny_0 7 rfl rfl)
theorem dX5_isNewOfAny_10 : decode cX5_isNewOfAny 10 = .ok (.aload_n 0, 1) := dk_42 (dk_at dksX5_isNewOfAny_0 10 rfl rfl)
theorem dX5_isNewOfAny_11 : decode cX5_isNewOfAny 11 = .ok (.getfield 49, 3) := dk_180 0 49 (dk_at dksX5_isNewOfAny_0 11 rfl rfl)
theorem dX5_isNewOfAny_14 : decode cX5_isNewOfAny 14 = .ok (.iload_n 3, 1) := dk_29 (dk_at dksX5_isNewOfAny_0 14 rfl rfl)
theorem dX5_isNewOfAny_15 : decode cX5_isNewOfAny 15 = .ok (.iaload, 1) := dk_46 (dk_at dksX5_isNewOfAny_0 15 rfl rfl)
theorem dX5_isNewOfAny_16 : decode cX5_isNewOfAny 16 = .ok (.iconst 3, 1) := dk_6 (dk_at dksX5_isNewOfAny_0 16 rfl rfl)
theorem dX5_isNewOfAny_17 : decode cX5_isNewOfAny 17 = .ok (.if_icmp .ne 15, 3) := dk_160 0 15 (dk_at dksX5_isNewOfAny_0 17 rfl rfl)
theorem dX5_isNewOfAny_20 : decode cX5_isNewOfAny 20 = .ok (.aload_n 0, 1) := dk_42 (dk_at dksX5_isNewOfAny_0 20 rfl rfl)
theorem dX5_isNewOfAny_21 : decode cX5_isNewOfAny 21 = .ok (.iload_n 3, 1) := dk_29 (dk_at dksX5_isNewOfAny_0 21 rfl rfl)
theorem dX5_isNewOfAny_22 : decode cX5_isNewOfAny 22 = .ok (.aload_n 1, 1) := dk_43 (dk_at dksX5_isNewOfAny_0 22 rfl rfl)
theorem dX5_isNewOfAny_23 : decode cX5_isNewOfAny 23 = .ok (.iload_n 2, 1) := dk_28 (dk_at dksX5_isNewOfAny_0 23 rfl rfl)
theorem dX5_isNewOfAny_24 : decode cX5_isNewOfAny 24 = .ok (.invokevirtual 328, 3) := dk_182 1 72 (dk_at dksX5_isNewOfAny_1 0 rfl rfl)
theorem dX5_isNewOfAny_27 : decode cX5_isNewOfAny 27 = .ok (.ifCond .eq 5, 3) := dk_153 0 5 (dk_at dksX5_isNewOfAny_1 3 rfl rfl)
theorem dX5_isNewOfAny_30 : decode cX5_isNewOfAny 30 = .ok (.iconst 1, 1) := dk_4 (dk_at dksX5_isNewOfAny_1 6 rfl rfl)
theorem dX5_isNewOfAny_31 : decode cX5_isNewOfAny 31 = .ok (.ireturn, 1) := dk_172 (dk_at dksX5_isNewOfAny_1 7 rfl rfl)
theorem dX5_isNewOfAny_32 : decode cX5_isNewOfAny 32 = .ok (.iinc 3 1, 3) := dk_132 3 1 (dk_at dksX5_isNewOfAny_1 8 rfl rfl)
theorem dX5_isNewOfAny_35 : decode cX5_isNewOfAny 35 = .ok (.goto (-33), 3) := dk_167 255 223 (dk_at dksX5_isNewOfAny_1 11 rfl rfl)
theorem dX5_isNewOfAny_38 : decode cX5_isNewOfAny 38 = .ok (.iconst 0, 1) := dk_3 (dk_at dksX5_isNewOfAny_1 14 rfl rfl)
theorem dX5_isNewOfAny_39 : decode cX5_isNewOfAny 39 = .ok (.ireturn, 1) := dk_172 (dk_at dksX5_isNewOfAny_1 15 rfl rfl)
abbrev cX5_step : ByteArray := prog_17_method_102_code
def yX5_step : MethodName := ⟨RX5, "step", "(II)I"⟩
def dkwX5_step_2 : List UInt8 := [42, 180, 0, 65, 27, 46, 167, 0, 9, 42, 180, 0, 68, 27, 46, 172]
abbrev dktX5_step_2 : List UInt8 := dkwX5_step_2 ++ []
def dkwX5_step_1 : List UInt8 := [4, 182, 0, 130, 172, 28, 3, 4, 184, 0, 105, 154, 0, 9, 42, 5, 182, 0, 130, 172, 28, 154, 0, 12]
abbrev dktX5_step_1 : List UInt8 := dkwX5_step_1 ++ dktX5_step_2
def dkwX5_step_0 : List UInt8 := [42, 3, 181, 0, 91, 42, 182, 1, 133, 27, 3, 42, 180, 1, 119, 4, 100, 184, 0, 105, 154, 0, 9, 42]
abbrev dktX5_step_0 : List UInt8 := dkwX5_step_0 ++ dktX5_step_1
theorem dksX5_step_0 : cX5_step.data.toList.drop 0 = dktX5_step_0 := by decide +kernel
theorem dksX5_step_1 : cX5_step.data.toList.drop 24 = dktX5_step_1 := dk_seg dksX5_step_0 24 rfl rfl
theorem dksX5_step_2 : cX5_step.data.toList.drop 48 = dktX5_step_2 := dk_seg dksX5_step_1 24 rfl rfl
theorem dX5_step_0 : decode cX5_step 0 = .ok (.aload_n 0, 1) := dk_42 (dk_at dksX5_step_0 0 rfl rfl)
theorem dX5_step_1 : decode cX5_step 1 = .ok (.iconst 0, 1) := dk_3 (dk_at dksX5_step_0 1 rfl rfl)
theorem dX5_step_2 : decode cX5_step 2 = .ok (.putfield 91, 3) := dk_181 0 91 (dk_at dksX5_step_0 2 rfl rfl)
theorem dX5_step_5 : decode cX5_step 5 = .ok (.aload_n 0, 1) := dk_42 (dk_at dksX5_step_0 5 rfl rfl)
theorem dX5_step_6 : decode cX5_step 6 = .ok (.invokevirtual 389, 3) := dk_182 1 133 (dk_at dksX5_step_0 6 rfl rfl)
theorem dX5_step_9 : decode cX5_step 9 = .ok (.iload_n 1, 1) := dk_27 (dk_at dksX5_step_0 9 rfl rfl)
theorem dX5_step_10 : decode cX5_step 10 = .ok (.iconst 0, 1) := dk_3 (dk_at dksX5_step_0 10 rfl rfl)
theorem dX5_step_11 : decode cX5_step 11 = .ok (.aload_n 0, 1) := dk_42 (dk_at dksX5_step_0 11 rfl rfl)
theorem dX5_step_12 : decode cX5_step 12 = .ok (.getfield 375, 3) := dk_180 1 119 (dk_at dksX5_step_0 12 rfl rfl)
theorem dX5_step_15 : decode cX5_step 15 = .ok (.iconst 1, 1) := dk_4 (dk_at dksX5_step_0 15 rfl rfl)
theorem dX5_step_16 : decode cX5_step 16 = .ok (.isub, 1) := dk_100 (dk_at dksX5_step_0 16 rfl rfl)
theorem dX5_step_17 : decode cX5_step 17 = .ok (.invokestatic 105, 3) := dk_184 0 105 (dk_at dksX5_step_0 17 rfl rfl)
theorem dX5_step_20 : decode cX5_step 20 = .ok (.ifCond .ne 9, 3) := dk_154 0 9 (dk_at dksX5_step_0 20 rfl rfl)
theorem dX5_step_23 : decode cX5_step 23 = .ok (.aload_n 0, 1) := dk_42 (dk_at dksX5_step_0 23 rfl rfl)
theorem dX5_step_24 : decode cX5_step 24 = .ok (.iconst 1, 1) := dk_4 (dk_at dksX5_step_1 0 rfl rfl)
theorem dX5_step_25 : decode cX5_step 25 = .ok (.invokevirtual 130, 3) := dk_182 0 130 (dk_at dksX5_step_1 1 rfl rfl)
theorem dX5_step_28 : decode cX5_step 28 = .ok (.ireturn, 1) := dk_172 (dk_at dksX5_step_1 4 rfl rfl)
theorem dX5_step_29 : decode cX5_step 29 = .ok (.iload_n 2, 1) := dk_28 (dk_at dksX5_step_1 5 rfl rfl)
theorem dX5_step_30 : decode cX5_step 30 = .ok (.iconst 0, 1) := dk_3 (dk_at dksX5_step_1 6 rfl rfl)
theorem dX5_step_31 : decode cX5_step 31 = .ok (.iconst 1, 1) := dk_4 (dk_at dksX5_step_1 7 rfl rfl)
theorem dX5_step_32 : decode cX5_step 32 = .ok (.invokestatic 105, 3) := dk_184 0 105 (dk_at dksX5_step_1 8 rfl rfl)
theorem dX5_step_35 : decode cX5_step 35 = .ok (.ifCond .ne 9, 3) := dk_154 0 9 (dk_at dksX5_step_1 11 rfl rfl)
theorem dX5_step_38 : decode cX5_step 38 = .ok (.aload_n 0, 1) := dk_42 (dk_at dksX5_step_1 14 rfl rfl)
theorem dX5_step_39 : decode cX5_step 39 = .ok (.iconst 2, 1) := dk_5 (dk_at dksX5_step_1 15 rfl rfl)
theorem dX5_step_40 : decode cX5_step 40 = .ok (.invokevirtual 130, 3) := dk_182 0 130 (dk_at dksX5_step_1 16 rfl rfl)
theorem dX5_step_43 : decode cX5_step 43 = .ok (.ireturn, 1) := dk_172 (dk_at dksX5_step_1 19 rfl rfl)
theorem dX5_step_44 : decode cX5_step 44 = .ok (.iload_n 2, 1) := dk_28 (dk_at dksX5_step_1 20 rfl rfl)
theorem dX5_step_45 : decode cX5_step 45 = .ok (.ifCond .ne 12, 3) := dk_154 0 12 (dk_at dksX5_step_1 21 rfl rfl)
theorem dX5_step_48 : decode cX5_step 48 = .ok (.aload_n 0, 1) := dk_42 (dk_at dksX5_step_2 0 rfl rfl)
theorem dX5_step_49 : decode cX5_step 49 = .ok (.getfield 65, 3) := dk_180 0 65 (dk_at dksX5_step_2 1 rfl rfl)
theorem dX5_step_52 : decode cX5_step 52 = .ok (.iload_n 1, 1) := dk_27 (dk_at dksX5_step_2 4 rfl rfl)
theorem dX5_step_53 : decode cX5_step 53 = .ok (.iaload, 1) := dk_46 (dk_at dksX5_step_2 5 rfl rfl)
theorem dX5_step_54 : decode cX5_step 54 = .ok (.goto 9, 3) := dk_167 0 9 (dk_at dksX5_step_2 6 rfl rfl)
theorem dX5_step_57 : decode cX5_step 57 = .ok (.aload_n 0, 1) := dk_42 (dk_at dksX5_step_2 9 rfl rfl)
theorem dX5_step_58 : decode cX5_step 58 = .ok (.getfield 68, 3) := dk_180 0 68 (dk_at dksX5_step_2 10 rfl rfl)
theorem dX5_step_61 : decode cX5_step 61 = .ok (.iload_n 1, 1) := dk_27 (dk_at dksX5_step_2 13 rfl rfl)
theorem dX5_step_62 : decode cX5_step 62 = .ok (.iaload, 1) := dk_46 (dk_at dksX5_step_2 14 rfl rfl)
theorem dX5_step_63 : decode cX5_step 63 = .ok (.ireturn, 1) := dk_172 (dk_at dksX5_step_2 15 rfl rfl)
abbrev cX5_spares : ByteArray := prog_17_method_103_code
def yX5_spares : MethodName := ⟨RX5, "spares", "()I"⟩
def dkwX5_spares_1 : List UInt8 := [180, 0, 68, 28, 46, 4, 160, 0, 6, 132, 1, 1, 132, 2, 1, 167, 255, 232, 27, 172]
abbrev dktX5_spares_1 : List UInt8 := dkwX5_spares_1 ++ []
def dkwX5_spares_0 : List UInt8 := [42, 3, 181, 0, 91, 42, 182, 1, 133, 3, 60, 3, 61, 28, 42, 180, 1, 119, 162, 0, 22, 42]
abbrev dktX5_spares_0 : List UInt8 := dkwX5_spares_0 ++ dktX5_spares_1
theorem dksX5_spares_0 : cX5_spares.data.toList.drop 0 = dktX5_spares_0 := by decide +kernel
theorem dksX5_spares_1 : cX5_spares.data.toList.drop 22 = dktX5_spares_1 := dk_seg dksX5_spares_0 22 rfl rfl
theorem dX5_spares_0 : decode cX5_spares 0 = .ok (.aload_n 0, 1) := dk_42 (dk_at dksX5_spares_0 0 rfl rfl)
theorem dX5_spares_1 : decode cX5_spares 1 = .ok (.iconst 0, 1) := dk_3 (dk_at dksX5_spares_0 1 rfl rfl)
theorem dX5_spares_2 : decode cX5_spares 2 = .ok (.putfield 91, 3) := dk_181 0 91 (dk_at dksX5_spares_0 2 rfl rfl)
theorem dX5_spares_5 : decode cX5_spares 5 = .ok (.aload_n 0, 1) := dk_42 (dk_at dksX5_spares_0 5 rfl rfl)
theorem dX5_spares_6 : decode cX5_spares 6 = .ok (.invokevirtual 389, 3) := dk_182 1 133 (dk_at dksX5_spares_0 6 rfl rfl)
theorem dX5_spares_9 : decode cX5_spares 9 = .ok (.iconst 0, 1) := dk_3 (dk_at dksX5_spares_0 9 rfl rfl)
theorem dX5_spares_10 : decode cX5_spares 10 = .ok (.istore_n 1, 1) := dk_60 (dk_at dksX5_spares_0 10 rfl rfl)
theorem dX5_spares_11 : decode cX5_spares 11 = .ok (.iconst 0, 1) := dk_3 (dk_at dksX5_spares_0 11 rfl rfl)
theorem dX5_spares_12 : decode cX5_spares 12 = .ok (.istore_n 2, 1) := dk_61 (dk_at dksX5_spares_0 12 rfl rfl)
theorem dX5_spares_13 : decode cX5_spares 13 = .ok (.iload_n 2, 1) := dk_28 (dk_at dksX5_spares_0 13 rfl rfl)
theorem dX5_spares_14 : decode cX5_spares 14 = .ok (.aload_n 0, 1) := dk_42 (dk_at dksX5_spares_0 14 rfl rfl)
theorem dX5_spares_15 : decode cX5_spares 15 = .ok (.getfield 375, 3) := dk_180 1 119 (dk_at dksX5_spares_0 15 rfl rfl)
theorem dX5_spares_18 : decode cX5_spares 18 = .ok (.if_icmp .ge 22, 3) := dk_162 0 22 (dk_at dksX5_spares_0 18 rfl rfl)
theorem dX5_spares_21 : decode cX5_spares 21 = .ok (.aload_n 0, 1) := dk_42 (dk_at dksX5_spares_0 21 rfl rfl)
theorem dX5_spares_22 : decode cX5_spares 22 = .ok (.getfield 68, 3) := dk_180 0 68 (dk_at dksX5_spares_1 0 rfl rfl)
theorem dX5_spares_25 : decode cX5_spares 25 = .ok (.iload_n 2, 1) := dk_28 (dk_at dksX5_spares_1 3 rfl rfl)
theorem dX5_spares_26 : decode cX5_spares 26 = .ok (.iaload, 1) := dk_46 (dk_at dksX5_spares_1 4 rfl rfl)
theorem dX5_spares_27 : decode cX5_spares 27 = .ok (.iconst 1, 1) := dk_4 (dk_at dksX5_spares_1 5 rfl rfl)
theorem dX5_spares_28 : decode cX5_spares 28 = .ok (.if_icmp .ne 6, 3) := dk_160 0 6 (dk_at dksX5_spares_1 6 rfl rfl)
theorem dX5_spares_31 : decode cX5_spares 31 = .ok (.iinc 1 1, 3) := dk_132 1 1 (dk_at dksX5_spares_1 9 rfl rfl)
theorem dX5_spares_34 : decode cX5_spares 34 = .ok (.iinc 2 1, 3) := dk_132 2 1 (dk_at dksX5_spares_1 12 rfl rfl)
theorem dX5_spares_37 : decode cX5_spares 37 = .ok (.goto (-24), 3) := dk_167 255 232 (dk_at dksX5_spares_1 15 rfl rfl)
theorem dX5_spares_40 : decode cX5_spares 40 = .ok (.iload_n 1, 1) := dk_27 (dk_at dksX5_spares_1 18 rfl rfl)
theorem dX5_spares_41 : decode cX5_spares 41 = .ok (.ireturn, 1) := dk_172 (dk_at dksX5_spares_1 19 rfl rfl)
abbrev cX5_longestCycle : ByteArray := prog_17_method_106_code
def yX5_longestCycle : MethodName := ⟨RX5, "longestCycle", "()I"⟩
def dkwX5_longestCycle_2 : List UInt8 := [29, 167, 0, 4, 27, 60, 132, 2, 1, 167, 255, 214, 27, 172]
abbrev dktX5_longestCycle_2 : List UInt8 := dkwX5_longestCycle_2 ++ []
def dkwX5_longestCycle_1 : List UInt8 := [180, 0, 49, 28, 46, 6, 160, 0, 11, 42, 28, 182, 1, 139, 167, 0, 4, 3, 62, 29, 27, 164, 0, 7]
abbrev dktX5_longestCycle_1 : List UInt8 := dkwX5_longestCycle_1 ++ dktX5_longestCycle_2
def dkwX5_longestCycle_0 : List UInt8 := [42, 3, 181, 0, 91, 42, 182, 1, 100, 3, 60, 3, 61, 28, 42, 182, 0, 101, 162, 0, 40, 42]
abbrev dktX5_longestCycle_0 : List UInt8 := dkwX5_longestCycle_0 ++ dktX5_longestCycle_1
theorem dksX5_longestCycle_0 : cX5_longestCycle.data.toList.drop 0 = dktX5_longestCycle_0 := by decide +kernel
theorem dksX5_longestCycle_1 : cX5_longestCycle.data.toList.drop 22 = dktX5_longestCycle_1 := dk_seg dksX5_longestCycle_0 22 rfl rfl
theorem dksX5_longestCycle_2 : cX5_longestCycle.data.toList.drop 46 = dktX5_longestCycle_2 := dk_seg dksX5_longestCycle_1 24 rfl rfl
theorem dX5_longestCycle_0 : decode cX5_longestCycle 0 = .ok (.aload_n 0, 1) := dk_42 (dk_at dksX5_longestCycle_0 0 rfl rfl)
theorem dX5_longestCycle_1 : decode cX5_longestCycle 1 = .ok (.iconst 0, 1) := dk_3 (dk_at dksX5_longestCycle_0 1 rfl rfl)
theorem dX5_longestCycle_2 : decode cX5_longestCycle 2 = .ok (.putfield 91, 3) := dk_181 0 91 (dk_at dksX5_longestCycle_0 2 rfl rfl)
theorem dX5_longestCycle_5 : decode cX5_longestCycle 5 = .ok (.aload_n 0, 1) := dk_42 (dk_at dksX5_longestCycle_0 5 rfl rfl)
theorem dX5_longestCycle_6 : decode cX5_longestCycle 6 = .ok (.invokevirtual 356, 3) := dk_182 1 100 (dk_at dksX5_longestCycle_0 6 rfl rfl)
theorem dX5_longestCycle_9 : decode cX5_longestCycle 9 = .ok (.iconst 0, 1) := dk_3 (dk_at dksX5_longestCycle_0 9 rfl rfl)
theorem dX5_longestCycle_10 : decode cX5_longestCycle 10 = .ok (.istore_n 1, 1) := dk_60 (dk_at dksX5_longestCycle_0 10 rfl rfl)
theorem dX5_longestCycle_11 : decode cX5_longestCycle 11 = .ok (.iconst 0, 1) := dk_3 (dk_at dksX5_longestCycle_0 11 rfl rfl)
theorem dX5_longestCycle_12 : decode cX5_longestCycle 12 = .ok (.istore_n 2, 1) := dk_61 (dk_at dksX5_longestCycle_0 12 rfl rfl)
theorem dX5_longestCycle_13 : decode cX5_longestCycle 13 = .ok (.iload_n 2, 1) := dk_28 (dk_at dksX5_longestCycle_0 13 rfl rfl)
theorem dX5_longestCycle_14 : decode cX5_longestCycle 14 = .ok (.aload_n 0, 1) := dk_42 (dk_at dksX5_longestCycle_0 14 rfl rfl)
theorem dX5_longestCycle_15 : decode cX5_longestCycle 15 = .ok (.invokevirtual 101, 3) := dk_182 0 101 (dk_at dksX5_longestCycle_0 15 rfl rfl)
theorem dX5_longestCycle_18 : decode cX5_longestCycle 18 = .ok (.if_icmp .ge 40, 3) := dk_162 0 40 (dk_at dksX5_longestCycle_0 18 rfl rfl)
theorem dX5_longestCycle_21 : decode cX5_longestCycle 21 = .ok (.aload_n 0, 1) := dk_42 (dk_at dksX5_longestCycle_0 21 rfl rfl)
theorem dX5_longestCycle_22 : decode cX5_longestCycle 22 = .ok (.getfield 49, 3) := dk_180 0 49 (dk_at dksX5_longestCycle_1 0 rfl rfl)
theorem dX5_longestCycle_25 : decode cX5_longestCycle 25 = .ok (.iload_n 2, 1) := dk_28 (dk_at dksX5_longestCycle_1 3 rfl rfl)
theorem dX5_longestCycle_26 : decode cX5_longestCycle 26 = .ok (.iaload, 1) := dk_46 (dk_at dksX5_longestCycle_1 4 rfl rfl)
theorem dX5_longestCycle_27 : decode cX5_longestCycle 27 = .ok (.iconst 3, 1) := dk_6 (dk_at dksX5_longestCycle_1 5 rfl rfl)
theorem dX5_longestCycle_28 : decode cX5_longestCycle 28 = .ok (.if_icmp .ne 11, 3) := dk_160 0 11 (dk_at dksX5_longestCycle_1 6 rfl rfl)
theorem dX5_longestCycle_31 : decode cX5_longestCycle 31 = .ok (.aload_n 0, 1) := dk_42 (dk_at dksX5_longestCycle_1 9 rfl rfl)
theorem dX5_longestCycle_32 : decode cX5_longestCycle 32 = .ok (.iload_n 2, 1) := dk_28 (dk_at dksX5_longestCycle_1 10 rfl rfl)
theorem dX5_longestCycle_33 : decode cX5_longestCycle 33 = .ok (.invokevirtual 395, 3) := dk_182 1 139 (dk_at dksX5_longestCycle_1 11 rfl rfl)
theorem dX5_longestCycle_36 : decode cX5_longestCycle 36 = .ok (.goto 4, 3) := dk_167 0 4 (dk_at dksX5_longestCycle_1 14 rfl rfl)
theorem dX5_longestCycle_39 : decode cX5_longestCycle 39 = .ok (.iconst 0, 1) := dk_3 (dk_at dksX5_longestCycle_1 17 rfl rfl)
theorem dX5_longestCycle_40 : decode cX5_longestCycle 40 = .ok (.istore_n 3, 1) := dk_62 (dk_at dksX5_longestCycle_1 18 rfl rfl)
theorem dX5_longestCycle_41 : decode cX5_longestCycle 41 = .ok (.iload_n 3, 1) := dk_29 (dk_at dksX5_longestCycle_1 19 rfl rfl)
theorem dX5_longestCycle_42 : decode cX5_longestCycle 42 = .ok (.iload_n 1, 1) := dk_27 (dk_at dksX5_longestCycle_1 20 rfl rfl)
theorem dX5_longestCycle_43 : decode cX5_longestCycle 43 = .ok (.if_icmp .le 7, 3) := dk_164 0 7 (dk_at dksX5_longestCycle_1 21 rfl rfl)
theorem dX5_longestCycle_46 : decode cX5_longestCycle 46 = .ok (.iload_n 3, 1) := dk_29 (dk_at dksX5_longestCycle_2 0 rfl rfl)
theorem dX5_longestCycle_47 : decode cX5_longestCycle 47 = .ok (.goto 4, 3) := dk_167 0 4 (dk_at dksX5_longestCycle_2 1 rfl rfl)
theorem dX5_longestCycle_50 : decode cX5_longestCycle 50 = .ok (.iload_n 1, 1) := dk_27 (dk_at dksX5_longestCycle_2 4 rfl rfl)
theorem dX5_longestCycle_51 : decode cX5_longestCycle 51 = .ok (.istore_n 1, 1) := dk_60 (dk_at dksX5_longestCycle_2 5 rfl rfl)
theorem dX5_longestCycle_52 : decode cX5_longestCycle 52 = .ok (.iinc 2 1, 3) := dk_132 2 1 (dk_at dksX5_longestCycle_2 6 rfl rfl)
theorem dX5_longestCycle_55 : decode cX5_longestCycle 55 = .ok (.goto (-42), 3) := dk_167 255 214 (dk_at dksX5_longestCycle_2 9 rfl rfl)
theorem dX5_longestCycle_58 : decode cX5_longestCycle 58 = .ok (.iload_n 1, 1) := dk_27 (dk_at dksX5_longestCycle_2 12 rfl rfl)
theorem dX5_longestCycle_59 : decode cX5_longestCycle 59 = .ok (.ireturn, 1) := dk_172 (dk_at dksX5_longestCycle_2 13 rfl rfl)
abbrev cX5_cycleOf : ByteArray := prog_17_method_105_code
def yX5_cycleOf : MethodName := ⟨RX5, "cycleOf", "(I)I"⟩
def dkwX5_cycleOf_1 : List UInt8 := [42, 182, 0, 101, 164, 255, 232, 29, 27, 160, 0, 7, 28, 167, 0, 4, 3, 172]
abbrev dktX5_cycleOf_1 : List UInt8 := dkwX5_cycleOf_1 ++ []
def dkwX5_cycleOf_0 : List UInt8 := [3, 61, 27, 62, 42, 29, 182, 1, 136, 62, 132, 2, 1, 29, 2, 159, 0, 16, 29, 27, 159, 0, 11, 28]
abbrev dktX5_cycleOf_0 : List UInt8 := dkwX5_cycleOf_0 ++ dktX5_cycleOf_1
theorem dksX5_cycleOf_0 : cX5_cycleOf.data.toList.drop 0 = dktX5_cycleOf_0 := by decide +kernel
theorem dksX5_cycleOf_1 : cX5_cycleOf.data.toList.drop 24 = dktX5_cycleOf_1 := dk_seg dksX5_cycleOf_0 24 rfl rfl
theorem dX5_cycleOf_0 : decode cX5_cycleOf 0 = .ok (.iconst 0, 1) := dk_3 (dk_at dksX5_cycleOf_0 0 rfl rfl)
theorem dX5_cycleOf_1 : decode cX5_cycleOf 1 = .ok (.istore_n 2, 1) := dk_61 (dk_at dksX5_cycleOf_0 1 rfl rfl)
theorem dX5_cycleOf_2 : decode cX5_cycleOf 2 = .ok (.iload_n 1, 1) := dk_27 (dk_at dksX5_cycleOf_0 2 rfl rfl)
theorem dX5_cycleOf_3 : decode cX5_cycleOf 3 = .ok (.istore_n 3, 1) := dk_62 (dk_at dksX5_cycleOf_0 3 rfl rfl)
theorem dX5_cycleOf_4 : decode cX5_cycleOf 4 = .ok (.aload_n 0, 1) := dk_42 (dk_at dksX5_cycleOf_0 4 rfl rfl)
theorem dX5_cycleOf_5 : decode cX5_cycleOf 5 = .ok (.iload_n 3, 1) := dk_29 (dk_at dksX5_cycleOf_0 5 rfl rfl)
theorem dX5_cycleOf_6 : decode cX5_cycleOf 6 = .ok (.invokevirtual 392, 3) := dk_182 1 136 (dk_at dksX5_cycleOf_0 6 rfl rfl)
theorem dX5_cycleOf_9 : decode cX5_cycleOf 9 = .ok (.istore_n 3, 1) := dk_62 (dk_at dksX5_cycleOf_0 9 rfl rfl)
theorem dX5_cycleOf_10 : decode cX5_cycleOf 10 = .ok (.iinc 2 1, 3) := dk_132 2 1 (dk_at dksX5_cycleOf_0 10 rfl rfl)
theorem dX5_cycleOf_13 : decode cX5_cycleOf 13 = .ok (.iload_n 3, 1) := dk_29 (dk_at dksX5_cycleOf_0 13 rfl rfl)
theorem dX5_cycleOf_14 : decode cX5_cycleOf 14 = .ok (.iconst (-1), 1) := dk_2 (dk_at dksX5_cycleOf_0 14 rfl rfl)
theorem dX5_cycleOf_15 : decode cX5_cycleOf 15 = .ok (.if_icmp .eq 16, 3) := dk_159 0 16 (dk_at dksX5_cycleOf_0 15 rfl rfl)
theorem dX5_cycleOf_18 : decode cX5_cycleOf 18 = .ok (.iload_n 3, 1) := dk_29 (dk_at dksX5_cycleOf_0 18 rfl rfl)
theorem dX5_cycleOf_19 : decode cX5_cycleOf 19 = .ok (.iload_n 1, 1) := dk_27 (dk_at dksX5_cycleOf_0 19 rfl rfl)
theorem dX5_cycleOf_20 : decode cX5_cycleOf 20 = .ok (.if_icmp .eq 11, 3) := dk_159 0 11 (dk_at dksX5_cycleOf_0 20 rfl rfl)
theorem dX5_cycleOf_23 : decode cX5_cycleOf 23 = .ok (.iload_n 2, 1) := dk_28 (dk_at dksX5_cycleOf_0 23 rfl rfl)
theorem dX5_cycleOf_24 : decode cX5_cycleOf 24 = .ok (.aload_n 0, 1) := dk_42 (dk_at dksX5_cycleOf_1 0 rfl rfl)
theorem dX5_cycleOf_25 : decode cX5_cycleOf 25 = .ok (.invokevirtual 101, 3) := dk_182 0 101 (dk_at dksX5_cycleOf_1 1 rfl rfl)
theorem dX5_cycleOf_28 : decode cX5_cycleOf 28 = .ok (.if_icmp .le (-24), 3) := dk_164 255 232 (dk_at dksX5_cycleOf_1 4 rfl rfl)
theorem dX5_cycleOf_31 : decode cX5_cycleOf 31 = .ok (.iload_n 3, 1) := dk_29 (dk_at dksX5_cycleOf_1 7 rfl rfl)
theorem dX5_cycleOf_32 : decode cX5_cycleOf 32 = .ok (.iload_n 1, 1) := dk_27 (dk_at dksX5_cycleOf_1 8 rfl rfl)
theorem dX5_cycleOf_33 : decode cX5_cycleOf 33 = .ok (.if_icmp .ne 7, 3) := dk_160 0 7 (dk_at dksX5_cycleOf_1 9 rfl rfl)
theorem dX5_cycleOf_36 : decode cX5_cycleOf 36 = .ok (.iload_n 2, 1) := dk_28 (dk_at dksX5_cycleOf_1 12 rfl rfl)
theorem dX5_cycleOf_37 : decode cX5_cycleOf 37 = .ok (.goto 4, 3) := dk_167 0 4 (dk_at dksX5_cycleOf_1 13 rfl rfl)
theorem dX5_cycleOf_40 : decode cX5_cycleOf 40 = .ok (.iconst 0, 1) := dk_3 (dk_at dksX5_cycleOf_1 16 rfl rfl)
theorem dX5_cycleOf_41 : decode cX5_cycleOf 41 = .ok (.ireturn, 1) := dk_172 (dk_at dksX5_cycleOf_1 17 rfl rfl)
abbrev cX5_nextOf : ByteArray := prog_17_method_104_code
def yX5_nextOf : MethodName := ⟨RX5, "nextOf", "(I)I"⟩
def dkwX5_nextOf_1 : List UInt8 := [180, 0, 7, 42, 28, 182, 0, 118, 182, 1, 72, 153, 0, 5, 28, 172, 132, 2, 1, 167, 255, 216, 2, 172]
abbrev dktX5_nextOf_1 : List UInt8 := dkwX5_nextOf_1 ++ []
def dkwX5_nextOf_0 : List UInt8 := [3, 61, 28, 42, 182, 0, 101, 162, 0, 38, 42, 180, 0, 49, 28, 46, 6, 160, 0, 22, 42, 27, 42]
abbrev dktX5_nextOf_0 : List UInt8 := dkwX5_nextOf_0 ++ dktX5_nextOf_1
theorem dksX5_nextOf_0 : cX5_nextOf.data.toList.drop 0 = dktX5_nextOf_0 := by decide +kernel
theorem dksX5_nextOf_1 : cX5_nextOf.data.toList.drop 23 = dktX5_nextOf_1 := dk_seg dksX5_nextOf_0 23 rfl rfl
theorem dX5_nextOf_0 : decode cX5_nextOf 0 = .ok (.iconst 0, 1) := dk_3 (dk_at dksX5_nextOf_0 0 rfl rfl)
theorem dX5_nextOf_1 : decode cX5_nextOf 1 = .ok (.istore_n 2, 1) := dk_61 (dk_at dksX5_nextOf_0 1 rfl rfl)
theorem dX5_nextOf_2 : decode cX5_nextOf 2 = .ok (.iload_n 2, 1) := dk_28 (dk_at dksX5_nextOf_0 2 rfl rfl)
theorem dX5_nextOf_3 : decode cX5_nextOf 3 = .ok (.aload_n 0, 1) := dk_42 (dk_at dksX5_nextOf_0 3 rfl rfl)
theorem dX5_nextOf_4 : decode cX5_nextOf 4 = .ok (.invokevirtual 101, 3) := dk_182 0 101 (dk_at dksX5_nextOf_0 4 rfl rfl)
theorem dX5_nextOf_7 : decode cX5_nextOf 7 = .ok (.if_icmp .ge 38, 3) := dk_162 0 38 (dk_at dksX5_nextOf_0 7 rfl rfl)
theorem dX5_nextOf_10 : decode cX5_nextOf 10 = .ok (.aload_n 0, 1) := dk_42 (dk_at dksX5_nextOf_0 10 rfl rfl)
theorem dX5_nextOf_11 : decode cX5_nextOf 11 = .ok (.getfield 49, 3) := dk_180 0 49 (dk_at dksX5_nextOf_0 11 rfl rfl)
theorem dX5_nextOf_14 : decode cX5_nextOf 14 = .ok (.iload_n 2, 1) := dk_28 (dk_at dksX5_nextOf_0 14 rfl rfl)
theorem dX5_nextOf_15 : decode cX5_nextOf 15 = .ok (.iaload, 1) := dk_46 (dk_at dksX5_nextOf_0 15 rfl rfl)
theorem dX5_nextOf_16 : decode cX5_nextOf 16 = .ok (.iconst 3, 1) := dk_6 (dk_at dksX5_nextOf_0 16 rfl rfl)
theorem dX5_nextOf_17 : decode cX5_nextOf 17 = .ok (.if_icmp .ne 22, 3) := dk_160 0 22 (dk_at dksX5_nextOf_0 17 rfl rfl)
theorem dX5_nextOf_20 : decode cX5_nextOf 20 = .ok (.aload_n 0, 1) := dk_42 (dk_at dksX5_nextOf_0 20 rfl rfl)
theorem dX5_nextOf_21 : decode cX5_nextOf 21 = .ok (.iload_n 1, 1) := dk_27 (dk_at dksX5_nextOf_0 21 rfl rfl)
theorem dX5_nextOf_22 : decode cX5_nextOf 22 = .ok (.aload_n 0, 1) := dk_42 (dk_at dksX5_nextOf_0 22 rfl rfl)
theorem dX5_nextOf_23 : decode cX5_nextOf 23 = .ok (.getfield 7, 3) := dk_180 0 7 (dk_at dksX5_nextOf_1 0 rfl rfl)
theorem dX5_nextOf_26 : decode cX5_nextOf 26 = .ok (.aload_n 0, 1) := dk_42 (dk_at dksX5_nextOf_1 3 rfl rfl)
theorem dX5_nextOf_27 : decode cX5_nextOf 27 = .ok (.iload_n 2, 1) := dk_28 (dk_at dksX5_nextOf_1 4 rfl rfl)
theorem dX5_nextOf_28 : decode cX5_nextOf 28 = .ok (.invokevirtual 118, 3) := dk_182 0 118 (dk_at dksX5_nextOf_1 5 rfl rfl)
theorem dX5_nextOf_31 : decode cX5_nextOf 31 = .ok (.invokevirtual 328, 3) := dk_182 1 72 (dk_at dksX5_nextOf_1 8 rfl rfl)
theorem dX5_nextOf_34 : decode cX5_nextOf 34 = .ok (.ifCond .eq 5, 3) := dk_153 0 5 (dk_at dksX5_nextOf_1 11 rfl rfl)
theorem dX5_nextOf_37 : decode cX5_nextOf 37 = .ok (.iload_n 2, 1) := dk_28 (dk_at dksX5_nextOf_1 14 rfl rfl)
theorem dX5_nextOf_38 : decode cX5_nextOf 38 = .ok (.ireturn, 1) := dk_172 (dk_at dksX5_nextOf_1 15 rfl rfl)
theorem dX5_nextOf_39 : decode cX5_nextOf 39 = .ok (.iinc 2 1, 3) := dk_132 2 1 (dk_at dksX5_nextOf_1 16 rfl rfl)
theorem dX5_nextOf_42 : decode cX5_nextOf 42 = .ok (.goto (-40), 3) := dk_167 255 216 (dk_at dksX5_nextOf_1 19 rfl rfl)
theorem dX5_nextOf_45 : decode cX5_nextOf 45 = .ok (.iconst (-1), 1) := dk_2 (dk_at dksX5_nextOf_1 22 rfl rfl)
theorem dX5_nextOf_46 : decode cX5_nextOf 46 = .ok (.ireturn, 1) := dk_172 (dk_at dksX5_nextOf_1 23 rfl rfl)
abbrev cX5_performed : ByteArray := prog_17_method_107_code
def yX5_performed : MethodName := ⟨RX5, "performed", "()I"⟩
def dkwX5_performed_0 : List UInt8 := [42, 3, 181, 0, 91, 42, 8, 182, 0, 97, 172]
abbrev dktX5_performed_0 : List UInt8 := dkwX5_performed_0 ++ []
theorem dksX5_performed_0 : cX5_performed.data.toList.drop 0 = dktX5_performed_0 := by decide +kernel
theorem dX5_performed_0 : decode cX5_performed 0 = .ok (.aload_n 0, 1) := dk_42 (dk_at dksX5_performed_0 0 rfl rfl)
theorem dX5_performed_1 : decode cX5_performed 1 = .ok (.iconst 0, 1) := dk_3 (dk_at dksX5_performed_0 1 rfl rfl)
theorem dX5_performed_2 : decode cX5_performed 2 = .ok (.putfield 91, 3) := dk_181 0 91 (dk_at dksX5_performed_0 2 rfl rfl)
theorem dX5_performed_5 : decode cX5_performed 5 = .ok (.aload_n 0, 1) := dk_42 (dk_at dksX5_performed_0 5 rfl rfl)
theorem dX5_performed_6 : decode cX5_performed 6 = .ok (.iconst 5, 1) := dk_8 (dk_at dksX5_performed_0 6 rfl rfl)
theorem dX5_performed_7 : decode cX5_performed 7 = .ok (.invokevirtual 97, 3) := dk_182 0 97 (dk_at dksX5_performed_0 7 rfl rfl)
theorem dX5_performed_10 : decode cX5_performed 10 = .ok (.ireturn, 1) := dk_172 (dk_at dksX5_performed_0 10 rfl rfl)
abbrev cX5_renamedWithout : ByteArray := prog_17_method_114_code
def yX5_renamedWithout : MethodName := ⟨RX5, "renamedWithout", "(I)I"⟩
def dkwX5_renamedWithout_1 : List UInt8 := [27, 182, 1, 152, 42, 182, 1, 155, 172]
abbrev dktX5_renamedWithout_1 : List UInt8 := dkwX5_renamedWithout_1 ++ []
def dkwX5_renamedWithout_0 : List UInt8 := [42, 3, 181, 0, 91, 42, 27, 182, 1, 41, 154, 0, 9, 42, 4, 182, 0, 130, 172, 42, 182, 1, 149, 42]
abbrev dktX5_renamedWithout_0 : List UInt8 := dkwX5_renamedWithout_0 ++ dktX5_renamedWithout_1
theorem dksX5_renamedWithout_0 : cX5_renamedWithout.data.toList.drop 0 = dktX5_renamedWithout_0 := by decide +kernel
theorem dksX5_renamedWithout_1 : cX5_renamedWithout.data.toList.drop 24 = dktX5_renamedWithout_1 := dk_seg dksX5_renamedWithout_0 24 rfl rfl
theorem dX5_renamedWithout_0 : decode cX5_renamedWithout 0 = .ok (.aload_n 0, 1) := dk_42 (dk_at dksX5_renamedWithout_0 0 rfl rfl)
theorem dX5_renamedWithout_1 : decode cX5_renamedWithout 1 = .ok (.iconst 0, 1) := dk_3 (dk_at dksX5_renamedWithout_0 1 rfl rfl)
theorem dX5_renamedWithout_2 : decode cX5_renamedWithout 2 = .ok (.putfield 91, 3) := dk_181 0 91 (dk_at dksX5_renamedWithout_0 2 rfl rfl)
theorem dX5_renamedWithout_5 : decode cX5_renamedWithout 5 = .ok (.aload_n 0, 1) := dk_42 (dk_at dksX5_renamedWithout_0 5 rfl rfl)
theorem dX5_renamedWithout_6 : decode cX5_renamedWithout 6 = .ok (.iload_n 1, 1) := dk_27 (dk_at dksX5_renamedWithout_0 6 rfl rfl)
theorem dX5_renamedWithout_7 : decode cX5_renamedWithout 7 = .ok (.invokevirtual 297, 3) := dk_182 1 41 (dk_at dksX5_renamedWithout_0 7 rfl rfl)
theorem dX5_renamedWithout_10 : decode cX5_renamedWithout 10 = .ok (.ifCond .ne 9, 3) := dk_154 0 9 (dk_at dksX5_renamedWithout_0 10 rfl rfl)
theorem dX5_renamedWithout_13 : decode cX5_renamedWithout 13 = .ok (.aload_n 0, 1) := dk_42 (dk_at dksX5_renamedWithout_0 13 rfl rfl)
theorem dX5_renamedWithout_14 : decode cX5_renamedWithout 14 = .ok (.iconst 1, 1) := dk_4 (dk_at dksX5_renamedWithout_0 14 rfl rfl)
theorem dX5_renamedWithout_15 : decode cX5_renamedWithout 15 = .ok (.invokevirtual 130, 3) := dk_182 0 130 (dk_at dksX5_renamedWithout_0 15 rfl rfl)
theorem dX5_renamedWithout_18 : decode cX5_renamedWithout 18 = .ok (.ireturn, 1) := dk_172 (dk_at dksX5_renamedWithout_0 18 rfl rfl)
theorem dX5_renamedWithout_19 : decode cX5_renamedWithout 19 = .ok (.aload_n 0, 1) := dk_42 (dk_at dksX5_renamedWithout_0 19 rfl rfl)
theorem dX5_renamedWithout_20 : decode cX5_renamedWithout 20 = .ok (.invokevirtual 405, 3) := dk_182 1 149 (dk_at dksX5_renamedWithout_0 20 rfl rfl)
theorem dX5_renamedWithout_23 : decode cX5_renamedWithout 23 = .ok (.aload_n 0, 1) := dk_42 (dk_at dksX5_renamedWithout_0 23 rfl rfl)
theorem dX5_renamedWithout_24 : decode cX5_renamedWithout 24 = .ok (.iload_n 1, 1) := dk_27 (dk_at dksX5_renamedWithout_1 0 rfl rfl)
theorem dX5_renamedWithout_25 : decode cX5_renamedWithout 25 = .ok (.invokevirtual 408, 3) := dk_182 1 152 (dk_at dksX5_renamedWithout_1 1 rfl rfl)
theorem dX5_renamedWithout_28 : decode cX5_renamedWithout 28 = .ok (.aload_n 0, 1) := dk_42 (dk_at dksX5_renamedWithout_1 4 rfl rfl)
theorem dX5_renamedWithout_29 : decode cX5_renamedWithout 29 = .ok (.invokevirtual 411, 3) := dk_182 1 155 (dk_at dksX5_renamedWithout_1 5 rfl rfl)
theorem dX5_renamedWithout_32 : decode cX5_renamedWithout 32 = .ok (.ireturn, 1) := dk_172 (dk_at dksX5_renamedWithout_1 8 rfl rfl)
abbrev cX5_beginTrial : ByteArray := prog_17_method_109_code
def yX5_beginTrial : MethodName := ⟨RX5, "beginTrial", "()V"⟩
def dkwX5_beginTrial_0 : List UInt8 := [42, 3, 4, 182, 0, 87, 42, 17, 4, 157, 181, 0, 94, 177]
abbrev dktX5_beginTrial_0 : List UInt8 := dkwX5_beginTrial_0 ++ []
theorem dksX5_beginTrial_0 : cX5_beginTrial.data.toList.drop 0 = dktX5_beginTrial_0 := by decide +kernel
theorem dX5_beginTrial_0 : decode cX5_beginTrial 0 = .ok (.aload_n 0, 1) := dk_42 (dk_at dksX5_beginTrial_0 0 rfl rfl)
theorem dX5_beginTrial_1 : decode cX5_beginTrial 1 = .ok (.iconst 0, 1) := dk_3 (dk_at dksX5_beginTrial_0 1 rfl rfl)
theorem dX5_beginTrial_2 : decode cX5_beginTrial 2 = .ok (.iconst 1, 1) := dk_4 (dk_at dksX5_beginTrial_0 2 rfl rfl)
theorem dX5_beginTrial_3 : decode cX5_beginTrial 3 = .ok (.invokevirtual 87, 3) := dk_182 0 87 (dk_at dksX5_beginTrial_0 3 rfl rfl)
theorem dX5_beginTrial_6 : decode cX5_beginTrial 6 = .ok (.aload_n 0, 1) := dk_42 (dk_at dksX5_beginTrial_0 6 rfl rfl)
theorem dX5_beginTrial_7 : decode cX5_beginTrial 7 = .ok (.sipush 1181, 3) := dk_17 4 157 (dk_at dksX5_beginTrial_0 7 rfl rfl)
theorem dX5_beginTrial_10 : decode cX5_beginTrial 10 = .ok (.putfield 94, 3) := dk_181 0 94 (dk_at dksX5_beginTrial_0 10 rfl rfl)
theorem dX5_beginTrial_13 : decode cX5_beginTrial 13 = .ok (.return_, 1) := dk_177 (dk_at dksX5_beginTrial_0 13 rfl rfl)
abbrev cX5_removesRule : ByteArray := prog_17_method_113_code
def yX5_removesRule : MethodName := ⟨RX5, "removesRule", "(I)V"⟩
def dkwX5_removesRule_1 : List UInt8 := [182, 0, 228, 177]
abbrev dktX5_removesRule_1 : List UInt8 := dkwX5_removesRule_1 ++ []
def dkwX5_removesRule_0 : List UInt8 := [42, 16, 86, 8, 27, 42, 182, 0, 109, 4, 100, 182, 1, 145, 42, 4, 42, 182, 0, 109, 4, 100, 133]
abbrev dktX5_removesRule_0 : List UInt8 := dkwX5_removesRule_0 ++ dktX5_removesRule_1
theorem dksX5_removesRule_0 : cX5_removesRule.data.toList.drop 0 = dktX5_removesRule_0 := by decide +kernel
theorem dksX5_removesRule_1 : cX5_removesRule.data.toList.drop 23 = dktX5_removesRule_1 := dk_seg dksX5_removesRule_0 23 rfl rfl
theorem dX5_removesRule_0 : decode cX5_removesRule 0 = .ok (.aload_n 0, 1) := dk_42 (dk_at dksX5_removesRule_0 0 rfl rfl)
theorem dX5_removesRule_1 : decode cX5_removesRule 1 = .ok (.bipush 86, 2) := dk_16 86 (dk_at dksX5_removesRule_0 1 rfl rfl)
theorem dX5_removesRule_3 : decode cX5_removesRule 3 = .ok (.iconst 5, 1) := dk_8 (dk_at dksX5_removesRule_0 3 rfl rfl)
theorem dX5_removesRule_4 : decode cX5_removesRule 4 = .ok (.iload_n 1, 1) := dk_27 (dk_at dksX5_removesRule_0 4 rfl rfl)
theorem dX5_removesRule_5 : decode cX5_removesRule 5 = .ok (.aload_n 0, 1) := dk_42 (dk_at dksX5_removesRule_0 5 rfl rfl)
theorem dX5_removesRule_6 : decode cX5_removesRule 6 = .ok (.invokevirtual 109, 3) := dk_182 0 109 (dk_at dksX5_removesRule_0 6 rfl rfl)
theorem dX5_removesRule_9 : decode cX5_removesRule 9 = .ok (.iconst 1, 1) := dk_4 (dk_at dksX5_removesRule_0 9 rfl rfl)
theorem dX5_removesRule_10 : decode cX5_removesRule 10 = .ok (.isub, 1) := dk_100 (dk_at dksX5_removesRule_0 10 rfl rfl)
theorem dX5_removesRule_11 : decode cX5_removesRule 11 = .ok (.invokevirtual 401, 3) := dk_182 1 145 (dk_at dksX5_removesRule_0 11 rfl rfl)
theorem dX5_removesRule_14 : decode cX5_removesRule 14 = .ok (.aload_n 0, 1) := dk_42 (dk_at dksX5_removesRule_0 14 rfl rfl)
theorem dX5_removesRule_15 : decode cX5_removesRule 15 = .ok (.iconst 1, 1) := dk_4 (dk_at dksX5_removesRule_0 15 rfl rfl)
theorem dX5_removesRule_16 : decode cX5_removesRule 16 = .ok (.aload_n 0, 1) := dk_42 (dk_at dksX5_removesRule_0 16 rfl rfl)
theorem dX5_removesRule_17 : decode cX5_removesRule 17 = .ok (.invokevirtual 109, 3) := dk_182 0 109 (dk_at dksX5_removesRule_0 17 rfl rfl)
theorem dX5_removesRule_20 : decode cX5_removesRule 20 = .ok (.iconst 1, 1) := dk_4 (dk_at dksX5_removesRule_0 20 rfl rfl)
theorem dX5_removesRule_21 : decode cX5_removesRule 21 = .ok (.isub, 1) := dk_100 (dk_at dksX5_removesRule_0 21 rfl rfl)
theorem dX5_removesRule_22 : decode cX5_removesRule 22 = .ok (.i2l, 1) := dk_133 (dk_at dksX5_removesRule_0 22 rfl rfl)
theorem dX5_removesRule_23 : decode cX5_removesRule 23 = .ok (.invokevirtual 228, 3) := dk_182 0 228 (dk_at dksX5_removesRule_1 0 rfl rfl)
theorem dX5_removesRule_26 : decode cX5_removesRule 26 = .ok (.return_, 1) := dk_177 (dk_at dksX5_removesRule_1 3 rfl rfl)
abbrev cX5_moves : ByteArray := prog_17_method_112_code
def yX5_moves : MethodName := ⟨RX5, "moves", "(IIII)V"⟩
def dkwX5_moves_5 : List UInt8 := [132, 7, 1, 167, 255, 161, 21, 6, 21, 5, 96, 54, 6, 167, 255, 141, 177]
abbrev dktX5_moves_5 : List UInt8 := dkwX5_moves_5 ++ []
def dkwX5_moves_4 : List UInt8 := [180, 0, 7, 42, 180, 0, 94, 27, 96, 28, 21, 6, 21, 5, 96, 104, 96, 21, 7, 96, 22, 8, 80]
abbrev dktX5_moves_4 : List UInt8 := dkwX5_moves_4 ++ dktX5_moves_5
def dkwX5_moves_3 : List UInt8 := [42, 180, 0, 7, 42, 180, 0, 94, 27, 96, 28, 21, 6, 21, 5, 96, 104, 96, 21, 7, 96, 47, 80, 42]
abbrev dktX5_moves_3 : List UInt8 := dkwX5_moves_3 ++ dktX5_moves_4
def dkwX5_moves_2 : List UInt8 := [21, 7, 96, 47, 55, 8, 42, 180, 0, 7, 42, 180, 0, 94, 27, 96, 28, 21, 6, 104, 96, 21, 7, 96]
abbrev dktX5_moves_2 : List UInt8 := dkwX5_moves_2 ++ dktX5_moves_3
def dkwX5_moves_1 : List UInt8 := [54, 7, 21, 7, 28, 162, 0, 95, 42, 180, 0, 7, 42, 180, 0, 94, 27, 96, 28, 21, 6, 104, 96]
abbrev dktX5_moves_1 : List UInt8 := dkwX5_moves_1 ++ dktX5_moves_2
def dkwX5_moves_0 : List UInt8 := [29, 21, 4, 162, 0, 7, 4, 167, 0, 4, 2, 54, 5, 29, 54, 6, 21, 6, 21, 4, 159, 0, 114, 3]
abbrev dktX5_moves_0 : List UInt8 := dkwX5_moves_0 ++ dktX5_moves_1
theorem dksX5_moves_0 : cX5_moves.data.toList.drop 0 = dktX5_moves_0 := by decide +kernel
theorem dksX5_moves_1 : cX5_moves.data.toList.drop 24 = dktX5_moves_1 := dk_seg dksX5_moves_0 24 rfl rfl
theorem dksX5_moves_2 : cX5_moves.data.toList.drop 47 = dktX5_moves_2 := dk_seg dksX5_moves_1 23 rfl rfl
theorem dksX5_moves_3 : cX5_moves.data.toList.drop 71 = dktX5_moves_3 := dk_seg dksX5_moves_2 24 rfl rfl
theorem dksX5_moves_4 : cX5_moves.data.toList.drop 95 = dktX5_moves_4 := dk_seg dksX5_moves_3 24 rfl rfl
theorem dksX5_moves_5 : cX5_moves.data.toList.drop 118 = dktX5_moves_5 := dk_seg dksX5_moves_4 23 rfl rfl
theorem dX5_moves_0 : decode cX5_moves 0 = .ok (.iload_n 3, 1) := dk_29 (dk_at dksX5_moves_0 0 rfl rfl)
theorem dX5_moves_1 : decode cX5_moves 1 = .ok (.iload 4, 2) := dk_21 4 (dk_at dksX5_moves_0 1 rfl rfl)
theorem dX5_moves_3 : decode cX5_moves 3 = .ok (.if_icmp .ge 7, 3) := dk_162 0 7 (dk_at dksX5_moves_0 3 rfl rfl)
theorem dX5_moves_6 : decode cX5_moves 6 = .ok (.iconst 1, 1) := dk_4 (dk_at dksX5_moves_0 6 rfl rfl)
theorem dX5_moves_7 : decode cX5_moves 7 = .ok (.goto 4, 3) := dk_167 0 4 (dk_at dksX5_moves_0 7 rfl rfl)
theorem dX5_moves_10 : decode cX5_moves 10 = .ok (.iconst (-1), 1) := dk_2 (dk_at dksX5_moves_0 10 rfl rfl)
theorem dX5_moves_11 : decode cX5_moves 11 = .ok (.istore 5, 2) := dk_54 5 (dk_at dksX5_moves_0 11 rfl rfl)
theorem dX5_moves_13 : decode cX5_moves 13 = .ok (.iload_n 3, 1) := dk_29 (dk_at dksX5_moves_0 13 rfl rfl)
theorem dX5_moves_14 : decode cX5_moves 14 = .ok (.istore 6, 2) := dk_54 6 (dk_at dksX5_moves_0 14 rfl rfl)
theorem dX5_moves_16 : decode cX5_moves 16 = .ok (.iload 6, 2) := dk_21 6 (dk_at dksX5_moves_0 16 rfl rfl)
theorem dX5_moves_18 : decode cX5_moves 18 = .ok (.iload 4, 2) := dk_21 4 (dk_at dksX5_moves_0 18 rfl rfl)
theorem dX5_moves_20 : decode cX5_moves 20 = .ok (.if_icmp .eq 114, 3) := dk_159 0 114 (dk_at dksX5_moves_0 20 rfl rfl)
theorem dX5_moves_23 : decode cX5_moves 23 = .ok (.iconst 0, 1) := dk_3 (dk_at dksX5_moves_0 23 rfl rfl)
theorem dX5_moves_24 : decode cX5_moves 24 = .ok (.istore 7, 2) := dk_54 7 (dk_at dksX5_moves_1 0 rfl rfl)
theorem dX5_moves_26 : decode cX5_moves 26 = .ok (.iload 7, 2) := dk_21 7 (dk_at dksX5_moves_1 2 rfl rfl)
theorem dX5_moves_28 : decode cX5_moves 28 = .ok (.iload_n 2, 1) := dk_28 (dk_at dksX5_moves_1 4 rfl rfl)
theorem dX5_moves_29 : decode cX5_moves 29 = .ok (.if_icmp .ge 95, 3) := dk_162 0 95 (dk_at dksX5_moves_1 5 rfl rfl)
theorem dX5_moves_32 : decode cX5_moves 32 = .ok (.aload_n 0, 1) := dk_42 (dk_at dksX5_moves_1 8 rfl rfl)
theorem dX5_moves_33 : decode cX5_moves 33 = .ok (.getfield 7, 3) := dk_180 0 7 (dk_at dksX5_moves_1 9 rfl rfl)
theorem dX5_moves_36 : decode cX5_moves 36 = .ok (.aload_n 0, 1) := dk_42 (dk_at dksX5_moves_1 12 rfl rfl)
theorem dX5_moves_37 : decode cX5_moves 37 = .ok (.getfield 94, 3) := dk_180 0 94 (dk_at dksX5_moves_1 13 rfl rfl)
theorem dX5_moves_40 : decode cX5_moves 40 = .ok (.iload_n 1, 1) := dk_27 (dk_at dksX5_moves_1 16 rfl rfl)
theorem dX5_moves_41 : decode cX5_moves 41 = .ok (.iadd, 1) := dk_96 (dk_at dksX5_moves_1 17 rfl rfl)
theorem dX5_moves_42 : decode cX5_moves 42 = .ok (.iload_n 2, 1) := dk_28 (dk_at dksX5_moves_1 18 rfl rfl)
theorem dX5_moves_43 : decode cX5_moves 43 = .ok (.iload 6, 2) := dk_21 6 (dk_at dksX5_moves_1 19 rfl rfl)
theorem dX5_moves_45 : decode cX5_moves 45 = .ok (.imul, 1) := dk_104 (dk_at dksX5_moves_1 21 rfl rfl)
theorem dX5_moves_46 : decode cX5_moves 46 = .ok (.iadd, 1) := dk_96 (dk_at dksX5_moves_1 22 rfl rfl)
theorem dX5_moves_47 : decode cX5_moves 47 = .ok (.iload 7, 2) := dk_21 7 (dk_at dksX5_moves_2 0 rfl rfl)
theorem dX5_moves_49 : decode cX5_moves 49 = .ok (.iadd, 1) := dk_96 (dk_at dksX5_moves_2 2 rfl rfl)
theorem dX5_moves_50 : decode cX5_moves 50 = .ok (.laload, 1) := dk_47 (dk_at dksX5_moves_2 3 rfl rfl)
theorem dX5_moves_51 : decode cX5_moves 51 = .ok (.lstore 8, 2) := dk_55 8 (dk_at dksX5_moves_2 4 rfl rfl)
theorem dX5_moves_53 : decode cX5_moves 53 = .ok (.aload_n 0, 1) := dk_42 (dk_at dksX5_moves_2 6 rfl rfl)
theorem dX5_moves_54 : decode cX5_moves 54 = .ok (.getfield 7, 3) := dk_180 0 7 (dk_at dksX5_moves_2 7 rfl rfl)
theorem dX5_moves_57 : decode cX5_moves 57 = .ok (.aload_n 0, 1) := dk_42 (dk_at dksX5_moves_2 10 rfl rfl)
theorem dX5_moves_58 : decode cX5_moves 58 = .ok (.getfield 94, 3) := dk_180 0 94 (dk_at dksX5_moves_2 11 rfl rfl)
theorem dX5_moves_61 : decode cX5_moves 61 = .ok (.iload_n 1, 1) := dk_27 (dk_at dksX5_moves_2 14 rfl rfl)
theorem dX5_moves_62 : decode cX5_moves 62 = .ok (.iadd, 1) := dk_96 (dk_at dksX5_moves_2 15 rfl rfl)
theorem dX5_moves_63 : decode cX5_moves 63 = .ok (.iload_n 2, 1) := dk_28 (dk_at dksX5_moves_2 16 rfl rfl)
theorem dX5_moves_64 : decode cX5_moves 64 = .ok (.iload 6, 2) := dk_21 6 (dk_at dksX5_moves_2 17 rfl rfl)
theorem dX5_moves_66 : decode cX5_moves 66 = .ok (.imul, 1) := dk_104 (dk_at dksX5_moves_2 19 rfl rfl)
theorem dX5_moves_67 : decode cX5_moves 67 = .ok (.iadd, 1) := dk_96 (dk_at dksX5_moves_2 20 rfl rfl)
theorem dX5_moves_68 : decode cX5_moves 68 = .ok (.iload 7, 2) := dk_21 7 (dk_at dksX5_moves_2 21 rfl rfl)
theorem dX5_moves_70 : decode cX5_moves 70 = .ok (.iadd, 1) := dk_96 (dk_at dksX5_moves_2 23 rfl rfl)
theorem dX5_moves_71 : decode cX5_moves 71 = .ok (.aload_n 0, 1) := dk_42 (dk_at dksX5_moves_3 0 rfl rfl)
theorem dX5_moves_72 : decode cX5_moves 72 = .ok (.getfield 7, 3) := dk_180 0 7 (dk_at dksX5_moves_3 1 rfl rfl)
theorem dX5_moves_75 : decode cX5_moves 75 = .ok (.aload_n 0, 1) := dk_42 (dk_at dksX5_moves_3 4 rfl rfl)
theorem dX5_moves_76 : decode cX5_moves 76 = .ok (.getfield 94, 3) := dk_180 0 94 (dk_at dksX5_moves_3 5 rfl rfl)
theorem dX5_moves_79 : decode cX5_moves 79 = .ok (.iload_n 1, 1) := dk_27 (dk_at dksX5_moves_3 8 rfl rfl)
theorem dX5_moves_80 : decode cX5_moves 80 = .ok (.iadd, 1) := dk_96 (dk_at dksX5_moves_3 9 rfl rfl)
theorem dX5_moves_81 : decode cX5_moves 81 = .ok (.iload_n 2, 1) := dk_28 (dk_at dksX5_moves_3 10 rfl rfl)
theorem dX5_moves_82 : decode cX5_moves 82 = .ok (.iload 6, 2) := dk_21 6 (dk_at dksX5_moves_3 11 rfl rfl)
theorem dX5_moves_84 : decode cX5_moves 84 = .ok (.iload 5, 2) := dk_21 5 (dk_at dksX5_moves_3 13 rfl rfl)
theorem dX5_moves_86 : decode cX5_moves 86 = .ok (.iadd, 1) := dk_96 (dk_at dksX5_moves_3 15 rfl rfl)
theorem dX5_moves_87 : decode cX5_moves 87 = .ok (.imul, 1) := dk_104 (dk_at dksX5_moves_3 16 rfl rfl)
theorem dX5_moves_88 : decode cX5_moves 88 = .ok (.iadd, 1) := dk_96 (dk_at dksX5_moves_3 17 rfl rfl)
theorem dX5_moves_89 : decode cX5_moves 89 = .ok (.iload 7, 2) := dk_21 7 (dk_at dksX5_moves_3 18 rfl rfl)
theorem dX5_moves_91 : decode cX5_moves 91 = .ok (.iadd, 1) := dk_96 (dk_at dksX5_moves_3 20 rfl rfl)
theorem dX5_moves_92 : decode cX5_moves 92 = .ok (.laload, 1) := dk_47 (dk_at dksX5_moves_3 21 rfl rfl)
theorem dX5_moves_93 : decode cX5_moves 93 = .ok (.lastore, 1) := dk_80 (dk_at dksX5_moves_3 22 rfl rfl)
theorem dX5_moves_94 : decode cX5_moves 94 = .ok (.aload_n 0, 1) := dk_42 (dk_at dksX5_moves_3 23 rfl rfl)
theorem dX5_moves_95 : decode cX5_moves 95 = .ok (.getfield 7, 3) := dk_180 0 7 (dk_at dksX5_moves_4 0 rfl rfl)
theorem dX5_moves_98 : decode cX5_moves 98 = .ok (.aload_n 0, 1) := dk_42 (dk_at dksX5_moves_4 3 rfl rfl)
theorem dX5_moves_99 : decode cX5_moves 99 = .ok (.getfield 94, 3) := dk_180 0 94 (dk_at dksX5_moves_4 4 rfl rfl)
theorem dX5_moves_102 : decode cX5_moves 102 = .ok (.iload_n 1, 1) := dk_27 (dk_at dksX5_moves_4 7 rfl rfl)
theorem dX5_moves_103 : decode cX5_moves 103 = .ok (.iadd, 1) := dk_96 (dk_at dksX5_moves_4 8 rfl rfl)
theorem dX5_moves_104 : decode cX5_moves 104 = .ok (.iload_n 2, 1) := dk_28 (dk_at dksX5_moves_4 9 rfl rfl)
theorem dX5_moves_105 : decode cX5_moves 105 = .ok (.iload 6, 2) := dk_21 6 (dk_at dksX5_moves_4 10 rfl rfl)
theorem dX5_moves_107 : decode cX5_moves 107 = .ok (.iload 5, 2) := dk_21 5 (dk_at dksX5_moves_4 12 rfl rfl)
theorem dX5_moves_109 : decode cX5_moves 109 = .ok (.iadd, 1) := dk_96 (dk_at dksX5_moves_4 14 rfl rfl)
theorem dX5_moves_110 : decode cX5_moves 110 = .ok (.imul, 1) := dk_104 (dk_at dksX5_moves_4 15 rfl rfl)
theorem dX5_moves_111 : decode cX5_moves 111 = .ok (.iadd, 1) := dk_96 (dk_at dksX5_moves_4 16 rfl rfl)
theorem dX5_moves_112 : decode cX5_moves 112 = .ok (.iload 7, 2) := dk_21 7 (dk_at dksX5_moves_4 17 rfl rfl)
theorem dX5_moves_114 : decode cX5_moves 114 = .ok (.iadd, 1) := dk_96 (dk_at dksX5_moves_4 19 rfl rfl)
theorem dX5_moves_115 : decode cX5_moves 115 = .ok (.lload 8, 2) := dk_22 8 (dk_at dksX5_moves_4 20 rfl rfl)
theorem dX5_moves_117 : decode cX5_moves 117 = .ok (.lastore, 1) := dk_80 (dk_at dksX5_moves_4 22 rfl rfl)
theorem dX5_moves_118 : decode cX5_moves 118 = .ok (.iinc 7 1, 3) := dk_132 7 1 (dk_at dksX5_moves_5 0 rfl rfl)
theorem dX5_moves_121 : decode cX5_moves 121 = .ok (.goto (-95), 3) := dk_167 255 161 (dk_at dksX5_moves_5 3 rfl rfl)
theorem dX5_moves_124 : decode cX5_moves 124 = .ok (.iload 6, 2) := dk_21 6 (dk_at dksX5_moves_5 6 rfl rfl)
theorem dX5_moves_126 : decode cX5_moves 126 = .ok (.iload 5, 2) := dk_21 5 (dk_at dksX5_moves_5 8 rfl rfl)
theorem dX5_moves_128 : decode cX5_moves 128 = .ok (.iadd, 1) := dk_96 (dk_at dksX5_moves_5 10 rfl rfl)
theorem dX5_moves_129 : decode cX5_moves 129 = .ok (.istore 6, 2) := dk_54 6 (dk_at dksX5_moves_5 11 rfl rfl)
theorem dX5_moves_131 : decode cX5_moves 131 = .ok (.goto (-115), 3) := dk_167 255 141 (dk_at dksX5_moves_5 13 rfl rfl)
theorem dX5_moves_134 : decode cX5_moves 134 = .ok (.return_, 1) := dk_177 (dk_at dksX5_moves_5 16 rfl rfl)
abbrev cX5_endTrial : ByteArray := prog_17_method_111_code
def yX5_endTrial : MethodName := ⟨RX5, "endTrial", "()I"⟩
def dkwX5_endTrial_0 : List UInt8 := [42, 182, 1, 142, 60, 42, 3, 181, 0, 94, 27, 172]
abbrev dktX5_endTrial_0 : List UInt8 := dkwX5_endTrial_0 ++ []
theorem dksX5_endTrial_0 : cX5_endTrial.data.toList.drop 0 = dktX5_endTrial_0 := by decide +kernel
theorem dX5_endTrial_0 : decode cX5_endTrial 0 = .ok (.aload_n 0, 1) := dk_42 (dk_at dksX5_endTrial_0 0 rfl rfl)
theorem dX5_endTrial_1 : decode cX5_endTrial 1 = .ok (.invokevirtual 398, 3) := dk_182 1 142 (dk_at dksX5_endTrial_0 1 rfl rfl)
theorem dX5_endTrial_4 : decode cX5_endTrial 4 = .ok (.istore_n 1, 1) := dk_60 (dk_at dksX5_endTrial_0 4 rfl rfl)
theorem dX5_endTrial_5 : decode cX5_endTrial 5 = .ok (.aload_n 0, 1) := dk_42 (dk_at dksX5_endTrial_0 5 rfl rfl)
theorem dX5_endTrial_6 : decode cX5_endTrial 6 = .ok (.iconst 0, 1) := dk_3 (dk_at dksX5_endTrial_0 6 rfl rfl)
theorem dX5_endTrial_7 : decode cX5_endTrial 7 = .ok (.putfield 94, 3) := dk_181 0 94 (dk_at dksX5_endTrial_0 7 rfl rfl)
theorem dX5_endTrial_10 : decode cX5_endTrial 10 = .ok (.iload_n 1, 1) := dk_27 (dk_at dksX5_endTrial_0 10 rfl rfl)
theorem dX5_endTrial_11 : decode cX5_endTrial 11 = .ok (.ireturn, 1) := dk_172 (dk_at dksX5_endTrial_0 11 rfl rfl)
abbrev cX5_renamed : ByteArray := prog_17_method_110_code
def yX5_renamed : MethodName := ⟨RX5, "renamed", "()I"⟩
def dkwX5_renamed_1 : List UInt8 := [160, 0, 6, 132, 1, 1, 132, 2, 1, 167, 255, 232, 27, 172]
abbrev dktX5_renamed_1 : List UInt8 := dkwX5_renamed_1 ++ []
def dkwX5_renamed_0 : List UInt8 := [42, 182, 1, 100, 3, 60, 3, 61, 28, 42, 182, 0, 101, 162, 0, 22, 42, 180, 0, 49, 28, 46, 6]
abbrev dktX5_renamed_0 : List UInt8 := dkwX5_renamed_0 ++ dktX5_renamed_1
theorem dksX5_renamed_0 : cX5_renamed.data.toList.drop 0 = dktX5_renamed_0 := by decide +kernel
theorem dksX5_renamed_1 : cX5_renamed.data.toList.drop 23 = dktX5_renamed_1 := dk_seg dksX5_renamed_0 23 rfl rfl
theorem dX5_renamed_0 : decode cX5_renamed 0 = .ok (.aload_n 0, 1) := dk_42 (dk_at dksX5_renamed_0 0 rfl rfl)
theorem dX5_renamed_1 : decode cX5_renamed 1 = .ok (.invokevirtual 356, 3) := dk_182 1 100 (dk_at dksX5_renamed_0 1 rfl rfl)
theorem dX5_renamed_4 : decode cX5_renamed 4 = .ok (.iconst 0, 1) := dk_3 (dk_at dksX5_renamed_0 4 rfl rfl)
theorem dX5_renamed_5 : decode cX5_renamed 5 = .ok (.istore_n 1, 1) := dk_60 (dk_at dksX5_renamed_0 5 rfl rfl)
theorem dX5_renamed_6 : decode cX5_renamed 6 = .ok (.iconst 0, 1) := dk_3 (dk_at dksX5_renamed_0 6 rfl rfl)
theorem dX5_renamed_7 : decode cX5_renamed 7 = .ok (.istore_n 2, 1) := dk_61 (dk_at dksX5_renamed_0 7 rfl rfl)
theorem dX5_renamed_8 : decode cX5_renamed 8 = .ok (.iload_n 2, 1) := dk_28 (dk_at dksX5_renamed_0 8 rfl rfl)
theorem dX5_renamed_9 : decode cX5_renamed 9 = .ok (.aload_n 0, 1) := dk_42 (dk_at dksX5_renamed_0 9 rfl rfl)
theorem dX5_renamed_10 : decode cX5_renamed 10 = .ok (.invokevirtual 101, 3) := dk_182 0 101 (dk_at dksX5_renamed_0 10 rfl rfl)
theorem dX5_renamed_13 : decode cX5_renamed 13 = .ok (.if_icmp .ge 22, 3) := dk_162 0 22 (dk_at dksX5_renamed_0 13 rfl rfl)
theorem dX5_renamed_16 : decode cX5_renamed 16 = .ok (.aload_n 0, 1) := dk_42 (dk_at dksX5_renamed_0 16 rfl rfl)
theorem dX5_renamed_17 : decode cX5_renamed 17 = .ok (.getfield 49, 3) := dk_180 0 49 (dk_at dksX5_renamed_0 17 rfl rfl)
theorem dX5_renamed_20 : decode cX5_renamed 20 = .ok (.iload_n 2, 1) := dk_28 (dk_at dksX5_renamed_0 20 rfl rfl)
theorem dX5_renamed_21 : decode cX5_renamed 21 = .ok (.iaload, 1) := dk_46 (dk_at dksX5_renamed_0 21 rfl rfl)
theorem dX5_renamed_22 : decode cX5_renamed 22 = .ok (.iconst 3, 1) := dk_6 (dk_at dksX5_renamed_0 22 rfl rfl)
theorem dX5_renamed_23 : decode cX5_renamed 23 = .ok (.if_icmp .ne 6, 3) := dk_160 0 6 (dk_at dksX5_renamed_1 0 rfl rfl)
theorem dX5_renamed_26 : decode cX5_renamed 26 = .ok (.iinc 1 1, 3) := dk_132 1 1 (dk_at dksX5_renamed_1 3 rfl rfl)
theorem dX5_renamed_29 : decode cX5_renamed 29 = .ok (.iinc 2 1, 3) := dk_132 2 1 (dk_at dksX5_renamed_1 6 rfl rfl)
theorem dX5_renamed_32 : decode cX5_renamed 32 = .ok (.goto (-24), 3) := dk_167 255 232 (dk_at dksX5_renamed_1 9 rfl rfl)
theorem dX5_renamed_35 : decode cX5_renamed 35 = .ok (.iload_n 1, 1) := dk_27 (dk_at dksX5_renamed_1 12 rfl rfl)
theorem dX5_renamed_36 : decode cX5_renamed 36 = .ok (.ireturn, 1) := dk_172 (dk_at dksX5_renamed_1 13 rfl rfl)
abbrev cX5_bestStart : ByteArray := prog_17_method_115_code
def yX5_bestStart : MethodName := ⟨RX5, "bestStart", "(I)I"⟩
def dkwX5_bestStart_3 : List UInt8 := [167, 255, 214, 28, 172]
abbrev dktX5_bestStart_3 : List UInt8 := dkwX5_bestStart_3 ++ []
def dkwX5_bestStart_2 : List UInt8 := [182, 1, 155, 54, 5, 21, 5, 29, 163, 0, 6, 167, 0, 9, 21, 4, 61, 21, 5, 62, 132, 4, 1]
abbrev dktX5_bestStart_2 : List UInt8 := dkwX5_bestStart_2 ++ dktX5_bestStart_3
def dkwX5_bestStart_1 : List UInt8 := [62, 3, 54, 4, 21, 4, 27, 163, 0, 42, 42, 182, 1, 149, 42, 5, 21, 4, 133, 182, 0, 228, 42]
abbrev dktX5_bestStart_1 : List UInt8 := dkwX5_bestStart_1 ++ dktX5_bestStart_2
def dkwX5_bestStart_0 : List UInt8 := [42, 3, 181, 0, 91, 27, 3, 16, 20, 184, 0, 105, 154, 0, 9, 42, 4, 182, 0, 130, 172, 2, 61, 2]
abbrev dktX5_bestStart_0 : List UInt8 := dkwX5_bestStart_0 ++ dktX5_bestStart_1
theorem dksX5_bestStart_0 : cX5_bestStart.data.toList.drop 0 = dktX5_bestStart_0 := by decide +kernel
theorem dksX5_bestStart_1 : cX5_bestStart.data.toList.drop 24 = dktX5_bestStart_1 := dk_seg dksX5_bestStart_0 24 rfl rfl
theorem dksX5_bestStart_2 : cX5_bestStart.data.toList.drop 47 = dktX5_bestStart_2 := dk_seg dksX5_bestStart_1 23 rfl rfl
theorem dksX5_bestStart_3 : cX5_bestStart.data.toList.drop 70 = dktX5_bestStart_3 := dk_seg dksX5_bestStart_2 23 rfl rfl
theorem dX5_bestStart_0 : decode cX5_bestStart 0 = .ok (.aload_n 0, 1) := dk_42 (dk_at dksX5_bestStart_0 0 rfl rfl)
theorem dX5_bestStart_1 : decode cX5_bestStart 1 = .ok (.iconst 0, 1) := dk_3 (dk_at dksX5_bestStart_0 1 rfl rfl)
theorem dX5_bestStart_2 : decode cX5_bestStart 2 = .ok (.putfield 91, 3) := dk_181 0 91 (dk_at dksX5_bestStart_0 2 rfl rfl)
theorem dX5_bestStart_5 : decode cX5_bestStart 5 = .ok (.iload_n 1, 1) := dk_27 (dk_at dksX5_bestStart_0 5 rfl rfl)
theorem dX5_bestStart_6 : decode cX5_bestStart 6 = .ok (.iconst 0, 1) := dk_3 (dk_at dksX5_bestStart_0 6 rfl rfl)
theorem dX5_bestStart_7 : decode cX5_bestStart 7 = .ok (.bipush 20, 2) := dk_16 20 (dk_at dksX5_bestStart_0 7 rfl rfl)
theorem dX5_bestStart_9 : decode cX5_bestStart 9 = .ok (.invokestatic 105, 3) := dk_184 0 105 (dk_at dksX5_bestStart_0 9 rfl rfl)
theorem dX5_bestStart_12 : decode cX5_bestStart 12 = .ok (.ifCond .ne 9, 3) := dk_154 0 9 (dk_at dksX5_bestStart_0 12 rfl rfl)
theorem dX5_bestStart_15 : decode cX5_bestStart 15 = .ok (.aload_n 0, 1) := dk_42 (dk_at dksX5_bestStart_0 15 rfl rfl)
theorem dX5_bestStart_16 : decode cX5_bestStart 16 = .ok (.iconst 1, 1) := dk_4 (dk_at dksX5_bestStart_0 16 rfl rfl)
theorem dX5_bestStart_17 : decode cX5_bestStart 17 = .ok (.invokevirtual 130, 3) := dk_182 0 130 (dk_at dksX5_bestStart_0 17 rfl rfl)
theorem dX5_bestStart_20 : decode cX5_bestStart 20 = .ok (.ireturn, 1) := dk_172 (dk_at dksX5_bestStart_0 20 rfl rfl)
theorem dX5_bestStart_21 : decode cX5_bestStart 21 = .ok (.iconst (-1), 1) := dk_2 (dk_at dksX5_bestStart_0 21 rfl rfl)
theorem dX5_bestStart_22 : decode cX5_bestStart 22 = .ok (.istore_n 2, 1) := dk_61 (dk_at dksX5_bestStart_0 22 rfl rfl)
theorem dX5_bestStart_23 : decode cX5_bestStart 23 = .ok (.iconst (-1), 1) := dk_2 (dk_at dksX5_bestStart_0 23 rfl rfl)
theorem dX5_bestStart_24 : decode cX5_bestStart 24 = .ok (.istore_n 3, 1) := dk_62 (dk_at dksX5_bestStart_1 0 rfl rfl)
theorem dX5_bestStart_25 : decode cX5_bestStart 25 = .ok (.iconst 0, 1) := dk_3 (dk_at dksX5_bestStart_1 1 rfl rfl)
theorem dX5_bestStart_26 : decode cX5_bestStart 26 = .ok (.istore 4, 2) := dk_54 4 (dk_at dksX5_bestStart_1 2 rfl rfl)
theorem dX5_bestStart_28 : decode cX5_bestStart 28 = .ok (.iload 4, 2) := dk_21 4 (dk_at dksX5_bestStart_1 4 rfl rfl)
theorem dX5_bestStart_30 : decode cX5_bestStart 30 = .ok (.iload_n 1, 1) := dk_27 (dk_at dksX5_bestStart_1 6 rfl rfl)
theorem dX5_bestStart_31 : decode cX5_bestStart 31 = .ok (.if_icmp .gt 42, 3) := dk_163 0 42 (dk_at dksX5_bestStart_1 7 rfl rfl)
theorem dX5_bestStart_34 : decode cX5_bestStart 34 = .ok (.aload_n 0, 1) := dk_42 (dk_at dksX5_bestStart_1 10 rfl rfl)
theorem dX5_bestStart_35 : decode cX5_bestStart 35 = .ok (.invokevirtual 405, 3) := dk_182 1 149 (dk_at dksX5_bestStart_1 11 rfl rfl)
theorem dX5_bestStart_38 : decode cX5_bestStart 38 = .ok (.aload_n 0, 1) := dk_42 (dk_at dksX5_bestStart_1 14 rfl rfl)
theorem dX5_bestStart_39 : decode cX5_bestStart 39 = .ok (.iconst 2, 1) := dk_5 (dk_at dksX5_bestStart_1 15 rfl rfl)
theorem dX5_bestStart_40 : decode cX5_bestStart 40 = .ok (.iload 4, 2) := dk_21 4 (dk_at dksX5_bestStart_1 16 rfl rfl)
theorem dX5_bestStart_42 : decode cX5_bestStart 42 = .ok (.i2l, 1) := dk_133 (dk_at dksX5_bestStart_1 18 rfl rfl)
theorem dX5_bestStart_43 : decode cX5_bestStart 43 = .ok (.invokevirtual 228, 3) := dk_182 0 228 (dk_at dksX5_bestStart_1 19 rfl rfl)
theorem dX5_bestStart_46 : decode cX5_bestStart 46 = .ok (.aload_n 0, 1) := dk_42 (dk_at dksX5_bestStart_1 22 rfl rfl)
theorem dX5_bestStart_47 : decode cX5_bestStart 47 = .ok (.invokevirtual 411, 3) := dk_182 1 155 (dk_at dksX5_bestStart_2 0 rfl rfl)
theorem dX5_bestStart_50 : decode cX5_bestStart 50 = .ok (.istore 5, 2) := dk_54 5 (dk_at dksX5_bestStart_2 3 rfl rfl)
theorem dX5_bestStart_52 : decode cX5_bestStart 52 = .ok (.iload 5, 2) := dk_21 5 (dk_at dksX5_bestStart_2 5 rfl rfl)
theorem dX5_bestStart_54 : decode cX5_bestStart 54 = .ok (.iload_n 3, 1) := dk_29 (dk_at dksX5_bestStart_2 7 rfl rfl)
theorem dX5_bestStart_55 : decode cX5_bestStart 55 = .ok (.if_icmp .gt 6, 3) := dk_163 0 6 (dk_at dksX5_bestStart_2 8 rfl rfl)
theorem dX5_bestStart_58 : decode cX5_bestStart 58 = .ok (.goto 9, 3) := dk_167 0 9 (dk_at dksX5_bestStart_2 11 rfl rfl)
theorem dX5_bestStart_61 : decode cX5_bestStart 61 = .ok (.iload 4, 2) := dk_21 4 (dk_at dksX5_bestStart_2 14 rfl rfl)
theorem dX5_bestStart_63 : decode cX5_bestStart 63 = .ok (.istore_n 2, 1) := dk_61 (dk_at dksX5_bestStart_2 16 rfl rfl)
theorem dX5_bestStart_64 : decode cX5_bestStart 64 = .ok (.iload 5, 2) := dk_21 5 (dk_at dksX5_bestStart_2 17 rfl rfl)
theorem dX5_bestStart_66 : decode cX5_bestStart 66 = .ok (.istore_n 3, 1) := dk_62 (dk_at dksX5_bestStart_2 19 rfl rfl)
theorem dX5_bestStart_67 : decode cX5_bestStart 67 = .ok (.iinc 4 1, 3) := dk_132 4 1 (dk_at dksX5_bestStart_2 20 rfl rfl)
theorem dX5_bestStart_70 : decode cX5_bestStart 70 = .ok (.goto (-42), 3) := dk_167 255 214 (dk_at dksX5_bestStart_3 0 rfl rfl)
theorem dX5_bestStart_73 : decode cX5_bestStart 73 = .ok (.iload_n 2, 1) := dk_28 (dk_at dksX5_bestStart_3 3 rfl rfl)
theorem dX5_bestStart_74 : decode cX5_bestStart 74 = .ok (.ireturn, 1) := dk_172 (dk_at dksX5_bestStart_3 4 rfl rfl)
abbrev cX5_bestPlace : ByteArray := prog_17_method_116_code
def yX5_bestPlace : MethodName := ⟨RX5, "bestPlace", "(I)I"⟩
def dkwX5_bestPlace_3 : List UInt8 := [132, 4, 1, 167, 255, 209, 28, 172]
abbrev dktX5_bestPlace_3 : List UInt8 := dkwX5_bestPlace_3 ++ []
def dkwX5_bestPlace_2 : List UInt8 := [182, 1, 145, 42, 182, 1, 155, 54, 5, 21, 5, 29, 163, 0, 6, 167, 0, 9, 21, 4, 61, 21, 5, 62]
abbrev dktX5_bestPlace_2 : List UInt8 := dkwX5_bestPlace_2 ++ dktX5_bestPlace_3
def dkwX5_bestPlace_1 : List UInt8 := [54, 4, 21, 4, 42, 182, 0, 109, 162, 0, 44, 42, 182, 1, 149, 42, 16, 86, 8, 27, 21, 4]
abbrev dktX5_bestPlace_1 : List UInt8 := dkwX5_bestPlace_1 ++ dktX5_bestPlace_2
def dkwX5_bestPlace_0 : List UInt8 := [42, 3, 181, 0, 91, 42, 27, 182, 1, 41, 154, 0, 9, 42, 4, 182, 0, 130, 172, 2, 61, 2, 62, 3]
abbrev dktX5_bestPlace_0 : List UInt8 := dkwX5_bestPlace_0 ++ dktX5_bestPlace_1
theorem dksX5_bestPlace_0 : cX5_bestPlace.data.toList.drop 0 = dktX5_bestPlace_0 := by decide +kernel
theorem dksX5_bestPlace_1 : cX5_bestPlace.data.toList.drop 24 = dktX5_bestPlace_1 := dk_seg dksX5_bestPlace_0 24 rfl rfl
theorem dksX5_bestPlace_2 : cX5_bestPlace.data.toList.drop 46 = dktX5_bestPlace_2 := dk_seg dksX5_bestPlace_1 22 rfl rfl
theorem dksX5_bestPlace_3 : cX5_bestPlace.data.toList.drop 70 = dktX5_bestPlace_3 := dk_seg dksX5_bestPlace_2 24 rfl rfl
theorem dX5_bestPlace_0 : decode cX5_bestPlace 0 = .ok (.aload_n 0, 1) := dk_42 (dk_at dksX5_bestPlace_0 0 rfl rfl)
theorem dX5_bestPlace_1 : decode cX5_bestPlace 1 = .ok (.iconst 0, 1) := dk_3 (dk_at dksX5_bestPlace_0 1 rfl rfl)
theorem dX5_bestPlace_2 : decode cX5_bestPlace 2 = .ok (.putfield 91, 3) := dk_181 0 91 (dk_at dksX5_bestPlace_0 2 rfl rfl)
theorem dX5_bestPlace_5 : decode cX5_bestPlace 5 = .ok (.aload_n 0, 1) := dk_42 (dk_at dksX5_bestPlace_0 5 rfl rfl)
theorem dX5_bestPlace_6 : decode cX5_bestPlace 6 = .ok (.iload_n 1, 1) := dk_27 (dk_at dksX5_bestPlace_0 6 rfl rfl)
theorem dX5_bestPlace_7 : decode cX5_bestPlace 7 = .ok (.invokevirtual 297, 3) := dk_182 1 41 (dk_at dksX5_bestPlace_0 7 rfl rfl)
theorem dX5_bestPlace_10 : decode cX5_bestPlace 10 = .ok (.ifCond .ne 9, 3) := dk_154 0 9 (dk_at dksX5_bestPlace_0 10 rfl rfl)
theorem dX5_bestPlace_13 : decode cX5_bestPlace 13 = .ok (.aload_n 0, 1) := dk_42 (dk_at dksX5_bestPlace_0 13 rfl rfl)
theorem dX5_bestPlace_14 : decode cX5_bestPlace 14 = .ok (.iconst 1, 1) := dk_4 (dk_at dksX5_bestPlace_0 14 rfl rfl)
theorem dX5_bestPlace_15 : decode cX5_bestPlace 15 = .ok (.invokevirtual 130, 3) := dk_182 0 130 (dk_at dksX5_bestPlace_0 15 rfl rfl)
theorem dX5_bestPlace_18 : decode cX5_bestPlace 18 = .ok (.ireturn, 1) := dk_172 (dk_at dksX5_bestPlace_0 18 rfl rfl)
theorem dX5_bestPlace_19 : decode cX5_bestPlace 19 = .ok (.iconst (-1), 1) := dk_2 (dk_at dksX5_bestPlace_0 19 rfl rfl)
theorem dX5_bestPlace_20 : decode cX5_bestPlace 20 = .ok (.istore_n 2, 1) := dk_61 (dk_at dksX5_bestPlace_0 20 rfl rfl)
theorem dX5_bestPlace_21 : decode cX5_bestPlace 21 = .ok (.iconst (-1), 1) := dk_2 (dk_at dksX5_bestPlace_0 21 rfl rfl)
theorem dX5_bestPlace_22 : decode cX5_bestPlace 22 = .ok (.istore_n 3, 1) := dk_62 (dk_at dksX5_bestPlace_0 22 rfl rfl)
theorem dX5_bestPlace_23 : decode cX5_bestPlace 23 = .ok (.iconst 0, 1) := dk_3 (dk_at dksX5_bestPlace_0 23 rfl rfl)
theorem dX5_bestPlace_24 : decode cX5_bestPlace 24 = .ok (.istore 4, 2) := dk_54 4 (dk_at dksX5_bestPlace_1 0 rfl rfl)
theorem dX5_bestPlace_26 : decode cX5_bestPlace 26 = .ok (.iload 4, 2) := dk_21 4 (dk_at dksX5_bestPlace_1 2 rfl rfl)
theorem dX5_bestPlace_28 : decode cX5_bestPlace 28 = .ok (.aload_n 0, 1) := dk_42 (dk_at dksX5_bestPlace_1 4 rfl rfl)
theorem dX5_bestPlace_29 : decode cX5_bestPlace 29 = .ok (.invokevirtual 109, 3) := dk_182 0 109 (dk_at dksX5_bestPlace_1 5 rfl rfl)
theorem dX5_bestPlace_32 : decode cX5_bestPlace 32 = .ok (.if_icmp .ge 44, 3) := dk_162 0 44 (dk_at dksX5_bestPlace_1 8 rfl rfl)
theorem dX5_bestPlace_35 : decode cX5_bestPlace 35 = .ok (.aload_n 0, 1) := dk_42 (dk_at dksX5_bestPlace_1 11 rfl rfl)
theorem dX5_bestPlace_36 : decode cX5_bestPlace 36 = .ok (.invokevirtual 405, 3) := dk_182 1 149 (dk_at dksX5_bestPlace_1 12 rfl rfl)
theorem dX5_bestPlace_39 : decode cX5_bestPlace 39 = .ok (.aload_n 0, 1) := dk_42 (dk_at dksX5_bestPlace_1 15 rfl rfl)
theorem dX5_bestPlace_40 : decode cX5_bestPlace 40 = .ok (.bipush 86, 2) := dk_16 86 (dk_at dksX5_bestPlace_1 16 rfl rfl)
theorem dX5_bestPlace_42 : decode cX5_bestPlace 42 = .ok (.iconst 5, 1) := dk_8 (dk_at dksX5_bestPlace_1 18 rfl rfl)
theorem dX5_bestPlace_43 : decode cX5_bestPlace 43 = .ok (.iload_n 1, 1) := dk_27 (dk_at dksX5_bestPlace_1 19 rfl rfl)
theorem dX5_bestPlace_44 : decode cX5_bestPlace 44 = .ok (.iload 4, 2) := dk_21 4 (dk_at dksX5_bestPlace_1 20 rfl rfl)
theorem dX5_bestPlace_46 : decode cX5_bestPlace 46 = .ok (.invokevirtual 401, 3) := dk_182 1 145 (dk_at dksX5_bestPlace_2 0 rfl rfl)
theorem dX5_bestPlace_49 : decode cX5_bestPlace 49 = .ok (.aload_n 0, 1) := dk_42 (dk_at dksX5_bestPlace_2 3 rfl rfl)
theorem dX5_bestPlace_50 : decode cX5_bestPlace 50 = .ok (.invokevirtual 411, 3) := dk_182 1 155 (dk_at dksX5_bestPlace_2 4 rfl rfl)
theorem dX5_bestPlace_53 : decode cX5_bestPlace 53 = .ok (.istore 5, 2) := dk_54 5 (dk_at dksX5_bestPlace_2 7 rfl rfl)
theorem dX5_bestPlace_55 : decode cX5_bestPlace 55 = .ok (.iload 5, 2) := dk_21 5 (dk_at dksX5_bestPlace_2 9 rfl rfl)
theorem dX5_bestPlace_57 : decode cX5_bestPlace 57 = .ok (.iload_n 3, 1) := dk_29 (dk_at dksX5_bestPlace_2 11 rfl rfl)
theorem dX5_bestPlace_58 : decode cX5_bestPlace 58 = .ok (.if_icmp .gt 6, 3) := dk_163 0 6 (dk_at dksX5_bestPlace_2 12 rfl rfl)
theorem dX5_bestPlace_61 : decode cX5_bestPlace 61 = .ok (.goto 9, 3) := dk_167 0 9 (dk_at dksX5_bestPlace_2 15 rfl rfl)
theorem dX5_bestPlace_64 : decode cX5_bestPlace 64 = .ok (.iload 4, 2) := dk_21 4 (dk_at dksX5_bestPlace_2 18 rfl rfl)
theorem dX5_bestPlace_66 : decode cX5_bestPlace 66 = .ok (.istore_n 2, 1) := dk_61 (dk_at dksX5_bestPlace_2 20 rfl rfl)
theorem dX5_bestPlace_67 : decode cX5_bestPlace 67 = .ok (.iload 5, 2) := dk_21 5 (dk_at dksX5_bestPlace_2 21 rfl rfl)
theorem dX5_bestPlace_69 : decode cX5_bestPlace 69 = .ok (.istore_n 3, 1) := dk_62 (dk_at dksX5_bestPlace_2 23 rfl rfl)
theorem dX5_bestPlace_70 : decode cX5_bestPlace 70 = .ok (.iinc 4 1, 3) := dk_132 4 1 (dk_at dksX5_bestPlace_3 0 rfl rfl)
theorem dX5_bestPlace_73 : decode cX5_bestPlace 73 = .ok (.goto (-47), 3) := dk_167 255 209 (dk_at dksX5_bestPlace_3 3 rfl rfl)
theorem dX5_bestPlace_76 : decode cX5_bestPlace 76 = .ok (.iload_n 2, 1) := dk_28 (dk_at dksX5_bestPlace_3 6 rfl rfl)
theorem dX5_bestPlace_77 : decode cX5_bestPlace 77 = .ok (.ireturn, 1) := dk_172 (dk_at dksX5_bestPlace_3 7 rfl rfl)
abbrev cX5_stepsAgain : ByteArray := prog_17_method_118_code
def yX5_stepsAgain : MethodName := ⟨RX5, "stepsAgain", "()I"⟩
def dkwX5_stepsAgain_1 : List UInt8 := [181, 0, 94, 42, 180, 1, 119, 172]
abbrev dktX5_stepsAgain_1 : List UInt8 := dkwX5_stepsAgain_1 ++ []
def dkwX5_stepsAgain_0 : List UInt8 := [42, 3, 181, 0, 91, 42, 182, 1, 149, 42, 182, 1, 133, 42, 182, 1, 158, 42, 182, 1, 133, 42, 3]
abbrev dktX5_stepsAgain_0 : List UInt8 := dkwX5_stepsAgain_0 ++ dktX5_stepsAgain_1
theorem dksX5_stepsAgain_0 : cX5_stepsAgain.data.toList.drop 0 = dktX5_stepsAgain_0 := by decide +kernel
theorem dksX5_stepsAgain_1 : cX5_stepsAgain.data.toList.drop 23 = dktX5_stepsAgain_1 := dk_seg dksX5_stepsAgain_0 23 rfl rfl
theorem dX5_stepsAgain_0 : decode cX5_stepsAgain 0 = .ok (.aload_n 0, 1) := dk_42 (dk_at dksX5_stepsAgain_0 0 rfl rfl)
theorem dX5_stepsAgain_1 : decode cX5_stepsAgain 1 = .ok (.iconst 0, 1) := dk_3 (dk_at dksX5_stepsAgain_0 1 rfl rfl)
theorem dX5_stepsAgain_2 : decode cX5_stepsAgain 2 = .ok (.putfield 91, 3) := dk_181 0 91 (dk_at dksX5_stepsAgain_0 2 rfl rfl)
theorem dX5_stepsAgain_5 : decode cX5_stepsAgain 5 = .ok (.aload_n 0, 1) := dk_42 (dk_at dksX5_stepsAgain_0 5 rfl rfl)
theorem dX5_stepsAgain_6 : decode cX5_stepsAgain 6 = .ok (.invokevirtual 405, 3) := dk_182 1 149 (dk_at dksX5_stepsAgain_0 6 rfl rfl)
theorem dX5_stepsAgain_9 : decode cX5_stepsAgain 9 = .ok (.aload_n 0, 1) := dk_42 (dk_at dksX5_stepsAgain_0 9 rfl rfl)
theorem dX5_stepsAgain_10 : decode cX5_stepsAgain 10 = .ok (.invokevirtual 389, 3) := dk_182 1 133 (dk_at dksX5_stepsAgain_0 10 rfl rfl)
theorem dX5_stepsAgain_13 : decode cX5_stepsAgain 13 = .ok (.aload_n 0, 1) := dk_42 (dk_at dksX5_stepsAgain_0 13 rfl rfl)
theorem dX5_stepsAgain_14 : decode cX5_stepsAgain 14 = .ok (.invokevirtual 414, 3) := dk_182 1 158 (dk_at dksX5_stepsAgain_0 14 rfl rfl)
theorem dX5_stepsAgain_17 : decode cX5_stepsAgain 17 = .ok (.aload_n 0, 1) := dk_42 (dk_at dksX5_stepsAgain_0 17 rfl rfl)
theorem dX5_stepsAgain_18 : decode cX5_stepsAgain 18 = .ok (.invokevirtual 389, 3) := dk_182 1 133 (dk_at dksX5_stepsAgain_0 18 rfl rfl)
theorem dX5_stepsAgain_21 : decode cX5_stepsAgain 21 = .ok (.aload_n 0, 1) := dk_42 (dk_at dksX5_stepsAgain_0 21 rfl rfl)
theorem dX5_stepsAgain_22 : decode cX5_stepsAgain 22 = .ok (.iconst 0, 1) := dk_3 (dk_at dksX5_stepsAgain_0 22 rfl rfl)
theorem dX5_stepsAgain_23 : decode cX5_stepsAgain 23 = .ok (.putfield 94, 3) := dk_181 0 94 (dk_at dksX5_stepsAgain_1 0 rfl rfl)
theorem dX5_stepsAgain_26 : decode cX5_stepsAgain 26 = .ok (.aload_n 0, 1) := dk_42 (dk_at dksX5_stepsAgain_1 3 rfl rfl)
theorem dX5_stepsAgain_27 : decode cX5_stepsAgain 27 = .ok (.getfield 375, 3) := dk_180 1 119 (dk_at dksX5_stepsAgain_1 4 rfl rfl)
theorem dX5_stepsAgain_30 : decode cX5_stepsAgain 30 = .ok (.ireturn, 1) := dk_172 (dk_at dksX5_stepsAgain_1 7 rfl rfl)
abbrev cX5_takesWorking : ByteArray := prog_17_method_117_code
def yX5_takesWorking : MethodName := ⟨RX5, "takesWorking", "()V"⟩
def dkwX5_takesWorking_1 : List UInt8 := [182, 0, 118, 184, 0, 236, 132, 1, 1, 167, 255, 226, 177]
abbrev dktX5_takesWorking_1 : List UInt8 := dkwX5_takesWorking_1 ++ []
def dkwX5_takesWorking_0 : List UInt8 := [3, 60, 27, 42, 182, 0, 101, 162, 0, 28, 42, 180, 0, 55, 6, 27, 104, 42, 180, 0, 7, 42, 27]
abbrev dktX5_takesWorking_0 : List UInt8 := dkwX5_takesWorking_0 ++ dktX5_takesWorking_1
theorem dksX5_takesWorking_0 : cX5_takesWorking.data.toList.drop 0 = dktX5_takesWorking_0 := by decide +kernel
theorem dksX5_takesWorking_1 : cX5_takesWorking.data.toList.drop 23 = dktX5_takesWorking_1 := dk_seg dksX5_takesWorking_0 23 rfl rfl
theorem dX5_takesWorking_0 : decode cX5_takesWorking 0 = .ok (.iconst 0, 1) := dk_3 (dk_at dksX5_takesWorking_0 0 rfl rfl)
theorem dX5_takesWorking_1 : decode cX5_takesWorking 1 = .ok (.istore_n 1, 1) := dk_60 (dk_at dksX5_takesWorking_0 1 rfl rfl)
theorem dX5_takesWorking_2 : decode cX5_takesWorking 2 = .ok (.iload_n 1, 1) := dk_27 (dk_at dksX5_takesWorking_0 2 rfl rfl)
theorem dX5_takesWorking_3 : decode cX5_takesWorking 3 = .ok (.aload_n 0, 1) := dk_42 (dk_at dksX5_takesWorking_0 3 rfl rfl)
theorem dX5_takesWorking_4 : decode cX5_takesWorking 4 = .ok (.invokevirtual 101, 3) := dk_182 0 101 (dk_at dksX5_takesWorking_0 4 rfl rfl)
theorem dX5_takesWorking_7 : decode cX5_takesWorking 7 = .ok (.if_icmp .ge 28, 3) := dk_162 0 28 (dk_at dksX5_takesWorking_0 7 rfl rfl)
theorem dX5_takesWorking_10 : decode cX5_takesWorking 10 = .ok (.aload_n 0, 1) := dk_42 (dk_at dksX5_takesWorking_0 10 rfl rfl)
theorem dX5_takesWorking_11 : decode cX5_takesWorking 11 = .ok (.getfield 55, 3) := dk_180 0 55 (dk_at dksX5_takesWorking_0 11 rfl rfl)
theorem dX5_takesWorking_14 : decode cX5_takesWorking 14 = .ok (.iconst 3, 1) := dk_6 (dk_at dksX5_takesWorking_0 14 rfl rfl)
theorem dX5_takesWorking_15 : decode cX5_takesWorking 15 = .ok (.iload_n 1, 1) := dk_27 (dk_at dksX5_takesWorking_0 15 rfl rfl)
theorem dX5_takesWorking_16 : decode cX5_takesWorking 16 = .ok (.imul, 1) := dk_104 (dk_at dksX5_takesWorking_0 16 rfl rfl)
theorem dX5_takesWorking_17 : decode cX5_takesWorking 17 = .ok (.aload_n 0, 1) := dk_42 (dk_at dksX5_takesWorking_0 17 rfl rfl)
theorem dX5_takesWorking_18 : decode cX5_takesWorking 18 = .ok (.getfield 7, 3) := dk_180 0 7 (dk_at dksX5_takesWorking_0 18 rfl rfl)
theorem dX5_takesWorking_21 : decode cX5_takesWorking 21 = .ok (.aload_n 0, 1) := dk_42 (dk_at dksX5_takesWorking_0 21 rfl rfl)
theorem dX5_takesWorking_22 : decode cX5_takesWorking 22 = .ok (.iload_n 1, 1) := dk_27 (dk_at dksX5_takesWorking_0 22 rfl rfl)
theorem dX5_takesWorking_23 : decode cX5_takesWorking 23 = .ok (.invokevirtual 118, 3) := dk_182 0 118 (dk_at dksX5_takesWorking_1 0 rfl rfl)
theorem dX5_takesWorking_26 : decode cX5_takesWorking 26 = .ok (.invokestatic 236, 3) := dk_184 0 236 (dk_at dksX5_takesWorking_1 3 rfl rfl)
theorem dX5_takesWorking_29 : decode cX5_takesWorking 29 = .ok (.iinc 1 1, 3) := dk_132 1 1 (dk_at dksX5_takesWorking_1 6 rfl rfl)
theorem dX5_takesWorking_32 : decode cX5_takesWorking 32 = .ok (.goto (-30), 3) := dk_167 255 226 (dk_at dksX5_takesWorking_1 9 rfl rfl)
theorem dX5_takesWorking_35 : decode cX5_takesWorking 35 = .ok (.return_, 1) := dk_177 (dk_at dksX5_takesWorking_1 12 rfl rfl)
abbrev cX5_meanLength : ByteArray := prog_17_method_119_code
def yX5_meanLength : MethodName := ⟨RX5, "meanLength", "()D"⟩
def dkwX5_meanLength_2 : List UInt8 := [154, 0, 7, 14, 167, 0, 11, 27, 135, 42, 182, 0, 101, 135, 111, 175]
abbrev dktX5_meanLength_2 : List UInt8 := dkwX5_meanLength_2 ++ []
def dkwX5_meanLength_1 : List UInt8 := [180, 0, 55, 6, 28, 104, 16, 24, 184, 0, 121, 96, 60, 132, 2, 1, 167, 255, 230, 42, 182, 0, 101]
abbrev dktX5_meanLength_1 : List UInt8 := dkwX5_meanLength_1 ++ dktX5_meanLength_2
def dkwX5_meanLength_0 : List UInt8 := [42, 3, 181, 0, 91, 42, 182, 1, 133, 3, 60, 3, 61, 28, 42, 182, 0, 101, 162, 0, 24, 27, 42]
abbrev dktX5_meanLength_0 : List UInt8 := dkwX5_meanLength_0 ++ dktX5_meanLength_1
theorem dksX5_meanLength_0 : cX5_meanLength.data.toList.drop 0 = dktX5_meanLength_0 := by decide +kernel
theorem dksX5_meanLength_1 : cX5_meanLength.data.toList.drop 23 = dktX5_meanLength_1 := dk_seg dksX5_meanLength_0 23 rfl rfl
theorem dksX5_meanLength_2 : cX5_meanLength.data.toList.drop 46 = dktX5_meanLength_2 := dk_seg dksX5_meanLength_1 23 rfl rfl
theorem dX5_meanLength_0 : decode cX5_meanLength 0 = .ok (.aload_n 0, 1) := dk_42 (dk_at dksX5_meanLength_0 0 rfl rfl)
theorem dX5_meanLength_1 : decode cX5_meanLength 1 = .ok (.iconst 0, 1) := dk_3 (dk_at dksX5_meanLength_0 1 rfl rfl)
theorem dX5_meanLength_2 : decode cX5_meanLength 2 = .ok (.putfield 91, 3) := dk_181 0 91 (dk_at dksX5_meanLength_0 2 rfl rfl)
theorem dX5_meanLength_5 : decode cX5_meanLength 5 = .ok (.aload_n 0, 1) := dk_42 (dk_at dksX5_meanLength_0 5 rfl rfl)
theorem dX5_meanLength_6 : decode cX5_meanLength 6 = .ok (.invokevirtual 389, 3) := dk_182 1 133 (dk_at dksX5_meanLength_0 6 rfl rfl)
theorem dX5_meanLength_9 : decode cX5_meanLength 9 = .ok (.iconst 0, 1) := dk_3 (dk_at dksX5_meanLength_0 9 rfl rfl)
theorem dX5_meanLength_10 : decode cX5_meanLength 10 = .ok (.istore_n 1, 1) := dk_60 (dk_at dksX5_meanLength_0 10 rfl rfl)
theorem dX5_meanLength_11 : decode cX5_meanLength 11 = .ok (.iconst 0, 1) := dk_3 (dk_at dksX5_meanLength_0 11 rfl rfl)
theorem dX5_meanLength_12 : decode cX5_meanLength 12 = .ok (.istore_n 2, 1) := dk_61 (dk_at dksX5_meanLength_0 12 rfl rfl)
theorem dX5_meanLength_13 : decode cX5_meanLength 13 = .ok (.iload_n 2, 1) := dk_28 (dk_at dksX5_meanLength_0 13 rfl rfl)
theorem dX5_meanLength_14 : decode cX5_meanLength 14 = .ok (.aload_n 0, 1) := dk_42 (dk_at dksX5_meanLength_0 14 rfl rfl)
theorem dX5_meanLength_15 : decode cX5_meanLength 15 = .ok (.invokevirtual 101, 3) := dk_182 0 101 (dk_at dksX5_meanLength_0 15 rfl rfl)
theorem dX5_meanLength_18 : decode cX5_meanLength 18 = .ok (.if_icmp .ge 24, 3) := dk_162 0 24 (dk_at dksX5_meanLength_0 18 rfl rfl)
theorem dX5_meanLength_21 : decode cX5_meanLength 21 = .ok (.iload_n 1, 1) := dk_27 (dk_at dksX5_meanLength_0 21 rfl rfl)
theorem dX5_meanLength_22 : decode cX5_meanLength 22 = .ok (.aload_n 0, 1) := dk_42 (dk_at dksX5_meanLength_0 22 rfl rfl)
theorem dX5_meanLength_23 : decode cX5_meanLength 23 = .ok (.getfield 55, 3) := dk_180 0 55 (dk_at dksX5_meanLength_1 0 rfl rfl)
theorem dX5_meanLength_26 : decode cX5_meanLength 26 = .ok (.iconst 3, 1) := dk_6 (dk_at dksX5_meanLength_1 3 rfl rfl)
theorem dX5_meanLength_27 : decode cX5_meanLength 27 = .ok (.iload_n 2, 1) := dk_28 (dk_at dksX5_meanLength_1 4 rfl rfl)
theorem dX5_meanLength_28 : decode cX5_meanLength 28 = .ok (.imul, 1) := dk_104 (dk_at dksX5_meanLength_1 5 rfl rfl)
theorem dX5_meanLength_29 : decode cX5_meanLength 29 = .ok (.bipush 24, 2) := dk_16 24 (dk_at dksX5_meanLength_1 6 rfl rfl)
theorem dX5_meanLength_31 : decode cX5_meanLength 31 = .ok (.invokestatic 121, 3) := dk_184 0 121 (dk_at dksX5_meanLength_1 8 rfl rfl)
theorem dX5_meanLength_34 : decode cX5_meanLength 34 = .ok (.iadd, 1) := dk_96 (dk_at dksX5_meanLength_1 11 rfl rfl)
theorem dX5_meanLength_35 : decode cX5_meanLength 35 = .ok (.istore_n 1, 1) := dk_60 (dk_at dksX5_meanLength_1 12 rfl rfl)
theorem dX5_meanLength_36 : decode cX5_meanLength 36 = .ok (.iinc 2 1, 3) := dk_132 2 1 (dk_at dksX5_meanLength_1 13 rfl rfl)
theorem dX5_meanLength_39 : decode cX5_meanLength 39 = .ok (.goto (-26), 3) := dk_167 255 230 (dk_at dksX5_meanLength_1 16 rfl rfl)
theorem dX5_meanLength_42 : decode cX5_meanLength 42 = .ok (.aload_n 0, 1) := dk_42 (dk_at dksX5_meanLength_1 19 rfl rfl)
theorem dX5_meanLength_43 : decode cX5_meanLength 43 = .ok (.invokevirtual 101, 3) := dk_182 0 101 (dk_at dksX5_meanLength_1 20 rfl rfl)
theorem dX5_meanLength_46 : decode cX5_meanLength 46 = .ok (.ifCond .ne 7, 3) := dk_154 0 7 (dk_at dksX5_meanLength_2 0 rfl rfl)
theorem dX5_meanLength_49 : decode cX5_meanLength 49 = .ok (.dconst 0, 1) := dk_14 (dk_at dksX5_meanLength_2 3 rfl rfl)
theorem dX5_meanLength_50 : decode cX5_meanLength 50 = .ok (.goto 11, 3) := dk_167 0 11 (dk_at dksX5_meanLength_2 4 rfl rfl)
theorem dX5_meanLength_53 : decode cX5_meanLength 53 = .ok (.iload_n 1, 1) := dk_27 (dk_at dksX5_meanLength_2 7 rfl rfl)
theorem dX5_meanLength_54 : decode cX5_meanLength 54 = .ok (.i2d, 1) := dk_135 (dk_at dksX5_meanLength_2 8 rfl rfl)
theorem dX5_meanLength_55 : decode cX5_meanLength 55 = .ok (.aload_n 0, 1) := dk_42 (dk_at dksX5_meanLength_2 9 rfl rfl)
theorem dX5_meanLength_56 : decode cX5_meanLength 56 = .ok (.invokevirtual 101, 3) := dk_182 0 101 (dk_at dksX5_meanLength_2 10 rfl rfl)
theorem dX5_meanLength_59 : decode cX5_meanLength 59 = .ok (.i2d, 1) := dk_135 (dk_at dksX5_meanLength_2 13 rfl rfl)
theorem dX5_meanLength_60 : decode cX5_meanLength 60 = .ok (.ddiv, 1) := dk_111 (dk_at dksX5_meanLength_2 14 rfl rfl)
theorem dX5_meanLength_61 : decode cX5_meanLength 61 = .ok (.dreturn, 1) := dk_175 (dk_at dksX5_meanLength_2 15 rfl rfl)
abbrev cX5_undo : ByteArray := prog_17_method_122_code
def yX5_undo : MethodName := ⟨RX5, "undo", "()I"⟩
def dkwX5_undo_1 : List UInt8 := [100, 181, 1, 26, 42, 42, 42, 180, 1, 26, 182, 1, 161, 3, 182, 0, 87, 42, 180, 1, 26, 172]
abbrev dktX5_undo_1 : List UInt8 := dkwX5_undo_1 ++ []
def dkwX5_undo_0 : List UInt8 := [42, 3, 181, 0, 91, 42, 180, 1, 26, 154, 0, 9, 42, 4, 182, 0, 130, 172, 42, 89, 180, 1, 26, 4]
abbrev dktX5_undo_0 : List UInt8 := dkwX5_undo_0 ++ dktX5_undo_1
theorem dksX5_undo_0 : cX5_undo.data.toList.drop 0 = dktX5_undo_0 := by decide +kernel
theorem dksX5_undo_1 : cX5_undo.data.toList.drop 24 = dktX5_undo_1 := dk_seg dksX5_undo_0 24 rfl rfl
theorem dX5_undo_0 : decode cX5_undo 0 = .ok (.aload_n 0, 1) := dk_42 (dk_at dksX5_undo_0 0 rfl rfl)
theorem dX5_undo_1 : decode cX5_undo 1 = .ok (.iconst 0, 1) := dk_3 (dk_at dksX5_undo_0 1 rfl rfl)
theorem dX5_undo_2 : decode cX5_undo 2 = .ok (.putfield 91, 3) := dk_181 0 91 (dk_at dksX5_undo_0 2 rfl rfl)
theorem dX5_undo_5 : decode cX5_undo 5 = .ok (.aload_n 0, 1) := dk_42 (dk_at dksX5_undo_0 5 rfl rfl)
theorem dX5_undo_6 : decode cX5_undo 6 = .ok (.getfield 282, 3) := dk_180 1 26 (dk_at dksX5_undo_0 6 rfl rfl)
theorem dX5_undo_9 : decode cX5_undo 9 = .ok (.ifCond .ne 9, 3) := dk_154 0 9 (dk_at dksX5_undo_0 9 rfl rfl)
theorem dX5_undo_12 : decode cX5_undo 12 = .ok (.aload_n 0, 1) := dk_42 (dk_at dksX5_undo_0 12 rfl rfl)
theorem dX5_undo_13 : decode cX5_undo 13 = .ok (.iconst 1, 1) := dk_4 (dk_at dksX5_undo_0 13 rfl rfl)
theorem dX5_undo_14 : decode cX5_undo 14 = .ok (.invokevirtual 130, 3) := dk_182 0 130 (dk_at dksX5_undo_0 14 rfl rfl)
theorem dX5_undo_17 : decode cX5_undo 17 = .ok (.ireturn, 1) := dk_172 (dk_at dksX5_undo_0 17 rfl rfl)
theorem dX5_undo_18 : decode cX5_undo 18 = .ok (.aload_n 0, 1) := dk_42 (dk_at dksX5_undo_0 18 rfl rfl)
theorem dX5_undo_19 : decode cX5_undo 19 = .ok (.dup, 1) := dk_89 (dk_at dksX5_undo_0 19 rfl rfl)
theorem dX5_undo_20 : decode cX5_undo 20 = .ok (.getfield 282, 3) := dk_180 1 26 (dk_at dksX5_undo_0 20 rfl rfl)
theorem dX5_undo_23 : decode cX5_undo 23 = .ok (.iconst 1, 1) := dk_4 (dk_at dksX5_undo_0 23 rfl rfl)
theorem dX5_undo_24 : decode cX5_undo 24 = .ok (.isub, 1) := dk_100 (dk_at dksX5_undo_1 0 rfl rfl)
theorem dX5_undo_25 : decode cX5_undo 25 = .ok (.putfield 282, 3) := dk_181 1 26 (dk_at dksX5_undo_1 1 rfl rfl)
theorem dX5_undo_28 : decode cX5_undo 28 = .ok (.aload_n 0, 1) := dk_42 (dk_at dksX5_undo_1 4 rfl rfl)
theorem dX5_undo_29 : decode cX5_undo 29 = .ok (.aload_n 0, 1) := dk_42 (dk_at dksX5_undo_1 5 rfl rfl)
theorem dX5_undo_30 : decode cX5_undo 30 = .ok (.aload_n 0, 1) := dk_42 (dk_at dksX5_undo_1 6 rfl rfl)
theorem dX5_undo_31 : decode cX5_undo 31 = .ok (.getfield 282, 3) := dk_180 1 26 (dk_at dksX5_undo_1 7 rfl rfl)
theorem dX5_undo_34 : decode cX5_undo 34 = .ok (.invokevirtual 417, 3) := dk_182 1 161 (dk_at dksX5_undo_1 10 rfl rfl)
theorem dX5_undo_37 : decode cX5_undo 37 = .ok (.iconst 0, 1) := dk_3 (dk_at dksX5_undo_1 13 rfl rfl)
theorem dX5_undo_38 : decode cX5_undo 38 = .ok (.invokevirtual 87, 3) := dk_182 0 87 (dk_at dksX5_undo_1 14 rfl rfl)
theorem dX5_undo_41 : decode cX5_undo 41 = .ok (.aload_n 0, 1) := dk_42 (dk_at dksX5_undo_1 17 rfl rfl)
theorem dX5_undo_42 : decode cX5_undo 42 = .ok (.getfield 282, 3) := dk_180 1 26 (dk_at dksX5_undo_1 18 rfl rfl)
theorem dX5_undo_45 : decode cX5_undo 45 = .ok (.ireturn, 1) := dk_172 (dk_at dksX5_undo_1 21 rfl rfl)
abbrev cX5_slot : ByteArray := prog_17_method_120_code
def yX5_slot : MethodName := ⟨RX5, "slot", "(I)I"⟩
def dkwX5_slot_0 : List UInt8 := [5, 42, 180, 1, 29, 27, 96, 16, 10, 112, 96, 172]
abbrev dktX5_slot_0 : List UInt8 := dkwX5_slot_0 ++ []
theorem dksX5_slot_0 : cX5_slot.data.toList.drop 0 = dktX5_slot_0 := by decide +kernel
theorem dX5_slot_0 : decode cX5_slot 0 = .ok (.iconst 2, 1) := dk_5 (dk_at dksX5_slot_0 0 rfl rfl)
theorem dX5_slot_1 : decode cX5_slot 1 = .ok (.aload_n 0, 1) := dk_42 (dk_at dksX5_slot_0 1 rfl rfl)
theorem dX5_slot_2 : decode cX5_slot 2 = .ok (.getfield 285, 3) := dk_180 1 29 (dk_at dksX5_slot_0 2 rfl rfl)
theorem dX5_slot_5 : decode cX5_slot 5 = .ok (.iload_n 1, 1) := dk_27 (dk_at dksX5_slot_0 5 rfl rfl)
theorem dX5_slot_6 : decode cX5_slot 6 = .ok (.iadd, 1) := dk_96 (dk_at dksX5_slot_0 6 rfl rfl)
theorem dX5_slot_7 : decode cX5_slot 7 = .ok (.bipush 10, 2) := dk_16 10 (dk_at dksX5_slot_0 7 rfl rfl)
theorem dX5_slot_9 : decode cX5_slot 9 = .ok (.irem, 1) := dk_112 (dk_at dksX5_slot_0 9 rfl rfl)
theorem dX5_slot_10 : decode cX5_slot 10 = .ok (.iadd, 1) := dk_96 (dk_at dksX5_slot_0 10 rfl rfl)
theorem dX5_slot_11 : decode cX5_slot 11 = .ok (.ireturn, 1) := dk_172 (dk_at dksX5_slot_0 11 rfl rfl)
abbrev cX5_perform : ByteArray := prog_17_method_126_code
def yX5_perform : MethodName := ⟨RX5, "perform", "()I"⟩
def dkwX5_perform_1 : List UInt8 := [42, 182, 1, 175, 42, 180, 1, 119, 172]
abbrev dktX5_perform_1 : List UInt8 := dkwX5_perform_1 ++ []
def dkwX5_perform_0 : List UInt8 := [42, 3, 181, 0, 91, 42, 182, 1, 172, 42, 182, 1, 133, 42, 182, 1, 158, 42, 180, 1, 119, 158, 0, 7]
abbrev dktX5_perform_0 : List UInt8 := dkwX5_perform_0 ++ dktX5_perform_1
theorem dksX5_perform_0 : cX5_perform.data.toList.drop 0 = dktX5_perform_0 := by decide +kernel
theorem dksX5_perform_1 : cX5_perform.data.toList.drop 24 = dktX5_perform_1 := dk_seg dksX5_perform_0 24 rfl rfl
theorem dX5_perform_0 : decode cX5_perform 0 = .ok (.aload_n 0, 1) := dk_42 (dk_at dksX5_perform_0 0 rfl rfl)
theorem dX5_perform_1 : decode cX5_perform 1 = .ok (.iconst 0, 1) := dk_3 (dk_at dksX5_perform_0 1 rfl rfl)
theorem dX5_perform_2 : decode cX5_perform 2 = .ok (.putfield 91, 3) := dk_181 0 91 (dk_at dksX5_perform_0 2 rfl rfl)
theorem dX5_perform_5 : decode cX5_perform 5 = .ok (.aload_n 0, 1) := dk_42 (dk_at dksX5_perform_0 5 rfl rfl)
theorem dX5_perform_6 : decode cX5_perform 6 = .ok (.invokevirtual 428, 3) := dk_182 1 172 (dk_at dksX5_perform_0 6 rfl rfl)
theorem dX5_perform_9 : decode cX5_perform 9 = .ok (.aload_n 0, 1) := dk_42 (dk_at dksX5_perform_0 9 rfl rfl)
theorem dX5_perform_10 : decode cX5_perform 10 = .ok (.invokevirtual 389, 3) := dk_182 1 133 (dk_at dksX5_perform_0 10 rfl rfl)
theorem dX5_perform_13 : decode cX5_perform 13 = .ok (.aload_n 0, 1) := dk_42 (dk_at dksX5_perform_0 13 rfl rfl)
theorem dX5_perform_14 : decode cX5_perform 14 = .ok (.invokevirtual 414, 3) := dk_182 1 158 (dk_at dksX5_perform_0 14 rfl rfl)
theorem dX5_perform_17 : decode cX5_perform 17 = .ok (.aload_n 0, 1) := dk_42 (dk_at dksX5_perform_0 17 rfl rfl)
theorem dX5_perform_18 : decode cX5_perform 18 = .ok (.getfield 375, 3) := dk_180 1 119 (dk_at dksX5_perform_0 18 rfl rfl)
theorem dX5_perform_21 : decode cX5_perform 21 = .ok (.ifCond .le 7, 3) := dk_158 0 7 (dk_at dksX5_perform_0 21 rfl rfl)
theorem dX5_perform_24 : decode cX5_perform 24 = .ok (.aload_n 0, 1) := dk_42 (dk_at dksX5_perform_1 0 rfl rfl)
theorem dX5_perform_25 : decode cX5_perform 25 = .ok (.invokevirtual 431, 3) := dk_182 1 175 (dk_at dksX5_perform_1 1 rfl rfl)
theorem dX5_perform_28 : decode cX5_perform 28 = .ok (.aload_n 0, 1) := dk_42 (dk_at dksX5_perform_1 4 rfl rfl)
theorem dX5_perform_29 : decode cX5_perform 29 = .ok (.getfield 375, 3) := dk_180 1 119 (dk_at dksX5_perform_1 5 rfl rfl)
theorem dX5_perform_32 : decode cX5_perform 32 = .ok (.ireturn, 1) := dk_172 (dk_at dksX5_perform_1 8 rfl rfl)
abbrev cX5_records : ByteArray := prog_17_method_121_code
def yX5_records : MethodName := ⟨RX5, "records", "()V"⟩
def dkwX5_records_2 : List UInt8 := [180, 1, 26, 4, 96, 181, 1, 26, 177]
abbrev dktX5_records_2 : List UInt8 := dkwX5_records_2 ++ []
def dkwX5_records_1 : List UInt8 := [180, 1, 26, 4, 100, 181, 1, 26, 42, 3, 42, 42, 180, 1, 26, 182, 1, 161, 182, 0, 87, 42, 89]
abbrev dktX5_records_1 : List UInt8 := dkwX5_records_1 ++ dktX5_records_2
def dkwX5_records_0 : List UInt8 := [42, 180, 1, 26, 16, 10, 160, 0, 26, 42, 42, 180, 1, 29, 4, 96, 16, 10, 112, 181, 1, 29, 42, 89]
abbrev dktX5_records_0 : List UInt8 := dkwX5_records_0 ++ dktX5_records_1
theorem dksX5_records_0 : cX5_records.data.toList.drop 0 = dktX5_records_0 := by decide +kernel
theorem dksX5_records_1 : cX5_records.data.toList.drop 24 = dktX5_records_1 := dk_seg dksX5_records_0 24 rfl rfl
theorem dksX5_records_2 : cX5_records.data.toList.drop 47 = dktX5_records_2 := dk_seg dksX5_records_1 23 rfl rfl
theorem dX5_records_0 : decode cX5_records 0 = .ok (.aload_n 0, 1) := dk_42 (dk_at dksX5_records_0 0 rfl rfl)
theorem dX5_records_1 : decode cX5_records 1 = .ok (.getfield 282, 3) := dk_180 1 26 (dk_at dksX5_records_0 1 rfl rfl)
theorem dX5_records_4 : decode cX5_records 4 = .ok (.bipush 10, 2) := dk_16 10 (dk_at dksX5_records_0 4 rfl rfl)
theorem dX5_records_6 : decode cX5_records 6 = .ok (.if_icmp .ne 26, 3) := dk_160 0 26 (dk_at dksX5_records_0 6 rfl rfl)
theorem dX5_records_9 : decode cX5_records 9 = .ok (.aload_n 0, 1) := dk_42 (dk_at dksX5_records_0 9 rfl rfl)
theorem dX5_records_10 : decode cX5_records 10 = .ok (.aload_n 0, 1) := dk_42 (dk_at dksX5_records_0 10 rfl rfl)
theorem dX5_records_11 : decode cX5_records 11 = .ok (.getfield 285, 3) := dk_180 1 29 (dk_at dksX5_records_0 11 rfl rfl)
theorem dX5_records_14 : decode cX5_records 14 = .ok (.iconst 1, 1) := dk_4 (dk_at dksX5_records_0 14 rfl rfl)
theorem dX5_records_15 : decode cX5_records 15 = .ok (.iadd, 1) := dk_96 (dk_at dksX5_records_0 15 rfl rfl)
theorem dX5_records_16 : decode cX5_records 16 = .ok (.bipush 10, 2) := dk_16 10 (dk_at dksX5_records_0 16 rfl rfl)
theorem dX5_records_18 : decode cX5_records 18 = .ok (.irem, 1) := dk_112 (dk_at dksX5_records_0 18 rfl rfl)
theorem dX5_records_19 : decode cX5_records 19 = .ok (.putfield 285, 3) := dk_181 1 29 (dk_at dksX5_records_0 19 rfl rfl)
theorem dX5_records_22 : decode cX5_records 22 = .ok (.aload_n 0, 1) := dk_42 (dk_at dksX5_records_0 22 rfl rfl)
theorem dX5_records_23 : decode cX5_records 23 = .ok (.dup, 1) := dk_89 (dk_at dksX5_records_0 23 rfl rfl)
theorem dX5_records_24 : decode cX5_records 24 = .ok (.getfield 282, 3) := dk_180 1 26 (dk_at dksX5_records_1 0 rfl rfl)
theorem dX5_records_27 : decode cX5_records 27 = .ok (.iconst 1, 1) := dk_4 (dk_at dksX5_records_1 3 rfl rfl)
theorem dX5_records_28 : decode cX5_records 28 = .ok (.isub, 1) := dk_100 (dk_at dksX5_records_1 4 rfl rfl)
theorem dX5_records_29 : decode cX5_records 29 = .ok (.putfield 282, 3) := dk_181 1 26 (dk_at dksX5_records_1 5 rfl rfl)
theorem dX5_records_32 : decode cX5_records 32 = .ok (.aload_n 0, 1) := dk_42 (dk_at dksX5_records_1 8 rfl rfl)
theorem dX5_records_33 : decode cX5_records 33 = .ok (.iconst 0, 1) := dk_3 (dk_at dksX5_records_1 9 rfl rfl)
theorem dX5_records_34 : decode cX5_records 34 = .ok (.aload_n 0, 1) := dk_42 (dk_at dksX5_records_1 10 rfl rfl)
theorem dX5_records_35 : decode cX5_records 35 = .ok (.aload_n 0, 1) := dk_42 (dk_at dksX5_records_1 11 rfl rfl)
theorem dX5_records_36 : decode cX5_records 36 = .ok (.getfield 282, 3) := dk_180 1 26 (dk_at dksX5_records_1 12 rfl rfl)
theorem dX5_records_39 : decode cX5_records 39 = .ok (.invokevirtual 417, 3) := dk_182 1 161 (dk_at dksX5_records_1 15 rfl rfl)
theorem dX5_records_42 : decode cX5_records 42 = .ok (.invokevirtual 87, 3) := dk_182 0 87 (dk_at dksX5_records_1 18 rfl rfl)
theorem dX5_records_45 : decode cX5_records 45 = .ok (.aload_n 0, 1) := dk_42 (dk_at dksX5_records_1 21 rfl rfl)
theorem dX5_records_46 : decode cX5_records 46 = .ok (.dup, 1) := dk_89 (dk_at dksX5_records_1 22 rfl rfl)
theorem dX5_records_47 : decode cX5_records 47 = .ok (.getfield 282, 3) := dk_180 1 26 (dk_at dksX5_records_2 0 rfl rfl)
theorem dX5_records_50 : decode cX5_records 50 = .ok (.iconst 1, 1) := dk_4 (dk_at dksX5_records_2 3 rfl rfl)
theorem dX5_records_51 : decode cX5_records 51 = .ok (.iadd, 1) := dk_96 (dk_at dksX5_records_2 4 rfl rfl)
theorem dX5_records_52 : decode cX5_records 52 = .ok (.putfield 282, 3) := dk_181 1 26 (dk_at dksX5_records_2 5 rfl rfl)
theorem dX5_records_55 : decode cX5_records 55 = .ok (.return_, 1) := dk_177 (dk_at dksX5_records_2 8 rfl rfl)
abbrev cX5_remembers : ByteArray := prog_17_method_125_code
def yX5_remembers : MethodName := ⟨RX5, "remembers", "()V"⟩
def dkwX5_remembers_6 : List UInt8 := [132, 2, 1, 167, 255, 174, 177]
abbrev dktX5_remembers_6 : List UInt8 := dkwX5_remembers_6 ++ []
def dkwX5_remembers_5 : List UInt8 := [28, 104, 42, 180, 0, 7, 42, 180, 0, 94, 42, 27, 28, 182, 1, 169, 96, 7, 96, 184, 0, 236]
abbrev dktX5_remembers_5 : List UInt8 := dkwX5_remembers_5 ++ dktX5_remembers_6
def dkwX5_remembers_4 : List UInt8 := [180, 0, 7, 42, 180, 0, 94, 42, 27, 28, 182, 1, 169, 96, 4, 96, 184, 0, 236, 42, 180, 0, 74, 6]
abbrev dktX5_remembers_4 : List UInt8 := dkwX5_remembers_4 ++ dktX5_remembers_5
def dkwX5_remembers_3 : List UInt8 := [28, 182, 1, 169, 42, 180, 0, 65, 28, 46, 133, 182, 0, 228, 42, 180, 0, 71, 6, 28, 104, 42]
abbrev dktX5_remembers_3 : List UInt8 := dkwX5_remembers_3 ++ dktX5_remembers_4
def dkwX5_remembers_2 : List UInt8 := [182, 1, 164, 42, 180, 1, 119, 133, 182, 0, 228, 3, 61, 28, 42, 180, 1, 119, 162, 0, 80, 42, 42, 27]
abbrev dktX5_remembers_2 : List UInt8 := dkwX5_remembers_2 ++ dktX5_remembers_3
def dkwX5_remembers_1 : List UInt8 := [20, 1, 167, 182, 0, 228, 42, 8, 182, 0, 97, 60, 42, 8, 27, 4, 96, 133, 182, 0, 228, 42, 42, 27]
abbrev dktX5_remembers_1 : List UInt8 := dkwX5_remembers_1 ++ dktX5_remembers_2
def dkwX5_remembers_0 : List UInt8 := [42, 8, 182, 0, 97, 8, 160, 0, 22, 42, 16, 126, 17, 0, 211, 3, 7, 182, 1, 145, 42, 8]
abbrev dktX5_remembers_0 : List UInt8 := dkwX5_remembers_0 ++ dktX5_remembers_1
theorem dksX5_remembers_0 : cX5_remembers.data.toList.drop 0 = dktX5_remembers_0 := by decide +kernel
theorem dksX5_remembers_1 : cX5_remembers.data.toList.drop 22 = dktX5_remembers_1 := dk_seg dksX5_remembers_0 22 rfl rfl
theorem dksX5_remembers_2 : cX5_remembers.data.toList.drop 46 = dktX5_remembers_2 := dk_seg dksX5_remembers_1 24 rfl rfl
theorem dksX5_remembers_3 : cX5_remembers.data.toList.drop 70 = dktX5_remembers_3 := dk_seg dksX5_remembers_2 24 rfl rfl
theorem dksX5_remembers_4 : cX5_remembers.data.toList.drop 92 = dktX5_remembers_4 := dk_seg dksX5_remembers_3 22 rfl rfl
theorem dksX5_remembers_5 : cX5_remembers.data.toList.drop 116 = dktX5_remembers_5 := dk_seg dksX5_remembers_4 24 rfl rfl
theorem dksX5_remembers_6 : cX5_remembers.data.toList.drop 138 = dktX5_remembers_6 := dk_seg dksX5_remembers_5 22 rfl rfl
theorem dX5_remembers_0 : decode cX5_remembers 0 = .ok (.aload_n 0, 1) := dk_42 (dk_at dksX5_remembers_0 0 rfl rfl)
theorem dX5_remembers_1 : decode cX5_remembers 1 = .ok (.iconst 5, 1) := dk_8 (dk_at dksX5_remembers_0 1 rfl rfl)
theorem dX5_remembers_2 : decode cX5_remembers 2 = .ok (.invokevirtual 97, 3) := dk_182 0 97 (dk_at dksX5_remembers_0 2 rfl rfl)
theorem dX5_remembers_5 : decode cX5_remembers 5 = .ok (.iconst 5, 1) := dk_8 (dk_at dksX5_remembers_0 5 rfl rfl)
theorem dX5_remembers_6 : decode cX5_remembers 6 = .ok (.if_icmp .ne 22, 3) := dk_160 0 22 (dk_at dksX5_remembers_0 6 rfl rfl)
theorem dX5_remembers_9 : decode cX5_remembers 9 = .ok (.aload_n 0, 1) := dk_42 (dk_at dksX5_remembers_0 9 rfl rfl)
theorem dX5_remembers_10 : decode cX5_remembers 10 = .ok (.bipush 126, 2) := dk_16 126 (dk_at dksX5_remembers_0 10 rfl rfl)
theorem dX5_remembers_12 : decode cX5_remembers 12 = .ok (.sipush 211, 3) := dk_17 0 211 (dk_at dksX5_remembers_0 12 rfl rfl)
theorem dX5_remembers_15 : decode cX5_remembers 15 = .ok (.iconst 0, 1) := dk_3 (dk_at dksX5_remembers_0 15 rfl rfl)
theorem dX5_remembers_16 : decode cX5_remembers 16 = .ok (.iconst 4, 1) := dk_7 (dk_at dksX5_remembers_0 16 rfl rfl)
theorem dX5_remembers_17 : decode cX5_remembers 17 = .ok (.invokevirtual 401, 3) := dk_182 1 145 (dk_at dksX5_remembers_0 17 rfl rfl)
theorem dX5_remembers_20 : decode cX5_remembers 20 = .ok (.aload_n 0, 1) := dk_42 (dk_at dksX5_remembers_0 20 rfl rfl)
theorem dX5_remembers_21 : decode cX5_remembers 21 = .ok (.iconst 5, 1) := dk_8 (dk_at dksX5_remembers_0 21 rfl rfl)
theorem dX5_remembers_22 : decode cX5_remembers 22 = .ok (.ldc2_w 423, 3) := dk_20 1 167 (dk_at dksX5_remembers_1 0 rfl rfl)
theorem dX5_remembers_25 : decode cX5_remembers 25 = .ok (.invokevirtual 228, 3) := dk_182 0 228 (dk_at dksX5_remembers_1 3 rfl rfl)
theorem dX5_remembers_28 : decode cX5_remembers 28 = .ok (.aload_n 0, 1) := dk_42 (dk_at dksX5_remembers_1 6 rfl rfl)
theorem dX5_remembers_29 : decode cX5_remembers 29 = .ok (.iconst 5, 1) := dk_8 (dk_at dksX5_remembers_1 7 rfl rfl)
theorem dX5_remembers_30 : decode cX5_remembers 30 = .ok (.invokevirtual 97, 3) := dk_182 0 97 (dk_at dksX5_remembers_1 8 rfl rfl)
theorem dX5_remembers_33 : decode cX5_remembers 33 = .ok (.istore_n 1, 1) := dk_60 (dk_at dksX5_remembers_1 11 rfl rfl)
theorem dX5_remembers_34 : decode cX5_remembers 34 = .ok (.aload_n 0, 1) := dk_42 (dk_at dksX5_remembers_1 12 rfl rfl)
theorem dX5_remembers_35 : decode cX5_remembers 35 = .ok (.iconst 5, 1) := dk_8 (dk_at dksX5_remembers_1 13 rfl rfl)
theorem dX5_remembers_36 : decode cX5_remembers 36 = .ok (.iload_n 1, 1) := dk_27 (dk_at dksX5_remembers_1 14 rfl rfl)
theorem dX5_remembers_37 : decode cX5_remembers 37 = .ok (.iconst 1, 1) := dk_4 (dk_at dksX5_remembers_1 15 rfl rfl)
theorem dX5_remembers_38 : decode cX5_remembers 38 = .ok (.iadd, 1) := dk_96 (dk_at dksX5_remembers_1 16 rfl rfl)
theorem dX5_remembers_39 : decode cX5_remembers 39 = .ok (.i2l, 1) := dk_133 (dk_at dksX5_remembers_1 17 rfl rfl)
theorem dX5_remembers_40 : decode cX5_remembers 40 = .ok (.invokevirtual 228, 3) := dk_182 0 228 (dk_at dksX5_remembers_1 18 rfl rfl)
theorem dX5_remembers_43 : decode cX5_remembers 43 = .ok (.aload_n 0, 1) := dk_42 (dk_at dksX5_remembers_1 21 rfl rfl)
theorem dX5_remembers_44 : decode cX5_remembers 44 = .ok (.aload_n 0, 1) := dk_42 (dk_at dksX5_remembers_1 22 rfl rfl)
theorem dX5_remembers_45 : decode cX5_remembers 45 = .ok (.iload_n 1, 1) := dk_27 (dk_at dksX5_remembers_1 23 rfl rfl)
theorem dX5_remembers_46 : decode cX5_remembers 46 = .ok (.invokevirtual 420, 3) := dk_182 1 164 (dk_at dksX5_remembers_2 0 rfl rfl)
theorem dX5_remembers_49 : decode cX5_remembers 49 = .ok (.aload_n 0, 1) := dk_42 (dk_at dksX5_remembers_2 3 rfl rfl)
theorem dX5_remembers_50 : decode cX5_remembers 50 = .ok (.getfield 375, 3) := dk_180 1 119 (dk_at dksX5_remembers_2 4 rfl rfl)
theorem dX5_remembers_53 : decode cX5_remembers 53 = .ok (.i2l, 1) := dk_133 (dk_at dksX5_remembers_2 7 rfl rfl)
theorem dX5_remembers_54 : decode cX5_remembers 54 = .ok (.invokevirtual 228, 3) := dk_182 0 228 (dk_at dksX5_remembers_2 8 rfl rfl)
theorem dX5_remembers_57 : decode cX5_remembers 57 = .ok (.iconst 0, 1) := dk_3 (dk_at dksX5_remembers_2 11 rfl rfl)
theorem dX5_remembers_58 : decode cX5_remembers 58 = .ok (.istore_n 2, 1) := dk_61 (dk_at dksX5_remembers_2 12 rfl rfl)
theorem dX5_remembers_59 : decode cX5_remembers 59 = .ok (.iload_n 2, 1) := dk_28 (dk_at dksX5_remembers_2 13 rfl rfl)
theorem dX5_remembers_60 : decode cX5_remembers 60 = .ok (.aload_n 0, 1) := dk_42 (dk_at dksX5_remembers_2 14 rfl rfl)
theorem dX5_remembers_61 : decode cX5_remembers 61 = .ok (.getfield 375, 3) := dk_180 1 119 (dk_at dksX5_remembers_2 15 rfl rfl)
theorem dX5_remembers_64 : decode cX5_remembers 64 = .ok (.if_icmp .ge 80, 3) := dk_162 0 80 (dk_at dksX5_remembers_2 18 rfl rfl)
theorem dX5_remembers_67 : decode cX5_remembers 67 = .ok (.aload_n 0, 1) := dk_42 (dk_at dksX5_remembers_2 21 rfl rfl)
theorem dX5_remembers_68 : decode cX5_remembers 68 = .ok (.aload_n 0, 1) := dk_42 (dk_at dksX5_remembers_2 22 rfl rfl)
theorem dX5_remembers_69 : decode cX5_remembers 69 = .ok (.iload_n 1, 1) := dk_27 (dk_at dksX5_remembers_2 23 rfl rfl)
theorem dX5_remembers_70 : decode cX5_remembers 70 = .ok (.iload_n 2, 1) := dk_28 (dk_at dksX5_remembers_3 0 rfl rfl)
theorem dX5_remembers_71 : decode cX5_remembers 71 = .ok (.invokevirtual 425, 3) := dk_182 1 169 (dk_at dksX5_remembers_3 1 rfl rfl)
theorem dX5_remembers_74 : decode cX5_remembers 74 = .ok (.aload_n 0, 1) := dk_42 (dk_at dksX5_remembers_3 4 rfl rfl)
theorem dX5_remembers_75 : decode cX5_remembers 75 = .ok (.getfield 65, 3) := dk_180 0 65 (dk_at dksX5_remembers_3 5 rfl rfl)
theorem dX5_remembers_78 : decode cX5_remembers 78 = .ok (.iload_n 2, 1) := dk_28 (dk_at dksX5_remembers_3 8 rfl rfl)
theorem dX5_remembers_79 : decode cX5_remembers 79 = .ok (.iaload, 1) := dk_46 (dk_at dksX5_remembers_3 9 rfl rfl)
theorem dX5_remembers_80 : decode cX5_remembers 80 = .ok (.i2l, 1) := dk_133 (dk_at dksX5_remembers_3 10 rfl rfl)
theorem dX5_remembers_81 : decode cX5_remembers 81 = .ok (.invokevirtual 228, 3) := dk_182 0 228 (dk_at dksX5_remembers_3 11 rfl rfl)
theorem dX5_remembers_84 : decode cX5_remembers 84 = .ok (.aload_n 0, 1) := dk_42 (dk_at dksX5_remembers_3 14 rfl rfl)
theorem dX5_remembers_85 : decode cX5_remembers 85 = .ok (.getfield 71, 3) := dk_180 0 71 (dk_at dksX5_remembers_3 15 rfl rfl)
theorem dX5_remembers_88 : decode cX5_remembers 88 = .ok (.iconst 3, 1) := dk_6 (dk_at dksX5_remembers_3 18 rfl rfl)
theorem dX5_remembers_89 : decode cX5_remembers 89 = .ok (.iload_n 2, 1) := dk_28 (dk_at dksX5_remembers_3 19 rfl rfl)
theorem dX5_remembers_90 : decode cX5_remembers 90 = .ok (.imul, 1) := dk_104 (dk_at dksX5_remembers_3 20 rfl rfl)
theorem dX5_remembers_91 : decode cX5_remembers 91 = .ok (.aload_n 0, 1) := dk_42 (dk_at dksX5_remembers_3 21 rfl rfl)
theorem dX5_remembers_92 : decode cX5_remembers 92 = .ok (.getfield 7, 3) := dk_180 0 7 (dk_at dksX5_remembers_4 0 rfl rfl)
theorem dX5_remembers_95 : decode cX5_remembers 95 = .ok (.aload_n 0, 1) := dk_42 (dk_at dksX5_remembers_4 3 rfl rfl)
theorem dX5_remembers_96 : decode cX5_remembers 96 = .ok (.getfield 94, 3) := dk_180 0 94 (dk_at dksX5_remembers_4 4 rfl rfl)
theorem dX5_remembers_99 : decode cX5_remembers 99 = .ok (.aload_n 0, 1) := dk_42 (dk_at dksX5_remembers_4 7 rfl rfl)
theorem dX5_remembers_100 : decode cX5_remembers 100 = .ok (.iload_n 1, 1) := dk_27 (dk_at dksX5_remembers_4 8 rfl rfl)
theorem dX5_remembers_101 : decode cX5_remembers 101 = .ok (.iload_n 2, 1) := dk_28 (dk_at dksX5_remembers_4 9 rfl rfl)
theorem dX5_remembers_102 : decode cX5_remembers 102 = .ok (.invokevirtual 425, 3) := dk_182 1 169 (dk_at dksX5_remembers_4 10 rfl rfl)
theorem dX5_remembers_105 : decode cX5_remembers 105 = .ok (.iadd, 1) := dk_96 (dk_at dksX5_remembers_4 13 rfl rfl)
theorem dX5_remembers_106 : decode cX5_remembers 106 = .ok (.iconst 1, 1) := dk_4 (dk_at dksX5_remembers_4 14 rfl rfl)
theorem dX5_remembers_107 : decode cX5_remembers 107 = .ok (.iadd, 1) := dk_96 (dk_at dksX5_remembers_4 15 rfl rfl)
theorem dX5_remembers_108 : decode cX5_remembers 108 = .ok (.invokestatic 236, 3) := dk_184 0 236 (dk_at dksX5_remembers_4 16 rfl rfl)
theorem dX5_remembers_111 : decode cX5_remembers 111 = .ok (.aload_n 0, 1) := dk_42 (dk_at dksX5_remembers_4 19 rfl rfl)
theorem dX5_remembers_112 : decode cX5_remembers 112 = .ok (.getfield 74, 3) := dk_180 0 74 (dk_at dksX5_remembers_4 20 rfl rfl)
theorem dX5_remembers_115 : decode cX5_remembers 115 = .ok (.iconst 3, 1) := dk_6 (dk_at dksX5_remembers_4 23 rfl rfl)
theorem dX5_remembers_116 : decode cX5_remembers 116 = .ok (.iload_n 2, 1) := dk_28 (dk_at dksX5_remembers_5 0 rfl rfl)
theorem dX5_remembers_117 : decode cX5_remembers 117 = .ok (.imul, 1) := dk_104 (dk_at dksX5_remembers_5 1 rfl rfl)
theorem dX5_remembers_118 : decode cX5_remembers 118 = .ok (.aload_n 0, 1) := dk_42 (dk_at dksX5_remembers_5 2 rfl rfl)
theorem dX5_remembers_119 : decode cX5_remembers 119 = .ok (.getfield 7, 3) := dk_180 0 7 (dk_at dksX5_remembers_5 3 rfl rfl)
theorem dX5_remembers_122 : decode cX5_remembers 122 = .ok (.aload_n 0, 1) := dk_42 (dk_at dksX5_remembers_5 6 rfl rfl)
theorem dX5_remembers_123 : decode cX5_remembers 123 = .ok (.getfield 94, 3) := dk_180 0 94 (dk_at dksX5_remembers_5 7 rfl rfl)
theorem dX5_remembers_126 : decode cX5_remembers 126 = .ok (.aload_n 0, 1) := dk_42 (dk_at dksX5_remembers_5 10 rfl rfl)
theorem dX5_remembers_127 : decode cX5_remembers 127 = .ok (.iload_n 1, 1) := dk_27 (dk_at dksX5_remembers_5 11 rfl rfl)
theorem dX5_remembers_128 : decode cX5_remembers 128 = .ok (.iload_n 2, 1) := dk_28 (dk_at dksX5_remembers_5 12 rfl rfl)
theorem dX5_remembers_129 : decode cX5_remembers 129 = .ok (.invokevirtual 425, 3) := dk_182 1 169 (dk_at dksX5_remembers_5 13 rfl rfl)
theorem dX5_remembers_132 : decode cX5_remembers 132 = .ok (.iadd, 1) := dk_96 (dk_at dksX5_remembers_5 16 rfl rfl)
theorem dX5_remembers_133 : decode cX5_remembers 133 = .ok (.iconst 4, 1) := dk_7 (dk_at dksX5_remembers_5 17 rfl rfl)
theorem dX5_remembers_134 : decode cX5_remembers 134 = .ok (.iadd, 1) := dk_96 (dk_at dksX5_remembers_5 18 rfl rfl)
theorem dX5_remembers_135 : decode cX5_remembers 135 = .ok (.invokestatic 236, 3) := dk_184 0 236 (dk_at dksX5_remembers_5 19 rfl rfl)
theorem dX5_remembers_138 : decode cX5_remembers 138 = .ok (.iinc 2 1, 3) := dk_132 2 1 (dk_at dksX5_remembers_6 0 rfl rfl)
theorem dX5_remembers_141 : decode cX5_remembers 141 = .ok (.goto (-82), 3) := dk_167 255 174 (dk_at dksX5_remembers_6 3 rfl rfl)
theorem dX5_remembers_144 : decode cX5_remembers 144 = .ok (.return_, 1) := dk_177 (dk_at dksX5_remembers_6 6 rfl rfl)
abbrev cX5_planAt : ByteArray := prog_17_method_123_code
def yX5_planAt : MethodName := ⟨RX5, "planAt", "(I)I"⟩
def dkwX5_planAt_0 : List UInt8 := [16, 126, 17, 0, 211, 27, 104, 96, 172]
abbrev dktX5_planAt_0 : List UInt8 := dkwX5_planAt_0 ++ []
theorem dksX5_planAt_0 : cX5_planAt.data.toList.drop 0 = dktX5_planAt_0 := by decide +kernel
theorem dX5_planAt_0 : decode cX5_planAt 0 = .ok (.bipush 126, 2) := dk_16 126 (dk_at dksX5_planAt_0 0 rfl rfl)
theorem dX5_planAt_2 : decode cX5_planAt 2 = .ok (.sipush 211, 3) := dk_17 0 211 (dk_at dksX5_planAt_0 2 rfl rfl)
theorem dX5_planAt_5 : decode cX5_planAt 5 = .ok (.iload_n 1, 1) := dk_27 (dk_at dksX5_planAt_0 5 rfl rfl)
theorem dX5_planAt_6 : decode cX5_planAt 6 = .ok (.imul, 1) := dk_104 (dk_at dksX5_planAt_0 6 rfl rfl)
theorem dX5_planAt_7 : decode cX5_planAt 7 = .ok (.iadd, 1) := dk_96 (dk_at dksX5_planAt_0 7 rfl rfl)
theorem dX5_planAt_8 : decode cX5_planAt 8 = .ok (.ireturn, 1) := dk_172 (dk_at dksX5_planAt_0 8 rfl rfl)
abbrev cX5_stepAt : ByteArray := prog_17_method_124_code
def yX5_stepAt : MethodName := ⟨RX5, "stepAt", "(II)I"⟩
def dkwX5_stepAt_0 : List UInt8 := [42, 27, 182, 1, 164, 4, 96, 16, 7, 28, 104, 96, 172]
abbrev dktX5_stepAt_0 : List UInt8 := dkwX5_stepAt_0 ++ []
theorem dksX5_stepAt_0 : cX5_stepAt.data.toList.drop 0 = dktX5_stepAt_0 := by decide +kernel
theorem dX5_stepAt_0 : decode cX5_stepAt 0 = .ok (.aload_n 0, 1) := dk_42 (dk_at dksX5_stepAt_0 0 rfl rfl)
theorem dX5_stepAt_1 : decode cX5_stepAt 1 = .ok (.iload_n 1, 1) := dk_27 (dk_at dksX5_stepAt_0 1 rfl rfl)
theorem dX5_stepAt_2 : decode cX5_stepAt 2 = .ok (.invokevirtual 420, 3) := dk_182 1 164 (dk_at dksX5_stepAt_0 2 rfl rfl)
theorem dX5_stepAt_5 : decode cX5_stepAt 5 = .ok (.iconst 1, 1) := dk_4 (dk_at dksX5_stepAt_0 5 rfl rfl)
theorem dX5_stepAt_6 : decode cX5_stepAt 6 = .ok (.iadd, 1) := dk_96 (dk_at dksX5_stepAt_0 6 rfl rfl)
theorem dX5_stepAt_7 : decode cX5_stepAt 7 = .ok (.bipush 7, 2) := dk_16 7 (dk_at dksX5_stepAt_0 7 rfl rfl)
theorem dX5_stepAt_9 : decode cX5_stepAt 9 = .ok (.iload_n 2, 1) := dk_28 (dk_at dksX5_stepAt_0 9 rfl rfl)
theorem dX5_stepAt_10 : decode cX5_stepAt 10 = .ok (.imul, 1) := dk_104 (dk_at dksX5_stepAt_0 10 rfl rfl)
theorem dX5_stepAt_11 : decode cX5_stepAt 11 = .ok (.iadd, 1) := dk_96 (dk_at dksX5_stepAt_0 11 rfl rfl)
theorem dX5_stepAt_12 : decode cX5_stepAt 12 = .ok (.ireturn, 1) := dk_172 (dk_at dksX5_stepAt_0 12 rfl rfl)
abbrev cX5_takeBack : ByteArray := prog_17_method_130_code
def yX5_takeBack : MethodName := ⟨RX5, "takeBack", "()I"⟩
def dkwX5_takeBack_2 : List UInt8 := [182, 1, 158, 42, 8, 27, 133, 182, 0, 228, 42, 42, 27, 182, 1, 164, 182, 0, 97, 172]
abbrev dktX5_takeBack_2 : List UInt8 := dkwX5_takeBack_2 ++ []
def dkwX5_takeBack_1 : List UInt8 := [153, 0, 11, 42, 27, 182, 1, 184, 154, 0, 9, 42, 4, 182, 0, 130, 172, 42, 182, 1, 172, 42]
abbrev dktX5_takeBack_1 : List UInt8 := dkwX5_takeBack_1 ++ dktX5_takeBack_2
def dkwX5_takeBack_0 : List UInt8 := [42, 3, 181, 0, 91, 42, 8, 182, 0, 97, 4, 100, 60, 27, 155, 0, 19, 42, 27, 182, 1, 181]
abbrev dktX5_takeBack_0 : List UInt8 := dkwX5_takeBack_0 ++ dktX5_takeBack_1
theorem dksX5_takeBack_0 : cX5_takeBack.data.toList.drop 0 = dktX5_takeBack_0 := by decide +kernel
theorem dksX5_takeBack_1 : cX5_takeBack.data.toList.drop 22 = dktX5_takeBack_1 := dk_seg dksX5_takeBack_0 22 rfl rfl
theorem dksX5_takeBack_2 : cX5_takeBack.data.toList.drop 44 = dktX5_takeBack_2 := dk_seg dksX5_takeBack_1 22 rfl rfl
theorem dX5_takeBack_0 : decode cX5_takeBack 0 = .ok (.aload_n 0, 1) := dk_42 (dk_at dksX5_takeBack_0 0 rfl rfl)
theorem dX5_takeBack_1 : decode cX5_takeBack 1 = .ok (.iconst 0, 1) := dk_3 (dk_at dksX5_takeBack_0 1 rfl rfl)
theorem dX5_takeBack_2 : decode cX5_takeBack 2 = .ok (.putfield 91, 3) := dk_181 0 91 (dk_at dksX5_takeBack_0 2 rfl rfl)
theorem dX5_takeBack_5 : decode cX5_takeBack 5 = .ok (.aload_n 0, 1) := dk_42 (dk_at dksX5_takeBack_0 5 rfl rfl)
theorem dX5_takeBack_6 : decode cX5_takeBack 6 = .ok (.iconst 5, 1) := dk_8 (dk_at dksX5_takeBack_0 6 rfl rfl)
theorem dX5_takeBack_7 : decode cX5_takeBack 7 = .ok (.invokevirtual 97, 3) := dk_182 0 97 (dk_at dksX5_takeBack_0 7 rfl rfl)
theorem dX5_takeBack_10 : decode cX5_takeBack 10 = .ok (.iconst 1, 1) := dk_4 (dk_at dksX5_takeBack_0 10 rfl rfl)
theorem dX5_takeBack_11 : decode cX5_takeBack 11 = .ok (.isub, 1) := dk_100 (dk_at dksX5_takeBack_0 11 rfl rfl)
theorem dX5_takeBack_12 : decode cX5_takeBack 12 = .ok (.istore_n 1, 1) := dk_60 (dk_at dksX5_takeBack_0 12 rfl rfl)
theorem dX5_takeBack_13 : decode cX5_takeBack 13 = .ok (.iload_n 1, 1) := dk_27 (dk_at dksX5_takeBack_0 13 rfl rfl)
theorem dX5_takeBack_14 : decode cX5_takeBack 14 = .ok (.ifCond .lt 19, 3) := dk_155 0 19 (dk_at dksX5_takeBack_0 14 rfl rfl)
theorem dX5_takeBack_17 : decode cX5_takeBack 17 = .ok (.aload_n 0, 1) := dk_42 (dk_at dksX5_takeBack_0 17 rfl rfl)
theorem dX5_takeBack_18 : decode cX5_takeBack 18 = .ok (.iload_n 1, 1) := dk_27 (dk_at dksX5_takeBack_0 18 rfl rfl)
theorem dX5_takeBack_19 : decode cX5_takeBack 19 = .ok (.invokevirtual 437, 3) := dk_182 1 181 (dk_at dksX5_takeBack_0 19 rfl rfl)
theorem dX5_takeBack_22 : decode cX5_takeBack 22 = .ok (.ifCond .eq 11, 3) := dk_153 0 11 (dk_at dksX5_takeBack_1 0 rfl rfl)
theorem dX5_takeBack_25 : decode cX5_takeBack 25 = .ok (.aload_n 0, 1) := dk_42 (dk_at dksX5_takeBack_1 3 rfl rfl)
theorem dX5_takeBack_26 : decode cX5_takeBack 26 = .ok (.iload_n 1, 1) := dk_27 (dk_at dksX5_takeBack_1 4 rfl rfl)
theorem dX5_takeBack_27 : decode cX5_takeBack 27 = .ok (.invokevirtual 440, 3) := dk_182 1 184 (dk_at dksX5_takeBack_1 5 rfl rfl)
theorem dX5_takeBack_30 : decode cX5_takeBack 30 = .ok (.ifCond .ne 9, 3) := dk_154 0 9 (dk_at dksX5_takeBack_1 8 rfl rfl)
theorem dX5_takeBack_33 : decode cX5_takeBack 33 = .ok (.aload_n 0, 1) := dk_42 (dk_at dksX5_takeBack_1 11 rfl rfl)
theorem dX5_takeBack_34 : decode cX5_takeBack 34 = .ok (.iconst 1, 1) := dk_4 (dk_at dksX5_takeBack_1 12 rfl rfl)
theorem dX5_takeBack_35 : decode cX5_takeBack 35 = .ok (.invokevirtual 130, 3) := dk_182 0 130 (dk_at dksX5_takeBack_1 13 rfl rfl)
theorem dX5_takeBack_38 : decode cX5_takeBack 38 = .ok (.ireturn, 1) := dk_172 (dk_at dksX5_takeBack_1 16 rfl rfl)
theorem dX5_takeBack_39 : decode cX5_takeBack 39 = .ok (.aload_n 0, 1) := dk_42 (dk_at dksX5_takeBack_1 17 rfl rfl)
theorem dX5_takeBack_40 : decode cX5_takeBack 40 = .ok (.invokevirtual 428, 3) := dk_182 1 172 (dk_at dksX5_takeBack_1 18 rfl rfl)
theorem dX5_takeBack_43 : decode cX5_takeBack 43 = .ok (.aload_n 0, 1) := dk_42 (dk_at dksX5_takeBack_1 21 rfl rfl)
theorem dX5_takeBack_44 : decode cX5_takeBack 44 = .ok (.invokevirtual 414, 3) := dk_182 1 158 (dk_at dksX5_takeBack_2 0 rfl rfl)
theorem dX5_takeBack_47 : decode cX5_takeBack 47 = .ok (.aload_n 0, 1) := dk_42 (dk_at dksX5_takeBack_2 3 rfl rfl)
theorem dX5_takeBack_48 : decode cX5_takeBack 48 = .ok (.iconst 5, 1) := dk_8 (dk_at dksX5_takeBack_2 4 rfl rfl)
theorem dX5_takeBack_49 : decode cX5_takeBack 49 = .ok (.iload_n 1, 1) := dk_27 (dk_at dksX5_takeBack_2 5 rfl rfl)
theorem dX5_takeBack_50 : decode cX5_takeBack 50 = .ok (.i2l, 1) := dk_133 (dk_at dksX5_takeBack_2 6 rfl rfl)
theorem dX5_takeBack_51 : decode cX5_takeBack 51 = .ok (.invokevirtual 228, 3) := dk_182 0 228 (dk_at dksX5_takeBack_2 7 rfl rfl)
theorem dX5_takeBack_54 : decode cX5_takeBack 54 = .ok (.aload_n 0, 1) := dk_42 (dk_at dksX5_takeBack_2 10 rfl rfl)
theorem dX5_takeBack_55 : decode cX5_takeBack 55 = .ok (.aload_n 0, 1) := dk_42 (dk_at dksX5_takeBack_2 11 rfl rfl)
theorem dX5_takeBack_56 : decode cX5_takeBack 56 = .ok (.iload_n 1, 1) := dk_27 (dk_at dksX5_takeBack_2 12 rfl rfl)
theorem dX5_takeBack_57 : decode cX5_takeBack 57 = .ok (.invokevirtual 420, 3) := dk_182 1 164 (dk_at dksX5_takeBack_2 13 rfl rfl)
theorem dX5_takeBack_60 : decode cX5_takeBack 60 = .ok (.invokevirtual 97, 3) := dk_182 0 97 (dk_at dksX5_takeBack_2 16 rfl rfl)
theorem dX5_takeBack_63 : decode cX5_takeBack 63 = .ok (.ireturn, 1) := dk_172 (dk_at dksX5_takeBack_2 19 rfl rfl)
abbrev cX5_areThere : ByteArray := prog_17_method_128_code
def yX5_areThere : MethodName := ⟨RX5, "areThere", "(I)Z"⟩
def dkwX5_areThere_3 : List UInt8 := [132, 2, 1, 167, 255, 186, 4, 172]
abbrev dktX5_areThere_3 : List UInt8 := dkwX5_areThere_3 ++ []
def dkwX5_areThere_2 : List UInt8 := [28, 182, 1, 169, 182, 0, 97, 182, 0, 118, 42, 180, 0, 7, 29, 184, 0, 232, 153, 0, 5, 3, 172]
abbrev dktX5_areThere_2 : List UInt8 := dkwX5_areThere_2 ++ dktX5_areThere_3
def dkwX5_areThere_1 : List UInt8 := [182, 1, 169, 96, 7, 96, 62, 42, 27, 28, 182, 1, 178, 153, 0, 34, 42, 180, 0, 7, 42, 42, 42, 27]
abbrev dktX5_areThere_1 : List UInt8 := dkwX5_areThere_1 ++ dktX5_areThere_2
def dkwX5_areThere_0 : List UInt8 := [3, 61, 28, 42, 42, 27, 182, 1, 164, 182, 0, 97, 162, 0, 63, 42, 180, 0, 94, 42, 27, 28]
abbrev dktX5_areThere_0 : List UInt8 := dkwX5_areThere_0 ++ dktX5_areThere_1
theorem dksX5_areThere_0 : cX5_areThere.data.toList.drop 0 = dktX5_areThere_0 := by decide +kernel
theorem dksX5_areThere_1 : cX5_areThere.data.toList.drop 22 = dktX5_areThere_1 := dk_seg dksX5_areThere_0 22 rfl rfl
theorem dksX5_areThere_2 : cX5_areThere.data.toList.drop 46 = dktX5_areThere_2 := dk_seg dksX5_areThere_1 24 rfl rfl
theorem dksX5_areThere_3 : cX5_areThere.data.toList.drop 69 = dktX5_areThere_3 := dk_seg dksX5_areThere_2 23 rfl rfl
theorem dX5_areThere_0 : decode cX5_areThere 0 = .ok (.iconst 0, 1) := dk_3 (dk_at dksX5_areThere_0 0 rfl rfl)
theorem dX5_areThere_1 : decode cX5_areThere 1 = .ok (.istore_n 2, 1) := dk_61 (dk_at dksX5_areThere_0 1 rfl rfl)
theorem dX5_areThere_2 : decode cX5_areThere 2 = .ok (.iload_n 2, 1) := dk_28 (dk_at dksX5_areThere_0 2 rfl rfl)
theorem dX5_areThere_3 : decode cX5_areThere 3 = .ok (.aload_n 0, 1) := dk_42 (dk_at dksX5_areThere_0 3 rfl rfl)
theorem dX5_areThere_4 : decode cX5_areThere 4 = .ok (.aload_n 0, 1) := dk_42 (dk_at dksX5_areThere_0 4 rfl rfl)
theorem dX5_areThere_5 : decode cX5_areThere 5 = .ok (.iload_n 1, 1) := dk_27 (dk_at dksX5_areThere_0 5 rfl rfl)
theorem dX5_areThere_6 : decode cX5_areThere 6 = .ok (.invokevirtual 420, 3) := dk_182 1 164 (dk_at dksX5_areThere_0 6 rfl rfl)
theorem dX5_areThere_9 : decode cX5_areThere 9 = .ok (.invokevirtual 97, 3) := dk_182 0 97 (dk_at dksX5_areThere_0 9 rfl rfl)
theorem dX5_areThere_12 : decode cX5_areThere 12 = .ok (.if_icmp .ge 63, 3) := dk_162 0 63 (dk_at dksX5_areThere_0 12 rfl rfl)
theorem dX5_areThere_15 : decode cX5_areThere 15 = .ok (.aload_n 0, 1) := dk_42 (dk_at dksX5_areThere_0 15 rfl rfl)
theorem dX5_areThere_16 : decode cX5_areThere 16 = .ok (.getfield 94, 3) := dk_180 0 94 (dk_at dksX5_areThere_0 16 rfl rfl)
theorem dX5_areThere_19 : decode cX5_areThere 19 = .ok (.aload_n 0, 1) := dk_42 (dk_at dksX5_areThere_0 19 rfl rfl)
theorem dX5_areThere_20 : decode cX5_areThere 20 = .ok (.iload_n 1, 1) := dk_27 (dk_at dksX5_areThere_0 20 rfl rfl)
theorem dX5_areThere_21 : decode cX5_areThere 21 = .ok (.iload_n 2, 1) := dk_28 (dk_at dksX5_areThere_0 21 rfl rfl)
theorem dX5_areThere_22 : decode cX5_areThere 22 = .ok (.invokevirtual 425, 3) := dk_182 1 169 (dk_at dksX5_areThere_1 0 rfl rfl)
theorem dX5_areThere_25 : decode cX5_areThere 25 = .ok (.iadd, 1) := dk_96 (dk_at dksX5_areThere_1 3 rfl rfl)
theorem dX5_areThere_26 : decode cX5_areThere 26 = .ok (.iconst 4, 1) := dk_7 (dk_at dksX5_areThere_1 4 rfl rfl)
theorem dX5_areThere_27 : decode cX5_areThere 27 = .ok (.iadd, 1) := dk_96 (dk_at dksX5_areThere_1 5 rfl rfl)
theorem dX5_areThere_28 : decode cX5_areThere 28 = .ok (.istore_n 3, 1) := dk_62 (dk_at dksX5_areThere_1 6 rfl rfl)
theorem dX5_areThere_29 : decode cX5_areThere 29 = .ok (.aload_n 0, 1) := dk_42 (dk_at dksX5_areThere_1 7 rfl rfl)
theorem dX5_areThere_30 : decode cX5_areThere 30 = .ok (.iload_n 1, 1) := dk_27 (dk_at dksX5_areThere_1 8 rfl rfl)
theorem dX5_areThere_31 : decode cX5_areThere 31 = .ok (.iload_n 2, 1) := dk_28 (dk_at dksX5_areThere_1 9 rfl rfl)
theorem dX5_areThere_32 : decode cX5_areThere 32 = .ok (.invokevirtual 434, 3) := dk_182 1 178 (dk_at dksX5_areThere_1 10 rfl rfl)
theorem dX5_areThere_35 : decode cX5_areThere 35 = .ok (.ifCond .eq 34, 3) := dk_153 0 34 (dk_at dksX5_areThere_1 13 rfl rfl)
theorem dX5_areThere_38 : decode cX5_areThere 38 = .ok (.aload_n 0, 1) := dk_42 (dk_at dksX5_areThere_1 16 rfl rfl)
theorem dX5_areThere_39 : decode cX5_areThere 39 = .ok (.getfield 7, 3) := dk_180 0 7 (dk_at dksX5_areThere_1 17 rfl rfl)
theorem dX5_areThere_42 : decode cX5_areThere 42 = .ok (.aload_n 0, 1) := dk_42 (dk_at dksX5_areThere_1 20 rfl rfl)
theorem dX5_areThere_43 : decode cX5_areThere 43 = .ok (.aload_n 0, 1) := dk_42 (dk_at dksX5_areThere_1 21 rfl rfl)
theorem dX5_areThere_44 : decode cX5_areThere 44 = .ok (.aload_n 0, 1) := dk_42 (dk_at dksX5_areThere_1 22 rfl rfl)
theorem dX5_areThere_45 : decode cX5_areThere 45 = .ok (.iload_n 1, 1) := dk_27 (dk_at dksX5_areThere_1 23 rfl rfl)
theorem dX5_areThere_46 : decode cX5_areThere 46 = .ok (.iload_n 2, 1) := dk_28 (dk_at dksX5_areThere_2 0 rfl rfl)
theorem dX5_areThere_47 : decode cX5_areThere 47 = .ok (.invokevirtual 425, 3) := dk_182 1 169 (dk_at dksX5_areThere_2 1 rfl rfl)
theorem dX5_areThere_50 : decode cX5_areThere 50 = .ok (.invokevirtual 97, 3) := dk_182 0 97 (dk_at dksX5_areThere_2 4 rfl rfl)
theorem dX5_areThere_53 : decode cX5_areThere 53 = .ok (.invokevirtual 118, 3) := dk_182 0 118 (dk_at dksX5_areThere_2 7 rfl rfl)
theorem dX5_areThere_56 : decode cX5_areThere 56 = .ok (.aload_n 0, 1) := dk_42 (dk_at dksX5_areThere_2 10 rfl rfl)
theorem dX5_areThere_57 : decode cX5_areThere 57 = .ok (.getfield 7, 3) := dk_180 0 7 (dk_at dksX5_areThere_2 11 rfl rfl)
theorem dX5_areThere_60 : decode cX5_areThere 60 = .ok (.iload_n 3, 1) := dk_29 (dk_at dksX5_areThere_2 14 rfl rfl)
theorem dX5_areThere_61 : decode cX5_areThere 61 = .ok (.invokestatic 232, 3) := dk_184 0 232 (dk_at dksX5_areThere_2 15 rfl rfl)
theorem dX5_areThere_64 : decode cX5_areThere 64 = .ok (.ifCond .eq 5, 3) := dk_153 0 5 (dk_at dksX5_areThere_2 18 rfl rfl)
theorem dX5_areThere_67 : decode cX5_areThere 67 = .ok (.iconst 0, 1) := dk_3 (dk_at dksX5_areThere_2 21 rfl rfl)
theorem dX5_areThere_68 : decode cX5_areThere 68 = .ok (.ireturn, 1) := dk_172 (dk_at dksX5_areThere_2 22 rfl rfl)
theorem dX5_areThere_69 : decode cX5_areThere 69 = .ok (.iinc 2 1, 3) := dk_132 2 1 (dk_at dksX5_areThere_3 0 rfl rfl)
theorem dX5_areThere_72 : decode cX5_areThere 72 = .ok (.goto (-70), 3) := dk_167 255 186 (dk_at dksX5_areThere_3 3 rfl rfl)
theorem dX5_areThere_75 : decode cX5_areThere 75 = .ok (.iconst 1, 1) := dk_4 (dk_at dksX5_areThere_3 6 rfl rfl)
theorem dX5_areThere_76 : decode cX5_areThere 76 = .ok (.ireturn, 1) := dk_172 (dk_at dksX5_areThere_3 7 rfl rfl)
abbrev cX5_isLast : ByteArray := prog_17_method_127_code
def yX5_isLast : MethodName := ⟨RX5, "isLast", "(II)Z"⟩
def dkwX5_isLast_2 : List UInt8 := [4, 172]
abbrev dktX5_isLast_2 : List UInt8 := dkwX5_isLast_2 ++ []
def dkwX5_isLast_1 : List UInt8 := [182, 0, 97, 42, 42, 27, 28, 182, 1, 169, 182, 0, 97, 160, 0, 5, 3, 172, 132, 3, 1, 167, 255, 215]
abbrev dktX5_isLast_1 : List UInt8 := dkwX5_isLast_1 ++ dktX5_isLast_2
def dkwX5_isLast_0 : List UInt8 := [28, 4, 96, 62, 29, 42, 42, 27, 182, 1, 164, 182, 0, 97, 162, 0, 34, 42, 42, 27, 29, 182, 1, 169]
abbrev dktX5_isLast_0 : List UInt8 := dkwX5_isLast_0 ++ dktX5_isLast_1
theorem dksX5_isLast_0 : cX5_isLast.data.toList.drop 0 = dktX5_isLast_0 := by decide +kernel
theorem dksX5_isLast_1 : cX5_isLast.data.toList.drop 24 = dktX5_isLast_1 := dk_seg dksX5_isLast_0 24 rfl rfl
theorem dksX5_isLast_2 : cX5_isLast.data.toList.drop 48 = dktX5_isLast_2 := dk_seg dksX5_isLast_1 24 rfl rfl
theorem dX5_isLast_0 : decode cX5_isLast 0 = .ok (.iload_n 2, 1) := dk_28 (dk_at dksX5_isLast_0 0 rfl rfl)
theorem dX5_isLast_1 : decode cX5_isLast 1 = .ok (.iconst 1, 1) := dk_4 (dk_at dksX5_isLast_0 1 rfl rfl)
theorem dX5_isLast_2 : decode cX5_isLast 2 = .ok (.iadd, 1) := dk_96 (dk_at dksX5_isLast_0 2 rfl rfl)
theorem dX5_isLast_3 : decode cX5_isLast 3 = .ok (.istore_n 3, 1) := dk_62 (dk_at dksX5_isLast_0 3 rfl rfl)
theorem dX5_isLast_4 : decode cX5_isLast 4 = .ok (.iload_n 3, 1) := dk_29 (dk_at dksX5_isLast_0 4 rfl rfl)
theorem dX5_isLast_5 : decode cX5_isLast 5 = .ok (.aload_n 0, 1) := dk_42 (dk_at dksX5_isLast_0 5 rfl rfl)
theorem dX5_isLast_6 : decode cX5_isLast 6 = .ok (.aload_n 0, 1) := dk_42 (dk_at dksX5_isLast_0 6 rfl rfl)
theorem dX5_isLast_7 : decode cX5_isLast 7 = .ok (.iload_n 1, 1) := dk_27 (dk_at dksX5_isLast_0 7 rfl rfl)
theorem dX5_isLast_8 : decode cX5_isLast 8 = .ok (.invokevirtual 420, 3) := dk_182 1 164 (dk_at dksX5_isLast_0 8 rfl rfl)
theorem dX5_isLast_11 : decode cX5_isLast 11 = .ok (.invokevirtual 97, 3) := dk_182 0 97 (dk_at dksX5_isLast_0 11 rfl rfl)
theorem dX5_isLast_14 : decode cX5_isLast 14 = .ok (.if_icmp .ge 34, 3) := dk_162 0 34 (dk_at dksX5_isLast_0 14 rfl rfl)
theorem dX5_isLast_17 : decode cX5_isLast 17 = .ok (.aload_n 0, 1) := dk_42 (dk_at dksX5_isLast_0 17 rfl rfl)
theorem dX5_isLast_18 : decode cX5_isLast 18 = .ok (.aload_n 0, 1) := dk_42 (dk_at dksX5_isLast_0 18 rfl rfl)
theorem dX5_isLast_19 : decode cX5_isLast 19 = .ok (.iload_n 1, 1) := dk_27 (dk_at dksX5_isLast_0 19 rfl rfl)
theorem dX5_isLast_20 : decode cX5_isLast 20 = .ok (.iload_n 3, 1) := dk_29 (dk_at dksX5_isLast_0 20 rfl rfl)
theorem dX5_isLast_21 : decode cX5_isLast 21 = .ok (.invokevirtual 425, 3) := dk_182 1 169 (dk_at dksX5_isLast_0 21 rfl rfl)
theorem dX5_isLast_24 : decode cX5_isLast 24 = .ok (.invokevirtual 97, 3) := dk_182 0 97 (dk_at dksX5_isLast_1 0 rfl rfl)
theorem dX5_isLast_27 : decode cX5_isLast 27 = .ok (.aload_n 0, 1) := dk_42 (dk_at dksX5_isLast_1 3 rfl rfl)
theorem dX5_isLast_28 : decode cX5_isLast 28 = .ok (.aload_n 0, 1) := dk_42 (dk_at dksX5_isLast_1 4 rfl rfl)
theorem dX5_isLast_29 : decode cX5_isLast 29 = .ok (.iload_n 1, 1) := dk_27 (dk_at dksX5_isLast_1 5 rfl rfl)
theorem dX5_isLast_30 : decode cX5_isLast 30 = .ok (.iload_n 2, 1) := dk_28 (dk_at dksX5_isLast_1 6 rfl rfl)
theorem dX5_isLast_31 : decode cX5_isLast 31 = .ok (.invokevirtual 425, 3) := dk_182 1 169 (dk_at dksX5_isLast_1 7 rfl rfl)
theorem dX5_isLast_34 : decode cX5_isLast 34 = .ok (.invokevirtual 97, 3) := dk_182 0 97 (dk_at dksX5_isLast_1 10 rfl rfl)
theorem dX5_isLast_37 : decode cX5_isLast 37 = .ok (.if_icmp .ne 5, 3) := dk_160 0 5 (dk_at dksX5_isLast_1 13 rfl rfl)
theorem dX5_isLast_40 : decode cX5_isLast 40 = .ok (.iconst 0, 1) := dk_3 (dk_at dksX5_isLast_1 16 rfl rfl)
theorem dX5_isLast_41 : decode cX5_isLast 41 = .ok (.ireturn, 1) := dk_172 (dk_at dksX5_isLast_1 17 rfl rfl)
theorem dX5_isLast_42 : decode cX5_isLast 42 = .ok (.iinc 3 1, 3) := dk_132 3 1 (dk_at dksX5_isLast_1 18 rfl rfl)
theorem dX5_isLast_45 : decode cX5_isLast 45 = .ok (.goto (-41), 3) := dk_167 255 215 (dk_at dksX5_isLast_1 21 rfl rfl)
theorem dX5_isLast_48 : decode cX5_isLast 48 = .ok (.iconst 1, 1) := dk_4 (dk_at dksX5_isLast_2 0 rfl rfl)
theorem dX5_isLast_49 : decode cX5_isLast 49 = .ok (.ireturn, 1) := dk_172 (dk_at dksX5_isLast_2 1 rfl rfl)
abbrev cX5_goesBack : ByteArray := prog_17_method_129_code
def yX5_goesBack : MethodName := ⟨RX5, "goesBack", "(I)Z"⟩
def dkwX5_goesBack_4 : List UInt8 := [182, 1, 169, 182, 0, 97, 104, 184, 0, 236, 132, 2, 255, 167, 255, 197, 4, 172]
abbrev dktX5_goesBack_4 : List UInt8 := dkwX5_goesBack_4 ++ []
def dkwX5_goesBack_3 : List UInt8 := [182, 1, 109, 153, 0, 5, 3, 172, 42, 180, 0, 7, 29, 42, 180, 0, 55, 6, 42, 42, 27, 28]
abbrev dktX5_goesBack_3 : List UInt8 := dkwX5_goesBack_3 ++ dktX5_goesBack_4
def dkwX5_goesBack_2 : List UInt8 := [155, 0, 61, 42, 180, 0, 94, 42, 27, 28, 182, 1, 169, 96, 4, 96, 62, 42, 42, 180, 0, 7, 29]
abbrev dktX5_goesBack_2 : List UInt8 := dkwX5_goesBack_2 ++ dktX5_goesBack_3
def dkwX5_goesBack_1 : List UInt8 := [28, 104, 184, 0, 236, 132, 2, 1, 167, 255, 226, 42, 42, 27, 182, 1, 164, 182, 0, 97, 4, 100, 61, 28]
abbrev dktX5_goesBack_1 : List UInt8 := dkwX5_goesBack_1 ++ dktX5_goesBack_2
def dkwX5_goesBack_0 : List UInt8 := [3, 61, 28, 42, 182, 0, 101, 162, 0, 28, 42, 180, 0, 7, 42, 28, 182, 0, 118, 42, 180, 0, 55, 6]
abbrev dktX5_goesBack_0 : List UInt8 := dkwX5_goesBack_0 ++ dktX5_goesBack_1
theorem dksX5_goesBack_0 : cX5_goesBack.data.toList.drop 0 = dktX5_goesBack_0 := by decide +kernel
theorem dksX5_goesBack_1 : cX5_goesBack.data.toList.drop 24 = dktX5_goesBack_1 := dk_seg dksX5_goesBack_0 24 rfl rfl
theorem dksX5_goesBack_2 : cX5_goesBack.data.toList.drop 48 = dktX5_goesBack_2 := dk_seg dksX5_goesBack_1 24 rfl rfl
theorem dksX5_goesBack_3 : cX5_goesBack.data.toList.drop 71 = dktX5_goesBack_3 := dk_seg dksX5_goesBack_2 23 rfl rfl
theorem dksX5_goesBack_4 : cX5_goesBack.data.toList.drop 93 = dktX5_goesBack_4 := dk_seg dksX5_goesBack_3 22 rfl rfl
theorem dX5_goesBack_0 : decode cX5_goesBack 0 = .ok (.iconst 0, 1) := dk_3 (dk_at dksX5_goesBack_0 0 rfl rfl)
theorem dX5_goesBack_1 : decode cX5_goesBack 1 = .ok (.istore_n 2, 1) := dk_61 (dk_at dksX5_goesBack_0 1 rfl rfl)
theorem dX5_goesBack_2 : decode cX5_goesBack 2 = .ok (.iload_n 2, 1) := dk_28 (dk_at dksX5_goesBack_0 2 rfl rfl)
theorem dX5_goesBack_3 : decode cX5_goesBack 3 = .ok (.aload_n 0, 1) := dk_42 (dk_at dksX5_goesBack_0 3 rfl rfl)
theorem dX5_goesBack_4 : decode cX5_goesBack 4 = .ok (.invokevirtual 101, 3) := dk_182 0 101 (dk_at dksX5_goesBack_0 4 rfl rfl)
theorem dX5_goesBack_7 : decode cX5_goesBack 7 = .ok (.if_icmp .ge 28, 3) := dk_162 0 28 (dk_at dksX5_goesBack_0 7 rfl rfl)
theorem dX5_goesBack_10 : decode cX5_goesBack 10 = .ok (.aload_n 0, 1) := dk_42 (dk_at dksX5_goesBack_0 10 rfl rfl)
theorem dX5_goesBack_11 : decode cX5_goesBack 11 = .ok (.getfield 7, 3) := dk_180 0 7 (dk_at dksX5_goesBack_0 11 rfl rfl)
theorem dX5_goesBack_14 : decode cX5_goesBack 14 = .ok (.aload_n 0, 1) := dk_42 (dk_at dksX5_goesBack_0 14 rfl rfl)
theorem dX5_goesBack_15 : decode cX5_goesBack 15 = .ok (.iload_n 2, 1) := dk_28 (dk_at dksX5_goesBack_0 15 rfl rfl)
theorem dX5_goesBack_16 : decode cX5_goesBack 16 = .ok (.invokevirtual 118, 3) := dk_182 0 118 (dk_at dksX5_goesBack_0 16 rfl rfl)
theorem dX5_goesBack_19 : decode cX5_goesBack 19 = .ok (.aload_n 0, 1) := dk_42 (dk_at dksX5_goesBack_0 19 rfl rfl)
theorem dX5_goesBack_20 : decode cX5_goesBack 20 = .ok (.getfield 55, 3) := dk_180 0 55 (dk_at dksX5_goesBack_0 20 rfl rfl)
theorem dX5_goesBack_23 : decode cX5_goesBack 23 = .ok (.iconst 3, 1) := dk_6 (dk_at dksX5_goesBack_0 23 rfl rfl)
theorem dX5_goesBack_24 : decode cX5_goesBack 24 = .ok (.iload_n 2, 1) := dk_28 (dk_at dksX5_goesBack_1 0 rfl rfl)
theorem dX5_goesBack_25 : decode cX5_goesBack 25 = .ok (.imul, 1) := dk_104 (dk_at dksX5_goesBack_1 1 rfl rfl)
theorem dX5_goesBack_26 : decode cX5_goesBack 26 = .ok (.invokestatic 236, 3) := dk_184 0 236 (dk_at dksX5_goesBack_1 2 rfl rfl)
theorem dX5_goesBack_29 : decode cX5_goesBack 29 = .ok (.iinc 2 1, 3) := dk_132 2 1 (dk_at dksX5_goesBack_1 5 rfl rfl)
theorem dX5_goesBack_32 : decode cX5_goesBack 32 = .ok (.goto (-30), 3) := dk_167 255 226 (dk_at dksX5_goesBack_1 8 rfl rfl)
theorem dX5_goesBack_35 : decode cX5_goesBack 35 = .ok (.aload_n 0, 1) := dk_42 (dk_at dksX5_goesBack_1 11 rfl rfl)
theorem dX5_goesBack_36 : decode cX5_goesBack 36 = .ok (.aload_n 0, 1) := dk_42 (dk_at dksX5_goesBack_1 12 rfl rfl)
theorem dX5_goesBack_37 : decode cX5_goesBack 37 = .ok (.iload_n 1, 1) := dk_27 (dk_at dksX5_goesBack_1 13 rfl rfl)
theorem dX5_goesBack_38 : decode cX5_goesBack 38 = .ok (.invokevirtual 420, 3) := dk_182 1 164 (dk_at dksX5_goesBack_1 14 rfl rfl)
theorem dX5_goesBack_41 : decode cX5_goesBack 41 = .ok (.invokevirtual 97, 3) := dk_182 0 97 (dk_at dksX5_goesBack_1 17 rfl rfl)
theorem dX5_goesBack_44 : decode cX5_goesBack 44 = .ok (.iconst 1, 1) := dk_4 (dk_at dksX5_goesBack_1 20 rfl rfl)
theorem dX5_goesBack_45 : decode cX5_goesBack 45 = .ok (.isub, 1) := dk_100 (dk_at dksX5_goesBack_1 21 rfl rfl)
theorem dX5_goesBack_46 : decode cX5_goesBack 46 = .ok (.istore_n 2, 1) := dk_61 (dk_at dksX5_goesBack_1 22 rfl rfl)
theorem dX5_goesBack_47 : decode cX5_goesBack 47 = .ok (.iload_n 2, 1) := dk_28 (dk_at dksX5_goesBack_1 23 rfl rfl)
theorem dX5_goesBack_48 : decode cX5_goesBack 48 = .ok (.ifCond .lt 61, 3) := dk_155 0 61 (dk_at dksX5_goesBack_2 0 rfl rfl)
theorem dX5_goesBack_51 : decode cX5_goesBack 51 = .ok (.aload_n 0, 1) := dk_42 (dk_at dksX5_goesBack_2 3 rfl rfl)
theorem dX5_goesBack_52 : decode cX5_goesBack 52 = .ok (.getfield 94, 3) := dk_180 0 94 (dk_at dksX5_goesBack_2 4 rfl rfl)
theorem dX5_goesBack_55 : decode cX5_goesBack 55 = .ok (.aload_n 0, 1) := dk_42 (dk_at dksX5_goesBack_2 7 rfl rfl)
theorem dX5_goesBack_56 : decode cX5_goesBack 56 = .ok (.iload_n 1, 1) := dk_27 (dk_at dksX5_goesBack_2 8 rfl rfl)
theorem dX5_goesBack_57 : decode cX5_goesBack 57 = .ok (.iload_n 2, 1) := dk_28 (dk_at dksX5_goesBack_2 9 rfl rfl)
theorem dX5_goesBack_58 : decode cX5_goesBack 58 = .ok (.invokevirtual 425, 3) := dk_182 1 169 (dk_at dksX5_goesBack_2 10 rfl rfl)
theorem dX5_goesBack_61 : decode cX5_goesBack 61 = .ok (.iadd, 1) := dk_96 (dk_at dksX5_goesBack_2 13 rfl rfl)
theorem dX5_goesBack_62 : decode cX5_goesBack 62 = .ok (.iconst 1, 1) := dk_4 (dk_at dksX5_goesBack_2 14 rfl rfl)
theorem dX5_goesBack_63 : decode cX5_goesBack 63 = .ok (.iadd, 1) := dk_96 (dk_at dksX5_goesBack_2 15 rfl rfl)
theorem dX5_goesBack_64 : decode cX5_goesBack 64 = .ok (.istore_n 3, 1) := dk_62 (dk_at dksX5_goesBack_2 16 rfl rfl)
theorem dX5_goesBack_65 : decode cX5_goesBack 65 = .ok (.aload_n 0, 1) := dk_42 (dk_at dksX5_goesBack_2 17 rfl rfl)
theorem dX5_goesBack_66 : decode cX5_goesBack 66 = .ok (.aload_n 0, 1) := dk_42 (dk_at dksX5_goesBack_2 18 rfl rfl)
theorem dX5_goesBack_67 : decode cX5_goesBack 67 = .ok (.getfield 7, 3) := dk_180 0 7 (dk_at dksX5_goesBack_2 19 rfl rfl)
theorem dX5_goesBack_70 : decode cX5_goesBack 70 = .ok (.iload_n 3, 1) := dk_29 (dk_at dksX5_goesBack_2 22 rfl rfl)
theorem dX5_goesBack_71 : decode cX5_goesBack 71 = .ok (.invokevirtual 365, 3) := dk_182 1 109 (dk_at dksX5_goesBack_3 0 rfl rfl)
theorem dX5_goesBack_74 : decode cX5_goesBack 74 = .ok (.ifCond .eq 5, 3) := dk_153 0 5 (dk_at dksX5_goesBack_3 3 rfl rfl)
theorem dX5_goesBack_77 : decode cX5_goesBack 77 = .ok (.iconst 0, 1) := dk_3 (dk_at dksX5_goesBack_3 6 rfl rfl)
theorem dX5_goesBack_78 : decode cX5_goesBack 78 = .ok (.ireturn, 1) := dk_172 (dk_at dksX5_goesBack_3 7 rfl rfl)
theorem dX5_goesBack_79 : decode cX5_goesBack 79 = .ok (.aload_n 0, 1) := dk_42 (dk_at dksX5_goesBack_3 8 rfl rfl)
theorem dX5_goesBack_80 : decode cX5_goesBack 80 = .ok (.getfield 7, 3) := dk_180 0 7 (dk_at dksX5_goesBack_3 9 rfl rfl)
theorem dX5_goesBack_83 : decode cX5_goesBack 83 = .ok (.iload_n 3, 1) := dk_29 (dk_at dksX5_goesBack_3 12 rfl rfl)
theorem dX5_goesBack_84 : decode cX5_goesBack 84 = .ok (.aload_n 0, 1) := dk_42 (dk_at dksX5_goesBack_3 13 rfl rfl)
theorem dX5_goesBack_85 : decode cX5_goesBack 85 = .ok (.getfield 55, 3) := dk_180 0 55 (dk_at dksX5_goesBack_3 14 rfl rfl)
theorem dX5_goesBack_88 : decode cX5_goesBack 88 = .ok (.iconst 3, 1) := dk_6 (dk_at dksX5_goesBack_3 17 rfl rfl)
theorem dX5_goesBack_89 : decode cX5_goesBack 89 = .ok (.aload_n 0, 1) := dk_42 (dk_at dksX5_goesBack_3 18 rfl rfl)
theorem dX5_goesBack_90 : decode cX5_goesBack 90 = .ok (.aload_n 0, 1) := dk_42 (dk_at dksX5_goesBack_3 19 rfl rfl)
theorem dX5_goesBack_91 : decode cX5_goesBack 91 = .ok (.iload_n 1, 1) := dk_27 (dk_at dksX5_goesBack_3 20 rfl rfl)
theorem dX5_goesBack_92 : decode cX5_goesBack 92 = .ok (.iload_n 2, 1) := dk_28 (dk_at dksX5_goesBack_3 21 rfl rfl)
theorem dX5_goesBack_93 : decode cX5_goesBack 93 = .ok (.invokevirtual 425, 3) := dk_182 1 169 (dk_at dksX5_goesBack_4 0 rfl rfl)
theorem dX5_goesBack_96 : decode cX5_goesBack 96 = .ok (.invokevirtual 97, 3) := dk_182 0 97 (dk_at dksX5_goesBack_4 3 rfl rfl)
theorem dX5_goesBack_99 : decode cX5_goesBack 99 = .ok (.imul, 1) := dk_104 (dk_at dksX5_goesBack_4 6 rfl rfl)
theorem dX5_goesBack_100 : decode cX5_goesBack 100 = .ok (.invokestatic 236, 3) := dk_184 0 236 (dk_at dksX5_goesBack_4 7 rfl rfl)
theorem dX5_goesBack_103 : decode cX5_goesBack 103 = .ok (.iinc 2 (-1), 3) := dk_132 2 255 (dk_at dksX5_goesBack_4 10 rfl rfl)
theorem dX5_goesBack_106 : decode cX5_goesBack 106 = .ok (.goto (-59), 3) := dk_167 255 197 (dk_at dksX5_goesBack_4 13 rfl rfl)
theorem dX5_goesBack_109 : decode cX5_goesBack 109 = .ok (.iconst 1, 1) := dk_4 (dk_at dksX5_goesBack_4 16 rfl rfl)
theorem dX5_goesBack_110 : decode cX5_goesBack 110 = .ok (.ireturn, 1) := dk_172 (dk_at dksX5_goesBack_4 17 rfl rfl)
abbrev cX5_addFile : ByteArray := prog_17_method_132_code
def yX5_addFile : MethodName := ⟨RX5, "addFile", "()I"⟩
def dkwX5_addFile_2 : List UInt8 := [42, 3, 181, 0, 127, 42, 182, 1, 172, 42, 182, 0, 249, 42, 182, 0, 101, 4, 100, 172]
abbrev dktX5_addFile_2 : List UInt8 := dkwX5_addFile_2 ++ []
def dkwX5_addFile_1 : List UInt8 := [181, 0, 127, 42, 4, 182, 0, 130, 172, 42, 182, 0, 101, 16, 20, 160, 0, 9, 42, 5, 182, 0, 130, 172]
abbrev dktX5_addFile_1 : List UInt8 := dkwX5_addFile_1 ++ dktX5_addFile_2
def dkwX5_addFile_0 : List UInt8 := [42, 3, 181, 0, 91, 42, 182, 1, 187, 153, 0, 11, 42, 182, 0, 246, 2, 159, 0, 14, 42, 3]
abbrev dktX5_addFile_0 : List UInt8 := dkwX5_addFile_0 ++ dktX5_addFile_1
theorem dksX5_addFile_0 : cX5_addFile.data.toList.drop 0 = dktX5_addFile_0 := by decide +kernel
theorem dksX5_addFile_1 : cX5_addFile.data.toList.drop 22 = dktX5_addFile_1 := dk_seg dksX5_addFile_0 22 rfl rfl
theorem dksX5_addFile_2 : cX5_addFile.data.toList.drop 46 = dktX5_addFile_2 := dk_seg dksX5_addFile_1 24 rfl rfl
theorem dX5_addFile_0 : decode cX5_addFile 0 = .ok (.aload_n 0, 1) := dk_42 (dk_at dksX5_addFile_0 0 rfl rfl)
theorem dX5_addFile_1 : decode cX5_addFile 1 = .ok (.iconst 0, 1) := dk_3 (dk_at dksX5_addFile_0 1 rfl rfl)
theorem dX5_addFile_2 : decode cX5_addFile 2 = .ok (.putfield 91, 3) := dk_181 0 91 (dk_at dksX5_addFile_0 2 rfl rfl)
theorem dX5_addFile_5 : decode cX5_addFile 5 = .ok (.aload_n 0, 1) := dk_42 (dk_at dksX5_addFile_0 5 rfl rfl)
theorem dX5_addFile_6 : decode cX5_addFile 6 = .ok (.invokevirtual 443, 3) := dk_182 1 187 (dk_at dksX5_addFile_0 6 rfl rfl)
theorem dX5_addFile_9 : decode cX5_addFile 9 = .ok (.ifCond .eq 11, 3) := dk_153 0 11 (dk_at dksX5_addFile_0 9 rfl rfl)
theorem dX5_addFile_12 : decode cX5_addFile 12 = .ok (.aload_n 0, 1) := dk_42 (dk_at dksX5_addFile_0 12 rfl rfl)
theorem dX5_addFile_13 : decode cX5_addFile 13 = .ok (.invokevirtual 246, 3) := dk_182 0 246 (dk_at dksX5_addFile_0 13 rfl rfl)
theorem dX5_addFile_16 : decode cX5_addFile 16 = .ok (.iconst (-1), 1) := dk_2 (dk_at dksX5_addFile_0 16 rfl rfl)
theorem dX5_addFile_17 : decode cX5_addFile 17 = .ok (.if_icmp .eq 14, 3) := dk_159 0 14 (dk_at dksX5_addFile_0 17 rfl rfl)
theorem dX5_addFile_20 : decode cX5_addFile 20 = .ok (.aload_n 0, 1) := dk_42 (dk_at dksX5_addFile_0 20 rfl rfl)
theorem dX5_addFile_21 : decode cX5_addFile 21 = .ok (.iconst 0, 1) := dk_3 (dk_at dksX5_addFile_0 21 rfl rfl)
theorem dX5_addFile_22 : decode cX5_addFile 22 = .ok (.putfield 127, 3) := dk_181 0 127 (dk_at dksX5_addFile_1 0 rfl rfl)
theorem dX5_addFile_25 : decode cX5_addFile 25 = .ok (.aload_n 0, 1) := dk_42 (dk_at dksX5_addFile_1 3 rfl rfl)
theorem dX5_addFile_26 : decode cX5_addFile 26 = .ok (.iconst 1, 1) := dk_4 (dk_at dksX5_addFile_1 4 rfl rfl)
theorem dX5_addFile_27 : decode cX5_addFile 27 = .ok (.invokevirtual 130, 3) := dk_182 0 130 (dk_at dksX5_addFile_1 5 rfl rfl)
theorem dX5_addFile_30 : decode cX5_addFile 30 = .ok (.ireturn, 1) := dk_172 (dk_at dksX5_addFile_1 8 rfl rfl)
theorem dX5_addFile_31 : decode cX5_addFile 31 = .ok (.aload_n 0, 1) := dk_42 (dk_at dksX5_addFile_1 9 rfl rfl)
theorem dX5_addFile_32 : decode cX5_addFile 32 = .ok (.invokevirtual 101, 3) := dk_182 0 101 (dk_at dksX5_addFile_1 10 rfl rfl)
theorem dX5_addFile_35 : decode cX5_addFile 35 = .ok (.bipush 20, 2) := dk_16 20 (dk_at dksX5_addFile_1 13 rfl rfl)
theorem dX5_addFile_37 : decode cX5_addFile 37 = .ok (.if_icmp .ne 9, 3) := dk_160 0 9 (dk_at dksX5_addFile_1 15 rfl rfl)
theorem dX5_addFile_40 : decode cX5_addFile 40 = .ok (.aload_n 0, 1) := dk_42 (dk_at dksX5_addFile_1 18 rfl rfl)
theorem dX5_addFile_41 : decode cX5_addFile 41 = .ok (.iconst 2, 1) := dk_5 (dk_at dksX5_addFile_1 19 rfl rfl)
theorem dX5_addFile_42 : decode cX5_addFile 42 = .ok (.invokevirtual 130, 3) := dk_182 0 130 (dk_at dksX5_addFile_1 20 rfl rfl)
theorem dX5_addFile_45 : decode cX5_addFile 45 = .ok (.ireturn, 1) := dk_172 (dk_at dksX5_addFile_1 23 rfl rfl)
theorem dX5_addFile_46 : decode cX5_addFile 46 = .ok (.aload_n 0, 1) := dk_42 (dk_at dksX5_addFile_2 0 rfl rfl)
theorem dX5_addFile_47 : decode cX5_addFile 47 = .ok (.iconst 0, 1) := dk_3 (dk_at dksX5_addFile_2 1 rfl rfl)
theorem dX5_addFile_48 : decode cX5_addFile 48 = .ok (.putfield 127, 3) := dk_181 0 127 (dk_at dksX5_addFile_2 2 rfl rfl)
theorem dX5_addFile_51 : decode cX5_addFile 51 = .ok (.aload_n 0, 1) := dk_42 (dk_at dksX5_addFile_2 5 rfl rfl)
theorem dX5_addFile_52 : decode cX5_addFile 52 = .ok (.invokevirtual 428, 3) := dk_182 1 172 (dk_at dksX5_addFile_2 6 rfl rfl)
theorem dX5_addFile_55 : decode cX5_addFile 55 = .ok (.aload_n 0, 1) := dk_42 (dk_at dksX5_addFile_2 9 rfl rfl)
theorem dX5_addFile_56 : decode cX5_addFile 56 = .ok (.invokevirtual 249, 3) := dk_182 0 249 (dk_at dksX5_addFile_2 10 rfl rfl)
theorem dX5_addFile_59 : decode cX5_addFile 59 = .ok (.aload_n 0, 1) := dk_42 (dk_at dksX5_addFile_2 13 rfl rfl)
theorem dX5_addFile_60 : decode cX5_addFile 60 = .ok (.invokevirtual 101, 3) := dk_182 0 101 (dk_at dksX5_addFile_2 14 rfl rfl)
theorem dX5_addFile_63 : decode cX5_addFile 63 = .ok (.iconst 1, 1) := dk_4 (dk_at dksX5_addFile_2 17 rfl rfl)
theorem dX5_addFile_64 : decode cX5_addFile 64 = .ok (.isub, 1) := dk_100 (dk_at dksX5_addFile_2 18 rfl rfl)
theorem dX5_addFile_65 : decode cX5_addFile 65 = .ok (.ireturn, 1) := dk_172 (dk_at dksX5_addFile_2 19 rfl rfl)
abbrev cX5_isTypedName : ByteArray := prog_17_method_131_code
def yX5_isTypedName : MethodName := ⟨RX5, "isTypedName", "()Z"⟩
def dkwX5_isTypedName_1 : List UInt8 := [42, 180, 0, 127, 182, 0, 243, 4, 172]
abbrev dktX5_isTypedName_1 : List UInt8 := dkwX5_isTypedName_1 ++ []
def dkwX5_isTypedName_0 : List UInt8 := [42, 42, 180, 0, 127, 181, 0, 137, 42, 3, 42, 180, 0, 127, 182, 0, 184, 154, 0, 5, 3, 172, 42, 3]
abbrev dktX5_isTypedName_0 : List UInt8 := dkwX5_isTypedName_0 ++ dktX5_isTypedName_1
theorem dksX5_isTypedName_0 : cX5_isTypedName.data.toList.drop 0 = dktX5_isTypedName_0 := by decide +kernel
theorem dksX5_isTypedName_1 : cX5_isTypedName.data.toList.drop 24 = dktX5_isTypedName_1 := dk_seg dksX5_isTypedName_0 24 rfl rfl
theorem dX5_isTypedName_0 : decode cX5_isTypedName 0 = .ok (.aload_n 0, 1) := dk_42 (dk_at dksX5_isTypedName_0 0 rfl rfl)
theorem dX5_isTypedName_1 : decode cX5_isTypedName 1 = .ok (.aload_n 0, 1) := dk_42 (dk_at dksX5_isTypedName_0 1 rfl rfl)
theorem dX5_isTypedName_2 : decode cX5_isTypedName 2 = .ok (.getfield 127, 3) := dk_180 0 127 (dk_at dksX5_isTypedName_0 2 rfl rfl)
theorem dX5_isTypedName_5 : decode cX5_isTypedName 5 = .ok (.putfield 137, 3) := dk_181 0 137 (dk_at dksX5_isTypedName_0 5 rfl rfl)
theorem dX5_isTypedName_8 : decode cX5_isTypedName 8 = .ok (.aload_n 0, 1) := dk_42 (dk_at dksX5_isTypedName_0 8 rfl rfl)
theorem dX5_isTypedName_9 : decode cX5_isTypedName 9 = .ok (.iconst 0, 1) := dk_3 (dk_at dksX5_isTypedName_0 9 rfl rfl)
theorem dX5_isTypedName_10 : decode cX5_isTypedName 10 = .ok (.aload_n 0, 1) := dk_42 (dk_at dksX5_isTypedName_0 10 rfl rfl)
theorem dX5_isTypedName_11 : decode cX5_isTypedName 11 = .ok (.getfield 127, 3) := dk_180 0 127 (dk_at dksX5_isTypedName_0 11 rfl rfl)
theorem dX5_isTypedName_14 : decode cX5_isTypedName 14 = .ok (.invokevirtual 184, 3) := dk_182 0 184 (dk_at dksX5_isTypedName_0 14 rfl rfl)
theorem dX5_isTypedName_17 : decode cX5_isTypedName 17 = .ok (.ifCond .ne 5, 3) := dk_154 0 5 (dk_at dksX5_isTypedName_0 17 rfl rfl)
theorem dX5_isTypedName_20 : decode cX5_isTypedName 20 = .ok (.iconst 0, 1) := dk_3 (dk_at dksX5_isTypedName_0 20 rfl rfl)
theorem dX5_isTypedName_21 : decode cX5_isTypedName 21 = .ok (.ireturn, 1) := dk_172 (dk_at dksX5_isTypedName_0 21 rfl rfl)
theorem dX5_isTypedName_22 : decode cX5_isTypedName 22 = .ok (.aload_n 0, 1) := dk_42 (dk_at dksX5_isTypedName_0 22 rfl rfl)
theorem dX5_isTypedName_23 : decode cX5_isTypedName 23 = .ok (.iconst 0, 1) := dk_3 (dk_at dksX5_isTypedName_0 23 rfl rfl)
theorem dX5_isTypedName_24 : decode cX5_isTypedName 24 = .ok (.aload_n 0, 1) := dk_42 (dk_at dksX5_isTypedName_1 0 rfl rfl)
theorem dX5_isTypedName_25 : decode cX5_isTypedName 25 = .ok (.getfield 127, 3) := dk_180 0 127 (dk_at dksX5_isTypedName_1 1 rfl rfl)
theorem dX5_isTypedName_28 : decode cX5_isTypedName 28 = .ok (.invokevirtual 243, 3) := dk_182 0 243 (dk_at dksX5_isTypedName_1 4 rfl rfl)
theorem dX5_isTypedName_31 : decode cX5_isTypedName 31 = .ok (.iconst 1, 1) := dk_4 (dk_at dksX5_isTypedName_1 7 rfl rfl)
theorem dX5_isTypedName_32 : decode cX5_isTypedName 32 = .ok (.ireturn, 1) := dk_172 (dk_at dksX5_isTypedName_1 8 rfl rfl)
abbrev cX5_removeFile : ByteArray := prog_17_method_133_code
def yX5_removeFile : MethodName := ⟨RX5, "removeFile", "(I)I"⟩
def dkwX5_removeFile_3 : List UInt8 := [182, 0, 101, 172]
abbrev dktX5_removeFile_3 : List UInt8 := dkwX5_removeFile_3 ++ []
def dkwX5_removeFile_2 : List UInt8 := [182, 1, 145, 42, 3, 42, 182, 0, 101, 4, 100, 133, 182, 0, 228, 42, 8, 9, 182, 0, 228, 42]
abbrev dktX5_removeFile_2 : List UInt8 := dkwX5_removeFile_2 ++ dktX5_removeFile_3
def dkwX5_removeFile_1 : List UInt8 := [16, 6, 6, 27, 42, 182, 0, 101, 4, 100, 182, 1, 145, 42, 16, 66, 4, 27, 42, 182, 0, 101, 4, 100]
abbrev dktX5_removeFile_1 : List UInt8 := dkwX5_removeFile_1 ++ dktX5_removeFile_2
def dkwX5_removeFile_0 : List UInt8 := [42, 3, 181, 0, 91, 42, 27, 182, 1, 32, 154, 0, 9, 42, 4, 182, 0, 130, 172, 42, 182, 1, 172, 42]
abbrev dktX5_removeFile_0 : List UInt8 := dkwX5_removeFile_0 ++ dktX5_removeFile_1
theorem dksX5_removeFile_0 : cX5_removeFile.data.toList.drop 0 = dktX5_removeFile_0 := by decide +kernel
theorem dksX5_removeFile_1 : cX5_removeFile.data.toList.drop 24 = dktX5_removeFile_1 := dk_seg dksX5_removeFile_0 24 rfl rfl
theorem dksX5_removeFile_2 : cX5_removeFile.data.toList.drop 48 = dktX5_removeFile_2 := dk_seg dksX5_removeFile_1 24 rfl rfl
theorem dksX5_removeFile_3 : cX5_removeFile.data.toList.drop 70 = dktX5_removeFile_3 := dk_seg dksX5_removeFile_2 22 rfl rfl
theorem dX5_removeFile_0 : decode cX5_removeFile 0 = .ok (.aload_n 0, 1) := dk_42 (dk_at dksX5_removeFile_0 0 rfl rfl)
theorem dX5_removeFile_1 : decode cX5_removeFile 1 = .ok (.iconst 0, 1) := dk_3 (dk_at dksX5_removeFile_0 1 rfl rfl)
theorem dX5_removeFile_2 : decode cX5_removeFile 2 = .ok (.putfield 91, 3) := dk_181 0 91 (dk_at dksX5_removeFile_0 2 rfl rfl)
theorem dX5_removeFile_5 : decode cX5_removeFile 5 = .ok (.aload_n 0, 1) := dk_42 (dk_at dksX5_removeFile_0 5 rfl rfl)
theorem dX5_removeFile_6 : decode cX5_removeFile 6 = .ok (.iload_n 1, 1) := dk_27 (dk_at dksX5_removeFile_0 6 rfl rfl)
theorem dX5_removeFile_7 : decode cX5_removeFile 7 = .ok (.invokevirtual 288, 3) := dk_182 1 32 (dk_at dksX5_removeFile_0 7 rfl rfl)
theorem dX5_removeFile_10 : decode cX5_removeFile 10 = .ok (.ifCond .ne 9, 3) := dk_154 0 9 (dk_at dksX5_removeFile_0 10 rfl rfl)
theorem dX5_removeFile_13 : decode cX5_removeFile 13 = .ok (.aload_n 0, 1) := dk_42 (dk_at dksX5_removeFile_0 13 rfl rfl)
theorem dX5_removeFile_14 : decode cX5_removeFile 14 = .ok (.iconst 1, 1) := dk_4 (dk_at dksX5_removeFile_0 14 rfl rfl)
theorem dX5_removeFile_15 : decode cX5_removeFile 15 = .ok (.invokevirtual 130, 3) := dk_182 0 130 (dk_at dksX5_removeFile_0 15 rfl rfl)
theorem dX5_removeFile_18 : decode cX5_removeFile 18 = .ok (.ireturn, 1) := dk_172 (dk_at dksX5_removeFile_0 18 rfl rfl)
theorem dX5_removeFile_19 : decode cX5_removeFile 19 = .ok (.aload_n 0, 1) := dk_42 (dk_at dksX5_removeFile_0 19 rfl rfl)
theorem dX5_removeFile_20 : decode cX5_removeFile 20 = .ok (.invokevirtual 428, 3) := dk_182 1 172 (dk_at dksX5_removeFile_0 20 rfl rfl)
theorem dX5_removeFile_23 : decode cX5_removeFile 23 = .ok (.aload_n 0, 1) := dk_42 (dk_at dksX5_removeFile_0 23 rfl rfl)
theorem dX5_removeFile_24 : decode cX5_removeFile 24 = .ok (.bipush 6, 2) := dk_16 6 (dk_at dksX5_removeFile_1 0 rfl rfl)
theorem dX5_removeFile_26 : decode cX5_removeFile 26 = .ok (.iconst 3, 1) := dk_6 (dk_at dksX5_removeFile_1 2 rfl rfl)
theorem dX5_removeFile_27 : decode cX5_removeFile 27 = .ok (.iload_n 1, 1) := dk_27 (dk_at dksX5_removeFile_1 3 rfl rfl)
theorem dX5_removeFile_28 : decode cX5_removeFile 28 = .ok (.aload_n 0, 1) := dk_42 (dk_at dksX5_removeFile_1 4 rfl rfl)
theorem dX5_removeFile_29 : decode cX5_removeFile 29 = .ok (.invokevirtual 101, 3) := dk_182 0 101 (dk_at dksX5_removeFile_1 5 rfl rfl)
theorem dX5_removeFile_32 : decode cX5_removeFile 32 = .ok (.iconst 1, 1) := dk_4 (dk_at dksX5_removeFile_1 8 rfl rfl)
theorem dX5_removeFile_33 : decode cX5_removeFile 33 = .ok (.isub, 1) := dk_100 (dk_at dksX5_removeFile_1 9 rfl rfl)
theorem dX5_removeFile_34 : decode cX5_removeFile 34 = .ok (.invokevirtual 401, 3) := dk_182 1 145 (dk_at dksX5_removeFile_1 10 rfl rfl)
theorem dX5_removeFile_37 : decode cX5_removeFile 37 = .ok (.aload_n 0, 1) := dk_42 (dk_at dksX5_removeFile_1 13 rfl rfl)
theorem dX5_removeFile_38 : decode cX5_removeFile 38 = .ok (.bipush 66, 2) := dk_16 66 (dk_at dksX5_removeFile_1 14 rfl rfl)
theorem dX5_removeFile_40 : decode cX5_removeFile 40 = .ok (.iconst 1, 1) := dk_4 (dk_at dksX5_removeFile_1 16 rfl rfl)
theorem dX5_removeFile_41 : decode cX5_removeFile 41 = .ok (.iload_n 1, 1) := dk_27 (dk_at dksX5_removeFile_1 17 rfl rfl)
theorem dX5_removeFile_42 : decode cX5_removeFile 42 = .ok (.aload_n 0, 1) := dk_42 (dk_at dksX5_removeFile_1 18 rfl rfl)
theorem dX5_removeFile_43 : decode cX5_removeFile 43 = .ok (.invokevirtual 101, 3) := dk_182 0 101 (dk_at dksX5_removeFile_1 19 rfl rfl)
theorem dX5_removeFile_46 : decode cX5_removeFile 46 = .ok (.iconst 1, 1) := dk_4 (dk_at dksX5_removeFile_1 22 rfl rfl)
theorem dX5_removeFile_47 : decode cX5_removeFile 47 = .ok (.isub, 1) := dk_100 (dk_at dksX5_removeFile_1 23 rfl rfl)
theorem dX5_removeFile_48 : decode cX5_removeFile 48 = .ok (.invokevirtual 401, 3) := dk_182 1 145 (dk_at dksX5_removeFile_2 0 rfl rfl)
theorem dX5_removeFile_51 : decode cX5_removeFile 51 = .ok (.aload_n 0, 1) := dk_42 (dk_at dksX5_removeFile_2 3 rfl rfl)
theorem dX5_removeFile_52 : decode cX5_removeFile 52 = .ok (.iconst 0, 1) := dk_3 (dk_at dksX5_removeFile_2 4 rfl rfl)
theorem dX5_removeFile_53 : decode cX5_removeFile 53 = .ok (.aload_n 0, 1) := dk_42 (dk_at dksX5_removeFile_2 5 rfl rfl)
theorem dX5_removeFile_54 : decode cX5_removeFile 54 = .ok (.invokevirtual 101, 3) := dk_182 0 101 (dk_at dksX5_removeFile_2 6 rfl rfl)
theorem dX5_removeFile_57 : decode cX5_removeFile 57 = .ok (.iconst 1, 1) := dk_4 (dk_at dksX5_removeFile_2 9 rfl rfl)
theorem dX5_removeFile_58 : decode cX5_removeFile 58 = .ok (.isub, 1) := dk_100 (dk_at dksX5_removeFile_2 10 rfl rfl)
theorem dX5_removeFile_59 : decode cX5_removeFile 59 = .ok (.i2l, 1) := dk_133 (dk_at dksX5_removeFile_2 11 rfl rfl)
theorem dX5_removeFile_60 : decode cX5_removeFile 60 = .ok (.invokevirtual 228, 3) := dk_182 0 228 (dk_at dksX5_removeFile_2 12 rfl rfl)
theorem dX5_removeFile_63 : decode cX5_removeFile 63 = .ok (.aload_n 0, 1) := dk_42 (dk_at dksX5_removeFile_2 15 rfl rfl)
theorem dX5_removeFile_64 : decode cX5_removeFile 64 = .ok (.iconst 5, 1) := dk_8 (dk_at dksX5_removeFile_2 16 rfl rfl)
theorem dX5_removeFile_65 : decode cX5_removeFile 65 = .ok (.lconst 0, 1) := dk_9 (dk_at dksX5_removeFile_2 17 rfl rfl)
theorem dX5_removeFile_66 : decode cX5_removeFile 66 = .ok (.invokevirtual 228, 3) := dk_182 0 228 (dk_at dksX5_removeFile_2 18 rfl rfl)
theorem dX5_removeFile_69 : decode cX5_removeFile 69 = .ok (.aload_n 0, 1) := dk_42 (dk_at dksX5_removeFile_2 21 rfl rfl)
theorem dX5_removeFile_70 : decode cX5_removeFile 70 = .ok (.invokevirtual 101, 3) := dk_182 0 101 (dk_at dksX5_removeFile_3 0 rfl rfl)
theorem dX5_removeFile_73 : decode cX5_removeFile 73 = .ok (.ireturn, 1) := dk_172 (dk_at dksX5_removeFile_3 3 rfl rfl)
abbrev cX5_moveFile : ByteArray := prog_17_method_134_code
def yX5_moveFile : MethodName := ⟨RX5, "moveFile", "(II)I"⟩
def dkwX5_moveFile_3 : List UInt8 := [172]
abbrev dktX5_moveFile_3 : List UInt8 := dkwX5_moveFile_3 ++ []
def dkwX5_moveFile_2 : List UInt8 := [16, 66, 4, 27, 28, 182, 1, 145, 42, 8, 9, 182, 0, 228, 42, 182, 1, 100, 42, 180, 0, 49, 28, 46]
abbrev dktX5_moveFile_2 : List UInt8 := dkwX5_moveFile_2 ++ dktX5_moveFile_3
def dkwX5_moveFile_1 : List UInt8 := [154, 0, 9, 42, 5, 182, 0, 130, 172, 42, 182, 1, 172, 42, 16, 6, 6, 27, 28, 182, 1, 145, 42]
abbrev dktX5_moveFile_1 : List UInt8 := dkwX5_moveFile_1 ++ dktX5_moveFile_2
def dkwX5_moveFile_0 : List UInt8 := [42, 3, 181, 0, 91, 42, 27, 182, 1, 32, 154, 0, 9, 42, 4, 182, 0, 130, 172, 42, 28, 182, 1, 32]
abbrev dktX5_moveFile_0 : List UInt8 := dkwX5_moveFile_0 ++ dktX5_moveFile_1
theorem dksX5_moveFile_0 : cX5_moveFile.data.toList.drop 0 = dktX5_moveFile_0 := by decide +kernel
theorem dksX5_moveFile_1 : cX5_moveFile.data.toList.drop 24 = dktX5_moveFile_1 := dk_seg dksX5_moveFile_0 24 rfl rfl
theorem dksX5_moveFile_2 : cX5_moveFile.data.toList.drop 47 = dktX5_moveFile_2 := dk_seg dksX5_moveFile_1 23 rfl rfl
theorem dksX5_moveFile_3 : cX5_moveFile.data.toList.drop 71 = dktX5_moveFile_3 := dk_seg dksX5_moveFile_2 24 rfl rfl
theorem dX5_moveFile_0 : decode cX5_moveFile 0 = .ok (.aload_n 0, 1) := dk_42 (dk_at dksX5_moveFile_0 0 rfl rfl)
theorem dX5_moveFile_1 : decode cX5_moveFile 1 = .ok (.iconst 0, 1) := dk_3 (dk_at dksX5_moveFile_0 1 rfl rfl)
theorem dX5_moveFile_2 : decode cX5_moveFile 2 = .ok (.putfield 91, 3) := dk_181 0 91 (dk_at dksX5_moveFile_0 2 rfl rfl)
theorem dX5_moveFile_5 : decode cX5_moveFile 5 = .ok (.aload_n 0, 1) := dk_42 (dk_at dksX5_moveFile_0 5 rfl rfl)
theorem dX5_moveFile_6 : decode cX5_moveFile 6 = .ok (.iload_n 1, 1) := dk_27 (dk_at dksX5_moveFile_0 6 rfl rfl)
theorem dX5_moveFile_7 : decode cX5_moveFile 7 = .ok (.invokevirtual 288, 3) := dk_182 1 32 (dk_at dksX5_moveFile_0 7 rfl rfl)
theorem dX5_moveFile_10 : decode cX5_moveFile 10 = .ok (.ifCond .ne 9, 3) := dk_154 0 9 (dk_at dksX5_moveFile_0 10 rfl rfl)
theorem dX5_moveFile_13 : decode cX5_moveFile 13 = .ok (.aload_n 0, 1) := dk_42 (dk_at dksX5_moveFile_0 13 rfl rfl)
theorem dX5_moveFile_14 : decode cX5_moveFile 14 = .ok (.iconst 1, 1) := dk_4 (dk_at dksX5_moveFile_0 14 rfl rfl)
theorem dX5_moveFile_15 : decode cX5_moveFile 15 = .ok (.invokevirtual 130, 3) := dk_182 0 130 (dk_at dksX5_moveFile_0 15 rfl rfl)
theorem dX5_moveFile_18 : decode cX5_moveFile 18 = .ok (.ireturn, 1) := dk_172 (dk_at dksX5_moveFile_0 18 rfl rfl)
theorem dX5_moveFile_19 : decode cX5_moveFile 19 = .ok (.aload_n 0, 1) := dk_42 (dk_at dksX5_moveFile_0 19 rfl rfl)
theorem dX5_moveFile_20 : decode cX5_moveFile 20 = .ok (.iload_n 2, 1) := dk_28 (dk_at dksX5_moveFile_0 20 rfl rfl)
theorem dX5_moveFile_21 : decode cX5_moveFile 21 = .ok (.invokevirtual 288, 3) := dk_182 1 32 (dk_at dksX5_moveFile_0 21 rfl rfl)
theorem dX5_moveFile_24 : decode cX5_moveFile 24 = .ok (.ifCond .ne 9, 3) := dk_154 0 9 (dk_at dksX5_moveFile_1 0 rfl rfl)
theorem dX5_moveFile_27 : decode cX5_moveFile 27 = .ok (.aload_n 0, 1) := dk_42 (dk_at dksX5_moveFile_1 3 rfl rfl)
theorem dX5_moveFile_28 : decode cX5_moveFile 28 = .ok (.iconst 2, 1) := dk_5 (dk_at dksX5_moveFile_1 4 rfl rfl)
theorem dX5_moveFile_29 : decode cX5_moveFile 29 = .ok (.invokevirtual 130, 3) := dk_182 0 130 (dk_at dksX5_moveFile_1 5 rfl rfl)
theorem dX5_moveFile_32 : decode cX5_moveFile 32 = .ok (.ireturn, 1) := dk_172 (dk_at dksX5_moveFile_1 8 rfl rfl)
theorem dX5_moveFile_33 : decode cX5_moveFile 33 = .ok (.aload_n 0, 1) := dk_42 (dk_at dksX5_moveFile_1 9 rfl rfl)
theorem dX5_moveFile_34 : decode cX5_moveFile 34 = .ok (.invokevirtual 428, 3) := dk_182 1 172 (dk_at dksX5_moveFile_1 10 rfl rfl)
theorem dX5_moveFile_37 : decode cX5_moveFile 37 = .ok (.aload_n 0, 1) := dk_42 (dk_at dksX5_moveFile_1 13 rfl rfl)
theorem dX5_moveFile_38 : decode cX5_moveFile 38 = .ok (.bipush 6, 2) := dk_16 6 (dk_at dksX5_moveFile_1 14 rfl rfl)
theorem dX5_moveFile_40 : decode cX5_moveFile 40 = .ok (.iconst 3, 1) := dk_6 (dk_at dksX5_moveFile_1 16 rfl rfl)
theorem dX5_moveFile_41 : decode cX5_moveFile 41 = .ok (.iload_n 1, 1) := dk_27 (dk_at dksX5_moveFile_1 17 rfl rfl)
theorem dX5_moveFile_42 : decode cX5_moveFile 42 = .ok (.iload_n 2, 1) := dk_28 (dk_at dksX5_moveFile_1 18 rfl rfl)
theorem dX5_moveFile_43 : decode cX5_moveFile 43 = .ok (.invokevirtual 401, 3) := dk_182 1 145 (dk_at dksX5_moveFile_1 19 rfl rfl)
theorem dX5_moveFile_46 : decode cX5_moveFile 46 = .ok (.aload_n 0, 1) := dk_42 (dk_at dksX5_moveFile_1 22 rfl rfl)
theorem dX5_moveFile_47 : decode cX5_moveFile 47 = .ok (.bipush 66, 2) := dk_16 66 (dk_at dksX5_moveFile_2 0 rfl rfl)
theorem dX5_moveFile_49 : decode cX5_moveFile 49 = .ok (.iconst 1, 1) := dk_4 (dk_at dksX5_moveFile_2 2 rfl rfl)
theorem dX5_moveFile_50 : decode cX5_moveFile 50 = .ok (.iload_n 1, 1) := dk_27 (dk_at dksX5_moveFile_2 3 rfl rfl)
theorem dX5_moveFile_51 : decode cX5_moveFile 51 = .ok (.iload_n 2, 1) := dk_28 (dk_at dksX5_moveFile_2 4 rfl rfl)
theorem dX5_moveFile_52 : decode cX5_moveFile 52 = .ok (.invokevirtual 401, 3) := dk_182 1 145 (dk_at dksX5_moveFile_2 5 rfl rfl)
theorem dX5_moveFile_55 : decode cX5_moveFile 55 = .ok (.aload_n 0, 1) := dk_42 (dk_at dksX5_moveFile_2 8 rfl rfl)
theorem dX5_moveFile_56 : decode cX5_moveFile 56 = .ok (.iconst 5, 1) := dk_8 (dk_at dksX5_moveFile_2 9 rfl rfl)
theorem dX5_moveFile_57 : decode cX5_moveFile 57 = .ok (.lconst 0, 1) := dk_9 (dk_at dksX5_moveFile_2 10 rfl rfl)
theorem dX5_moveFile_58 : decode cX5_moveFile 58 = .ok (.invokevirtual 228, 3) := dk_182 0 228 (dk_at dksX5_moveFile_2 11 rfl rfl)
theorem dX5_moveFile_61 : decode cX5_moveFile 61 = .ok (.aload_n 0, 1) := dk_42 (dk_at dksX5_moveFile_2 14 rfl rfl)
theorem dX5_moveFile_62 : decode cX5_moveFile 62 = .ok (.invokevirtual 356, 3) := dk_182 1 100 (dk_at dksX5_moveFile_2 15 rfl rfl)
theorem dX5_moveFile_65 : decode cX5_moveFile 65 = .ok (.aload_n 0, 1) := dk_42 (dk_at dksX5_moveFile_2 18 rfl rfl)
theorem dX5_moveFile_66 : decode cX5_moveFile 66 = .ok (.getfield 49, 3) := dk_180 0 49 (dk_at dksX5_moveFile_2 19 rfl rfl)
theorem dX5_moveFile_69 : decode cX5_moveFile 69 = .ok (.iload_n 2, 1) := dk_28 (dk_at dksX5_moveFile_2 22 rfl rfl)
theorem dX5_moveFile_70 : decode cX5_moveFile 70 = .ok (.iaload, 1) := dk_46 (dk_at dksX5_moveFile_2 23 rfl rfl)
theorem dX5_moveFile_71 : decode cX5_moveFile 71 = .ok (.ireturn, 1) := dk_172 (dk_at dksX5_moveFile_3 0 rfl rfl)
abbrev cX5_rename : ByteArray := prog_17_method_135_code
def yX5_rename : MethodName := ⟨RX5, "rename", "(I)I"⟩
def dkwX5_rename_3 : List UInt8 := [182, 1, 35, 62, 42, 180, 0, 21, 3, 42, 180, 0, 7, 42, 27, 182, 0, 118, 184, 0, 236, 29, 172]
abbrev dktX5_rename_3 : List UInt8 := dkwX5_rename_3 ++ []
def dkwX5_rename_2 : List UInt8 := [61, 42, 3, 181, 0, 127, 28, 154, 0, 9, 42, 5, 182, 0, 130, 172, 42, 182, 1, 172, 42, 27]
abbrev dktX5_rename_2 : List UInt8 := dkwX5_rename_2 ++ dktX5_rename_3
def dkwX5_rename_1 : List UInt8 := [153, 0, 23, 42, 182, 0, 246, 2, 159, 0, 11, 42, 182, 0, 246, 27, 160, 0, 7, 4, 167, 0, 4, 3]
abbrev dktX5_rename_1 : List UInt8 := dkwX5_rename_1 ++ dktX5_rename_2
def dkwX5_rename_0 : List UInt8 := [42, 3, 181, 0, 91, 42, 27, 182, 1, 32, 154, 0, 9, 42, 4, 182, 0, 130, 172, 42, 182, 1, 187]
abbrev dktX5_rename_0 : List UInt8 := dkwX5_rename_0 ++ dktX5_rename_1
theorem dksX5_rename_0 : cX5_rename.data.toList.drop 0 = dktX5_rename_0 := by decide +kernel
theorem dksX5_rename_1 : cX5_rename.data.toList.drop 23 = dktX5_rename_1 := dk_seg dksX5_rename_0 23 rfl rfl
theorem dksX5_rename_2 : cX5_rename.data.toList.drop 47 = dktX5_rename_2 := dk_seg dksX5_rename_1 24 rfl rfl
theorem dksX5_rename_3 : cX5_rename.data.toList.drop 69 = dktX5_rename_3 := dk_seg dksX5_rename_2 22 rfl rfl
theorem dX5_rename_0 : decode cX5_rename 0 = .ok (.aload_n 0, 1) := dk_42 (dk_at dksX5_rename_0 0 rfl rfl)
theorem dX5_rename_1 : decode cX5_rename 1 = .ok (.iconst 0, 1) := dk_3 (dk_at dksX5_rename_0 1 rfl rfl)
theorem dX5_rename_2 : decode cX5_rename 2 = .ok (.putfield 91, 3) := dk_181 0 91 (dk_at dksX5_rename_0 2 rfl rfl)
theorem dX5_rename_5 : decode cX5_rename 5 = .ok (.aload_n 0, 1) := dk_42 (dk_at dksX5_rename_0 5 rfl rfl)
theorem dX5_rename_6 : decode cX5_rename 6 = .ok (.iload_n 1, 1) := dk_27 (dk_at dksX5_rename_0 6 rfl rfl)
theorem dX5_rename_7 : decode cX5_rename 7 = .ok (.invokevirtual 288, 3) := dk_182 1 32 (dk_at dksX5_rename_0 7 rfl rfl)
theorem dX5_rename_10 : decode cX5_rename 10 = .ok (.ifCond .ne 9, 3) := dk_154 0 9 (dk_at dksX5_rename_0 10 rfl rfl)
theorem dX5_rename_13 : decode cX5_rename 13 = .ok (.aload_n 0, 1) := dk_42 (dk_at dksX5_rename_0 13 rfl rfl)
theorem dX5_rename_14 : decode cX5_rename 14 = .ok (.iconst 1, 1) := dk_4 (dk_at dksX5_rename_0 14 rfl rfl)
theorem dX5_rename_15 : decode cX5_rename 15 = .ok (.invokevirtual 130, 3) := dk_182 0 130 (dk_at dksX5_rename_0 15 rfl rfl)
theorem dX5_rename_18 : decode cX5_rename 18 = .ok (.ireturn, 1) := dk_172 (dk_at dksX5_rename_0 18 rfl rfl)
theorem dX5_rename_19 : decode cX5_rename 19 = .ok (.aload_n 0, 1) := dk_42 (dk_at dksX5_rename_0 19 rfl rfl)
theorem dX5_rename_20 : decode cX5_rename 20 = .ok (.invokevirtual 443, 3) := dk_182 1 187 (dk_at dksX5_rename_0 20 rfl rfl)
theorem dX5_rename_23 : decode cX5_rename 23 = .ok (.ifCond .eq 23, 3) := dk_153 0 23 (dk_at dksX5_rename_1 0 rfl rfl)
theorem dX5_rename_26 : decode cX5_rename 26 = .ok (.aload_n 0, 1) := dk_42 (dk_at dksX5_rename_1 3 rfl rfl)
theorem dX5_rename_27 : decode cX5_rename 27 = .ok (.invokevirtual 246, 3) := dk_182 0 246 (dk_at dksX5_rename_1 4 rfl rfl)
theorem dX5_rename_30 : decode cX5_rename 30 = .ok (.iconst (-1), 1) := dk_2 (dk_at dksX5_rename_1 7 rfl rfl)
theorem dX5_rename_31 : decode cX5_rename 31 = .ok (.if_icmp .eq 11, 3) := dk_159 0 11 (dk_at dksX5_rename_1 8 rfl rfl)
theorem dX5_rename_34 : decode cX5_rename 34 = .ok (.aload_n 0, 1) := dk_42 (dk_at dksX5_rename_1 11 rfl rfl)
theorem dX5_rename_35 : decode cX5_rename 35 = .ok (.invokevirtual 246, 3) := dk_182 0 246 (dk_at dksX5_rename_1 12 rfl rfl)
theorem dX5_rename_38 : decode cX5_rename 38 = .ok (.iload_n 1, 1) := dk_27 (dk_at dksX5_rename_1 15 rfl rfl)
theorem dX5_rename_39 : decode cX5_rename 39 = .ok (.if_icmp .ne 7, 3) := dk_160 0 7 (dk_at dksX5_rename_1 16 rfl rfl)
theorem dX5_rename_42 : decode cX5_rename 42 = .ok (.iconst 1, 1) := dk_4 (dk_at dksX5_rename_1 19 rfl rfl)
theorem dX5_rename_43 : decode cX5_rename 43 = .ok (.goto 4, 3) := dk_167 0 4 (dk_at dksX5_rename_1 20 rfl rfl)
theorem dX5_rename_46 : decode cX5_rename 46 = .ok (.iconst 0, 1) := dk_3 (dk_at dksX5_rename_1 23 rfl rfl)
theorem dX5_rename_47 : decode cX5_rename 47 = .ok (.istore_n 2, 1) := dk_61 (dk_at dksX5_rename_2 0 rfl rfl)
theorem dX5_rename_48 : decode cX5_rename 48 = .ok (.aload_n 0, 1) := dk_42 (dk_at dksX5_rename_2 1 rfl rfl)
theorem dX5_rename_49 : decode cX5_rename 49 = .ok (.iconst 0, 1) := dk_3 (dk_at dksX5_rename_2 2 rfl rfl)
theorem dX5_rename_50 : decode cX5_rename 50 = .ok (.putfield 127, 3) := dk_181 0 127 (dk_at dksX5_rename_2 3 rfl rfl)
theorem dX5_rename_53 : decode cX5_rename 53 = .ok (.iload_n 2, 1) := dk_28 (dk_at dksX5_rename_2 6 rfl rfl)
theorem dX5_rename_54 : decode cX5_rename 54 = .ok (.ifCond .ne 9, 3) := dk_154 0 9 (dk_at dksX5_rename_2 7 rfl rfl)
theorem dX5_rename_57 : decode cX5_rename 57 = .ok (.aload_n 0, 1) := dk_42 (dk_at dksX5_rename_2 10 rfl rfl)
theorem dX5_rename_58 : decode cX5_rename 58 = .ok (.iconst 2, 1) := dk_5 (dk_at dksX5_rename_2 11 rfl rfl)
theorem dX5_rename_59 : decode cX5_rename 59 = .ok (.invokevirtual 130, 3) := dk_182 0 130 (dk_at dksX5_rename_2 12 rfl rfl)
theorem dX5_rename_62 : decode cX5_rename 62 = .ok (.ireturn, 1) := dk_172 (dk_at dksX5_rename_2 15 rfl rfl)
theorem dX5_rename_63 : decode cX5_rename 63 = .ok (.aload_n 0, 1) := dk_42 (dk_at dksX5_rename_2 16 rfl rfl)
theorem dX5_rename_64 : decode cX5_rename 64 = .ok (.invokevirtual 428, 3) := dk_182 1 172 (dk_at dksX5_rename_2 17 rfl rfl)
theorem dX5_rename_67 : decode cX5_rename 67 = .ok (.aload_n 0, 1) := dk_42 (dk_at dksX5_rename_2 20 rfl rfl)
theorem dX5_rename_68 : decode cX5_rename 68 = .ok (.iload_n 1, 1) := dk_27 (dk_at dksX5_rename_2 21 rfl rfl)
theorem dX5_rename_69 : decode cX5_rename 69 = .ok (.invokevirtual 291, 3) := dk_182 1 35 (dk_at dksX5_rename_3 0 rfl rfl)
theorem dX5_rename_72 : decode cX5_rename 72 = .ok (.istore_n 3, 1) := dk_62 (dk_at dksX5_rename_3 3 rfl rfl)
theorem dX5_rename_73 : decode cX5_rename 73 = .ok (.aload_n 0, 1) := dk_42 (dk_at dksX5_rename_3 4 rfl rfl)
theorem dX5_rename_74 : decode cX5_rename 74 = .ok (.getfield 21, 3) := dk_180 0 21 (dk_at dksX5_rename_3 5 rfl rfl)
theorem dX5_rename_77 : decode cX5_rename 77 = .ok (.iconst 0, 1) := dk_3 (dk_at dksX5_rename_3 8 rfl rfl)
theorem dX5_rename_78 : decode cX5_rename 78 = .ok (.aload_n 0, 1) := dk_42 (dk_at dksX5_rename_3 9 rfl rfl)
theorem dX5_rename_79 : decode cX5_rename 79 = .ok (.getfield 7, 3) := dk_180 0 7 (dk_at dksX5_rename_3 10 rfl rfl)
theorem dX5_rename_82 : decode cX5_rename 82 = .ok (.aload_n 0, 1) := dk_42 (dk_at dksX5_rename_3 13 rfl rfl)
theorem dX5_rename_83 : decode cX5_rename 83 = .ok (.iload_n 1, 1) := dk_27 (dk_at dksX5_rename_3 14 rfl rfl)
theorem dX5_rename_84 : decode cX5_rename 84 = .ok (.invokevirtual 118, 3) := dk_182 0 118 (dk_at dksX5_rename_3 15 rfl rfl)
theorem dX5_rename_87 : decode cX5_rename 87 = .ok (.invokestatic 236, 3) := dk_184 0 236 (dk_at dksX5_rename_3 18 rfl rfl)
theorem dX5_rename_90 : decode cX5_rename 90 = .ok (.iload_n 3, 1) := dk_29 (dk_at dksX5_rename_3 21 rfl rfl)
theorem dX5_rename_91 : decode cX5_rename 91 = .ok (.ireturn, 1) := dk_172 (dk_at dksX5_rename_3 22 rfl rfl)
abbrev cX5_keep : ByteArray := prog_17_method_136_code
def yX5_keep : MethodName := ⟨RX5, "keep", "(IZ)Z"⟩
def dkwX5_keep_2 : List UInt8 := [42, 16, 66, 27, 96, 28, 153, 0, 7, 10, 167, 0, 4, 9, 182, 0, 228, 29, 172]
abbrev dktX5_keep_2 : List UInt8 := dkwX5_keep_2 ++ []
def dkwX5_keep_1 : List UInt8 := [3, 172, 42, 182, 1, 172, 42, 16, 66, 27, 96, 182, 0, 97, 4, 160, 0, 7, 4, 167, 0, 4, 3, 62]
abbrev dktX5_keep_1 : List UInt8 := dkwX5_keep_1 ++ dktX5_keep_2
def dkwX5_keep_0 : List UInt8 := [42, 42, 27, 182, 1, 32, 153, 0, 7, 3, 167, 0, 4, 4, 181, 0, 91, 42, 180, 0, 91, 158, 0, 5]
abbrev dktX5_keep_0 : List UInt8 := dkwX5_keep_0 ++ dktX5_keep_1
theorem dksX5_keep_0 : cX5_keep.data.toList.drop 0 = dktX5_keep_0 := by decide +kernel
theorem dksX5_keep_1 : cX5_keep.data.toList.drop 24 = dktX5_keep_1 := dk_seg dksX5_keep_0 24 rfl rfl
theorem dksX5_keep_2 : cX5_keep.data.toList.drop 48 = dktX5_keep_2 := dk_seg dksX5_keep_1 24 rfl rfl
theorem dX5_keep_0 : decode cX5_keep 0 = .ok (.aload_n 0, 1) := dk_42 (dk_at dksX5_keep_0 0 rfl rfl)
theorem dX5_keep_1 : decode cX5_keep 1 = .ok (.aload_n 0, 1) := dk_42 (dk_at dksX5_keep_0 1 rfl rfl)
theorem dX5_keep_2 : decode cX5_keep 2 = .ok (.iload_n 1, 1) := dk_27 (dk_at dksX5_keep_0 2 rfl rfl)
theorem dX5_keep_3 : decode cX5_keep 3 = .ok (.invokevirtual 288, 3) := dk_182 1 32 (dk_at dksX5_keep_0 3 rfl rfl)
theorem dX5_keep_6 : decode cX5_keep 6 = .ok (.ifCond .eq 7, 3) := dk_153 0 7 (dk_at dksX5_keep_0 6 rfl rfl)
theorem dX5_keep_9 : decode cX5_keep 9 = .ok (.iconst 0, 1) := dk_3 (dk_at dksX5_keep_0 9 rfl rfl)
theorem dX5_keep_10 : decode cX5_keep 10 = .ok (.goto 4, 3) := dk_167 0 4 (dk_at dksX5_keep_0 10 rfl rfl)
theorem dX5_keep_13 : decode cX5_keep 13 = .ok (.iconst 1, 1) := dk_4 (dk_at dksX5_keep_0 13 rfl rfl)
theorem dX5_keep_14 : decode cX5_keep 14 = .ok (.putfield 91, 3) := dk_181 0 91 (dk_at dksX5_keep_0 14 rfl rfl)
theorem dX5_keep_17 : decode cX5_keep 17 = .ok (.aload_n 0, 1) := dk_42 (dk_at dksX5_keep_0 17 rfl rfl)
theorem dX5_keep_18 : decode cX5_keep 18 = .ok (.getfield 91, 3) := dk_180 0 91 (dk_at dksX5_keep_0 18 rfl rfl)
theorem dX5_keep_21 : decode cX5_keep 21 = .ok (.ifCond .le 5, 3) := dk_158 0 5 (dk_at dksX5_keep_0 21 rfl rfl)
theorem dX5_keep_24 : decode cX5_keep 24 = .ok (.iconst 0, 1) := dk_3 (dk_at dksX5_keep_1 0 rfl rfl)
theorem dX5_keep_25 : decode cX5_keep 25 = .ok (.ireturn, 1) := dk_172 (dk_at dksX5_keep_1 1 rfl rfl)
theorem dX5_keep_26 : decode cX5_keep 26 = .ok (.aload_n 0, 1) := dk_42 (dk_at dksX5_keep_1 2 rfl rfl)
theorem dX5_keep_27 : decode cX5_keep 27 = .ok (.invokevirtual 428, 3) := dk_182 1 172 (dk_at dksX5_keep_1 3 rfl rfl)
theorem dX5_keep_30 : decode cX5_keep 30 = .ok (.aload_n 0, 1) := dk_42 (dk_at dksX5_keep_1 6 rfl rfl)
theorem dX5_keep_31 : decode cX5_keep 31 = .ok (.bipush 66, 2) := dk_16 66 (dk_at dksX5_keep_1 7 rfl rfl)
theorem dX5_keep_33 : decode cX5_keep 33 = .ok (.iload_n 1, 1) := dk_27 (dk_at dksX5_keep_1 9 rfl rfl)
theorem dX5_keep_34 : decode cX5_keep 34 = .ok (.iadd, 1) := dk_96 (dk_at dksX5_keep_1 10 rfl rfl)
theorem dX5_keep_35 : decode cX5_keep 35 = .ok (.invokevirtual 97, 3) := dk_182 0 97 (dk_at dksX5_keep_1 11 rfl rfl)
theorem dX5_keep_38 : decode cX5_keep 38 = .ok (.iconst 1, 1) := dk_4 (dk_at dksX5_keep_1 14 rfl rfl)
theorem dX5_keep_39 : decode cX5_keep 39 = .ok (.if_icmp .ne 7, 3) := dk_160 0 7 (dk_at dksX5_keep_1 15 rfl rfl)
theorem dX5_keep_42 : decode cX5_keep 42 = .ok (.iconst 1, 1) := dk_4 (dk_at dksX5_keep_1 18 rfl rfl)
theorem dX5_keep_43 : decode cX5_keep 43 = .ok (.goto 4, 3) := dk_167 0 4 (dk_at dksX5_keep_1 19 rfl rfl)
theorem dX5_keep_46 : decode cX5_keep 46 = .ok (.iconst 0, 1) := dk_3 (dk_at dksX5_keep_1 22 rfl rfl)
theorem dX5_keep_47 : decode cX5_keep 47 = .ok (.istore_n 3, 1) := dk_62 (dk_at dksX5_keep_1 23 rfl rfl)
theorem dX5_keep_48 : decode cX5_keep 48 = .ok (.aload_n 0, 1) := dk_42 (dk_at dksX5_keep_2 0 rfl rfl)
theorem dX5_keep_49 : decode cX5_keep 49 = .ok (.bipush 66, 2) := dk_16 66 (dk_at dksX5_keep_2 1 rfl rfl)
theorem dX5_keep_51 : decode cX5_keep 51 = .ok (.iload_n 1, 1) := dk_27 (dk_at dksX5_keep_2 3 rfl rfl)
theorem dX5_keep_52 : decode cX5_keep 52 = .ok (.iadd, 1) := dk_96 (dk_at dksX5_keep_2 4 rfl rfl)
theorem dX5_keep_53 : decode cX5_keep 53 = .ok (.iload_n 2, 1) := dk_28 (dk_at dksX5_keep_2 5 rfl rfl)
theorem dX5_keep_54 : decode cX5_keep 54 = .ok (.ifCond .eq 7, 3) := dk_153 0 7 (dk_at dksX5_keep_2 6 rfl rfl)
theorem dX5_keep_57 : decode cX5_keep 57 = .ok (.lconst 1, 1) := dk_10 (dk_at dksX5_keep_2 9 rfl rfl)
theorem dX5_keep_58 : decode cX5_keep 58 = .ok (.goto 4, 3) := dk_167 0 4 (dk_at dksX5_keep_2 10 rfl rfl)
theorem dX5_keep_61 : decode cX5_keep 61 = .ok (.lconst 0, 1) := dk_9 (dk_at dksX5_keep_2 13 rfl rfl)
theorem dX5_keep_62 : decode cX5_keep 62 = .ok (.invokevirtual 228, 3) := dk_182 0 228 (dk_at dksX5_keep_2 14 rfl rfl)
theorem dX5_keep_65 : decode cX5_keep 65 = .ok (.iload_n 3, 1) := dk_29 (dk_at dksX5_keep_2 17 rfl rfl)
theorem dX5_keep_66 : decode cX5_keep 66 = .ok (.ireturn, 1) := dk_172 (dk_at dksX5_keep_2 18 rfl rfl)
abbrev cX5_addRule : ByteArray := prog_17_method_137_code
def yX5_addRule : MethodName := ⟨RX5, "addRule", "()I"⟩
def dkwX5_addRule_4 : List UInt8 := [182, 1, 172, 42, 4, 3, 182, 0, 87, 42, 182, 0, 109, 4, 100, 172]
abbrev dktX5_addRule_4 : List UInt8 := dkwX5_addRule_4 ++ []
def dkwX5_addRule_3 : List UInt8 := [172, 42, 182, 0, 109, 16, 8, 160, 0, 14, 42, 27, 181, 0, 127, 42, 5, 182, 0, 130, 172, 42]
abbrev dktX5_addRule_3 : List UInt8 := dkwX5_addRule_3 ++ dktX5_addRule_4
def dkwX5_addRule_2 : List UInt8 := [167, 0, 4, 3, 182, 0, 203, 42, 3, 181, 0, 94, 42, 182, 0, 165, 154, 0, 9, 42, 4, 182, 0, 130]
abbrev dktX5_addRule_2 : List UInt8 := dkwX5_addRule_2 ++ dktX5_addRule_3
def dkwX5_addRule_1 : List UInt8 := [4, 20, 1, 190, 182, 0, 228, 42, 182, 1, 20, 42, 182, 1, 17, 42, 42, 180, 0, 156, 154, 0, 7, 4]
abbrev dktX5_addRule_1 : List UInt8 := dkwX5_addRule_1 ++ dktX5_addRule_2
def dkwX5_addRule_0 : List UInt8 := [42, 3, 181, 0, 91, 42, 180, 0, 127, 60, 42, 182, 1, 149, 42, 182, 0, 109, 16, 8, 160, 0, 11, 42]
abbrev dktX5_addRule_0 : List UInt8 := dkwX5_addRule_0 ++ dktX5_addRule_1
theorem dksX5_addRule_0 : cX5_addRule.data.toList.drop 0 = dktX5_addRule_0 := by decide +kernel
theorem dksX5_addRule_1 : cX5_addRule.data.toList.drop 24 = dktX5_addRule_1 := dk_seg dksX5_addRule_0 24 rfl rfl
theorem dksX5_addRule_2 : cX5_addRule.data.toList.drop 48 = dktX5_addRule_2 := dk_seg dksX5_addRule_1 24 rfl rfl
theorem dksX5_addRule_3 : cX5_addRule.data.toList.drop 72 = dktX5_addRule_3 := dk_seg dksX5_addRule_2 24 rfl rfl
theorem dksX5_addRule_4 : cX5_addRule.data.toList.drop 94 = dktX5_addRule_4 := dk_seg dksX5_addRule_3 22 rfl rfl
theorem dX5_addRule_0 : decode cX5_addRule 0 = .ok (.aload_n 0, 1) := dk_42 (dk_at dksX5_addRule_0 0 rfl rfl)
theorem dX5_addRule_1 : decode cX5_addRule 1 = .ok (.iconst 0, 1) := dk_3 (dk_at dksX5_addRule_0 1 rfl rfl)
theorem dX5_addRule_2 : decode cX5_addRule 2 = .ok (.putfield 91, 3) := dk_181 0 91 (dk_at dksX5_addRule_0 2 rfl rfl)
theorem dX5_addRule_5 : decode cX5_addRule 5 = .ok (.aload_n 0, 1) := dk_42 (dk_at dksX5_addRule_0 5 rfl rfl)
theorem dX5_addRule_6 : decode cX5_addRule 6 = .ok (.getfield 127, 3) := dk_180 0 127 (dk_at dksX5_addRule_0 6 rfl rfl)
theorem dX5_addRule_9 : decode cX5_addRule 9 = .ok (.istore_n 1, 1) := dk_60 (dk_at dksX5_addRule_0 9 rfl rfl)
theorem dX5_addRule_10 : decode cX5_addRule 10 = .ok (.aload_n 0, 1) := dk_42 (dk_at dksX5_addRule_0 10 rfl rfl)
theorem dX5_addRule_11 : decode cX5_addRule 11 = .ok (.invokevirtual 405, 3) := dk_182 1 149 (dk_at dksX5_addRule_0 11 rfl rfl)
theorem dX5_addRule_14 : decode cX5_addRule 14 = .ok (.aload_n 0, 1) := dk_42 (dk_at dksX5_addRule_0 14 rfl rfl)
theorem dX5_addRule_15 : decode cX5_addRule 15 = .ok (.invokevirtual 109, 3) := dk_182 0 109 (dk_at dksX5_addRule_0 15 rfl rfl)
theorem dX5_addRule_18 : decode cX5_addRule 18 = .ok (.bipush 8, 2) := dk_16 8 (dk_at dksX5_addRule_0 18 rfl rfl)
theorem dX5_addRule_20 : decode cX5_addRule 20 = .ok (.if_icmp .ne 11, 3) := dk_160 0 11 (dk_at dksX5_addRule_0 20 rfl rfl)
theorem dX5_addRule_23 : decode cX5_addRule 23 = .ok (.aload_n 0, 1) := dk_42 (dk_at dksX5_addRule_0 23 rfl rfl)
theorem dX5_addRule_24 : decode cX5_addRule 24 = .ok (.iconst 1, 1) := dk_4 (dk_at dksX5_addRule_1 0 rfl rfl)
theorem dX5_addRule_25 : decode cX5_addRule 25 = .ok (.ldc2_w 446, 3) := dk_20 1 190 (dk_at dksX5_addRule_1 1 rfl rfl)
theorem dX5_addRule_28 : decode cX5_addRule 28 = .ok (.invokevirtual 228, 3) := dk_182 0 228 (dk_at dksX5_addRule_1 4 rfl rfl)
theorem dX5_addRule_31 : decode cX5_addRule 31 = .ok (.aload_n 0, 1) := dk_42 (dk_at dksX5_addRule_1 7 rfl rfl)
theorem dX5_addRule_32 : decode cX5_addRule 32 = .ok (.invokevirtual 276, 3) := dk_182 1 20 (dk_at dksX5_addRule_1 8 rfl rfl)
theorem dX5_addRule_35 : decode cX5_addRule 35 = .ok (.aload_n 0, 1) := dk_42 (dk_at dksX5_addRule_1 11 rfl rfl)
theorem dX5_addRule_36 : decode cX5_addRule 36 = .ok (.invokevirtual 273, 3) := dk_182 1 17 (dk_at dksX5_addRule_1 12 rfl rfl)
theorem dX5_addRule_39 : decode cX5_addRule 39 = .ok (.aload_n 0, 1) := dk_42 (dk_at dksX5_addRule_1 15 rfl rfl)
theorem dX5_addRule_40 : decode cX5_addRule 40 = .ok (.aload_n 0, 1) := dk_42 (dk_at dksX5_addRule_1 16 rfl rfl)
theorem dX5_addRule_41 : decode cX5_addRule 41 = .ok (.getfield 156, 3) := dk_180 0 156 (dk_at dksX5_addRule_1 17 rfl rfl)
theorem dX5_addRule_44 : decode cX5_addRule 44 = .ok (.ifCond .ne 7, 3) := dk_154 0 7 (dk_at dksX5_addRule_1 20 rfl rfl)
theorem dX5_addRule_47 : decode cX5_addRule 47 = .ok (.iconst 1, 1) := dk_4 (dk_at dksX5_addRule_1 23 rfl rfl)
theorem dX5_addRule_48 : decode cX5_addRule 48 = .ok (.goto 4, 3) := dk_167 0 4 (dk_at dksX5_addRule_2 0 rfl rfl)
theorem dX5_addRule_51 : decode cX5_addRule 51 = .ok (.iconst 0, 1) := dk_3 (dk_at dksX5_addRule_2 3 rfl rfl)
theorem dX5_addRule_52 : decode cX5_addRule 52 = .ok (.invokevirtual 203, 3) := dk_182 0 203 (dk_at dksX5_addRule_2 4 rfl rfl)
theorem dX5_addRule_55 : decode cX5_addRule 55 = .ok (.aload_n 0, 1) := dk_42 (dk_at dksX5_addRule_2 7 rfl rfl)
theorem dX5_addRule_56 : decode cX5_addRule 56 = .ok (.iconst 0, 1) := dk_3 (dk_at dksX5_addRule_2 8 rfl rfl)
theorem dX5_addRule_57 : decode cX5_addRule 57 = .ok (.putfield 94, 3) := dk_181 0 94 (dk_at dksX5_addRule_2 9 rfl rfl)
theorem dX5_addRule_60 : decode cX5_addRule 60 = .ok (.aload_n 0, 1) := dk_42 (dk_at dksX5_addRule_2 12 rfl rfl)
theorem dX5_addRule_61 : decode cX5_addRule 61 = .ok (.invokevirtual 165, 3) := dk_182 0 165 (dk_at dksX5_addRule_2 13 rfl rfl)
theorem dX5_addRule_64 : decode cX5_addRule 64 = .ok (.ifCond .ne 9, 3) := dk_154 0 9 (dk_at dksX5_addRule_2 16 rfl rfl)
theorem dX5_addRule_67 : decode cX5_addRule 67 = .ok (.aload_n 0, 1) := dk_42 (dk_at dksX5_addRule_2 19 rfl rfl)
theorem dX5_addRule_68 : decode cX5_addRule 68 = .ok (.iconst 1, 1) := dk_4 (dk_at dksX5_addRule_2 20 rfl rfl)
theorem dX5_addRule_69 : decode cX5_addRule 69 = .ok (.invokevirtual 130, 3) := dk_182 0 130 (dk_at dksX5_addRule_2 21 rfl rfl)
theorem dX5_addRule_72 : decode cX5_addRule 72 = .ok (.ireturn, 1) := dk_172 (dk_at dksX5_addRule_3 0 rfl rfl)
theorem dX5_addRule_73 : decode cX5_addRule 73 = .ok (.aload_n 0, 1) := dk_42 (dk_at dksX5_addRule_3 1 rfl rfl)
theorem dX5_addRule_74 : decode cX5_addRule 74 = .ok (.invokevirtual 109, 3) := dk_182 0 109 (dk_at dksX5_addRule_3 2 rfl rfl)
theorem dX5_addRule_77 : decode cX5_addRule 77 = .ok (.bipush 8, 2) := dk_16 8 (dk_at dksX5_addRule_3 5 rfl rfl)
theorem dX5_addRule_79 : decode cX5_addRule 79 = .ok (.if_icmp .ne 14, 3) := dk_160 0 14 (dk_at dksX5_addRule_3 7 rfl rfl)
theorem dX5_addRule_82 : decode cX5_addRule 82 = .ok (.aload_n 0, 1) := dk_42 (dk_at dksX5_addRule_3 10 rfl rfl)
theorem dX5_addRule_83 : decode cX5_addRule 83 = .ok (.iload_n 1, 1) := dk_27 (dk_at dksX5_addRule_3 11 rfl rfl)
theorem dX5_addRule_84 : decode cX5_addRule 84 = .ok (.putfield 127, 3) := dk_181 0 127 (dk_at dksX5_addRule_3 12 rfl rfl)
theorem dX5_addRule_87 : decode cX5_addRule 87 = .ok (.aload_n 0, 1) := dk_42 (dk_at dksX5_addRule_3 15 rfl rfl)
theorem dX5_addRule_88 : decode cX5_addRule 88 = .ok (.iconst 2, 1) := dk_5 (dk_at dksX5_addRule_3 16 rfl rfl)
theorem dX5_addRule_89 : decode cX5_addRule 89 = .ok (.invokevirtual 130, 3) := dk_182 0 130 (dk_at dksX5_addRule_3 17 rfl rfl)
theorem dX5_addRule_92 : decode cX5_addRule 92 = .ok (.ireturn, 1) := dk_172 (dk_at dksX5_addRule_3 20 rfl rfl)
theorem dX5_addRule_93 : decode cX5_addRule 93 = .ok (.aload_n 0, 1) := dk_42 (dk_at dksX5_addRule_3 21 rfl rfl)
theorem dX5_addRule_94 : decode cX5_addRule 94 = .ok (.invokevirtual 428, 3) := dk_182 1 172 (dk_at dksX5_addRule_4 0 rfl rfl)
theorem dX5_addRule_97 : decode cX5_addRule 97 = .ok (.aload_n 0, 1) := dk_42 (dk_at dksX5_addRule_4 3 rfl rfl)
theorem dX5_addRule_98 : decode cX5_addRule 98 = .ok (.iconst 1, 1) := dk_4 (dk_at dksX5_addRule_4 4 rfl rfl)
theorem dX5_addRule_99 : decode cX5_addRule 99 = .ok (.iconst 0, 1) := dk_3 (dk_at dksX5_addRule_4 5 rfl rfl)
theorem dX5_addRule_100 : decode cX5_addRule 100 = .ok (.invokevirtual 87, 3) := dk_182 0 87 (dk_at dksX5_addRule_4 6 rfl rfl)
theorem dX5_addRule_103 : decode cX5_addRule 103 = .ok (.aload_n 0, 1) := dk_42 (dk_at dksX5_addRule_4 9 rfl rfl)
theorem dX5_addRule_104 : decode cX5_addRule 104 = .ok (.invokevirtual 109, 3) := dk_182 0 109 (dk_at dksX5_addRule_4 10 rfl rfl)
theorem dX5_addRule_107 : decode cX5_addRule 107 = .ok (.iconst 1, 1) := dk_4 (dk_at dksX5_addRule_4 13 rfl rfl)
theorem dX5_addRule_108 : decode cX5_addRule 108 = .ok (.isub, 1) := dk_100 (dk_at dksX5_addRule_4 14 rfl rfl)
theorem dX5_addRule_109 : decode cX5_addRule 109 = .ok (.ireturn, 1) := dk_172 (dk_at dksX5_addRule_4 15 rfl rfl)
abbrev cX5_removeRule : ByteArray := prog_17_method_138_code
def yX5_removeRule : MethodName := ⟨RX5, "removeRule", "(I)I"⟩
def dkwX5_removeRule_1 : List UInt8 := [27, 182, 1, 152, 42, 182, 0, 109, 172]
abbrev dktX5_removeRule_1 : List UInt8 := dkwX5_removeRule_1 ++ []
def dkwX5_removeRule_0 : List UInt8 := [42, 3, 181, 0, 91, 42, 27, 182, 1, 41, 154, 0, 9, 42, 4, 182, 0, 130, 172, 42, 182, 1, 172, 42]
abbrev dktX5_removeRule_0 : List UInt8 := dkwX5_removeRule_0 ++ dktX5_removeRule_1
theorem dksX5_removeRule_0 : cX5_removeRule.data.toList.drop 0 = dktX5_removeRule_0 := by decide +kernel
theorem dksX5_removeRule_1 : cX5_removeRule.data.toList.drop 24 = dktX5_removeRule_1 := dk_seg dksX5_removeRule_0 24 rfl rfl
theorem dX5_removeRule_0 : decode cX5_removeRule 0 = .ok (.aload_n 0, 1) := dk_42 (dk_at dksX5_removeRule_0 0 rfl rfl)
theorem dX5_removeRule_1 : decode cX5_removeRule 1 = .ok (.iconst 0, 1) := dk_3 (dk_at dksX5_removeRule_0 1 rfl rfl)
theorem dX5_removeRule_2 : decode cX5_removeRule 2 = .ok (.putfield 91, 3) := dk_181 0 91 (dk_at dksX5_removeRule_0 2 rfl rfl)
theorem dX5_removeRule_5 : decode cX5_removeRule 5 = .ok (.aload_n 0, 1) := dk_42 (dk_at dksX5_removeRule_0 5 rfl rfl)
theorem dX5_removeRule_6 : decode cX5_removeRule 6 = .ok (.iload_n 1, 1) := dk_27 (dk_at dksX5_removeRule_0 6 rfl rfl)
theorem dX5_removeRule_7 : decode cX5_removeRule 7 = .ok (.invokevirtual 297, 3) := dk_182 1 41 (dk_at dksX5_removeRule_0 7 rfl rfl)
theorem dX5_removeRule_10 : decode cX5_removeRule 10 = .ok (.ifCond .ne 9, 3) := dk_154 0 9 (dk_at dksX5_removeRule_0 10 rfl rfl)
theorem dX5_removeRule_13 : decode cX5_removeRule 13 = .ok (.aload_n 0, 1) := dk_42 (dk_at dksX5_removeRule_0 13 rfl rfl)
theorem dX5_removeRule_14 : decode cX5_removeRule 14 = .ok (.iconst 1, 1) := dk_4 (dk_at dksX5_removeRule_0 14 rfl rfl)
theorem dX5_removeRule_15 : decode cX5_removeRule 15 = .ok (.invokevirtual 130, 3) := dk_182 0 130 (dk_at dksX5_removeRule_0 15 rfl rfl)
theorem dX5_removeRule_18 : decode cX5_removeRule 18 = .ok (.ireturn, 1) := dk_172 (dk_at dksX5_removeRule_0 18 rfl rfl)
theorem dX5_removeRule_19 : decode cX5_removeRule 19 = .ok (.aload_n 0, 1) := dk_42 (dk_at dksX5_removeRule_0 19 rfl rfl)
theorem dX5_removeRule_20 : decode cX5_removeRule 20 = .ok (.invokevirtual 428, 3) := dk_182 1 172 (dk_at dksX5_removeRule_0 20 rfl rfl)
theorem dX5_removeRule_23 : decode cX5_removeRule 23 = .ok (.aload_n 0, 1) := dk_42 (dk_at dksX5_removeRule_0 23 rfl rfl)
theorem dX5_removeRule_24 : decode cX5_removeRule 24 = .ok (.iload_n 1, 1) := dk_27 (dk_at dksX5_removeRule_1 0 rfl rfl)
theorem dX5_removeRule_25 : decode cX5_removeRule 25 = .ok (.invokevirtual 408, 3) := dk_182 1 152 (dk_at dksX5_removeRule_1 1 rfl rfl)
theorem dX5_removeRule_28 : decode cX5_removeRule 28 = .ok (.aload_n 0, 1) := dk_42 (dk_at dksX5_removeRule_1 4 rfl rfl)
theorem dX5_removeRule_29 : decode cX5_removeRule 29 = .ok (.invokevirtual 109, 3) := dk_182 0 109 (dk_at dksX5_removeRule_1 5 rfl rfl)
theorem dX5_removeRule_32 : decode cX5_removeRule 32 = .ok (.ireturn, 1) := dk_172 (dk_at dksX5_removeRule_1 8 rfl rfl)
abbrev cX5_moveRule : ByteArray := prog_17_method_139_code
def yX5_moveRule : MethodName := ⟨RX5, "moveRule", "(II)I"⟩
def dkwX5_moveRule_3 : List UInt8 := [167, 255, 239, 29, 172]
abbrev dktX5_moveRule_3 : List UInt8 := dkwX5_moveRule_3 ++ []
def dkwX5_moveRule_2 : List UInt8 := [42, 28, 182, 1, 106, 54, 4, 21, 4, 153, 0, 18, 132, 3, 1, 21, 4, 21, 4, 4, 100, 126, 54, 4]
abbrev dktX5_moveRule_2 : List UInt8 := dkwX5_moveRule_2 ++ dktX5_moveRule_3
def dkwX5_moveRule_1 : List UInt8 := [154, 0, 9, 42, 5, 182, 0, 130, 172, 42, 182, 1, 172, 42, 16, 86, 8, 27, 28, 182, 1, 145, 3, 62]
abbrev dktX5_moveRule_1 : List UInt8 := dkwX5_moveRule_1 ++ dktX5_moveRule_2
def dkwX5_moveRule_0 : List UInt8 := [42, 3, 181, 0, 91, 42, 27, 182, 1, 41, 154, 0, 9, 42, 4, 182, 0, 130, 172, 42, 28, 182, 1, 41]
abbrev dktX5_moveRule_0 : List UInt8 := dkwX5_moveRule_0 ++ dktX5_moveRule_1
theorem dksX5_moveRule_0 : cX5_moveRule.data.toList.drop 0 = dktX5_moveRule_0 := by decide +kernel
theorem dksX5_moveRule_1 : cX5_moveRule.data.toList.drop 24 = dktX5_moveRule_1 := dk_seg dksX5_moveRule_0 24 rfl rfl
theorem dksX5_moveRule_2 : cX5_moveRule.data.toList.drop 48 = dktX5_moveRule_2 := dk_seg dksX5_moveRule_1 24 rfl rfl
theorem dksX5_moveRule_3 : cX5_moveRule.data.toList.drop 72 = dktX5_moveRule_3 := dk_seg dksX5_moveRule_2 24 rfl rfl
theorem dX5_moveRule_0 : decode cX5_moveRule 0 = .ok (.aload_n 0, 1) := dk_42 (dk_at dksX5_moveRule_0 0 rfl rfl)
theorem dX5_moveRule_1 : decode cX5_moveRule 1 = .ok (.iconst 0, 1) := dk_3 (dk_at dksX5_moveRule_0 1 rfl rfl)
theorem dX5_moveRule_2 : decode cX5_moveRule 2 = .ok (.putfield 91, 3) := dk_181 0 91 (dk_at dksX5_moveRule_0 2 rfl rfl)
theorem dX5_moveRule_5 : decode cX5_moveRule 5 = .ok (.aload_n 0, 1) := dk_42 (dk_at dksX5_moveRule_0 5 rfl rfl)
theorem dX5_moveRule_6 : decode cX5_moveRule 6 = .ok (.iload_n 1, 1) := dk_27 (dk_at dksX5_moveRule_0 6 rfl rfl)
theorem dX5_moveRule_7 : decode cX5_moveRule 7 = .ok (.invokevirtual 297, 3) := dk_182 1 41 (dk_at dksX5_moveRule_0 7 rfl rfl)
theorem dX5_moveRule_10 : decode cX5_moveRule 10 = .ok (.ifCond .ne 9, 3) := dk_154 0 9 (dk_at dksX5_moveRule_0 10 rfl rfl)
theorem dX5_moveRule_13 : decode cX5_moveRule 13 = .ok (.aload_n 0, 1) := dk_42 (dk_at dksX5_moveRule_0 13 rfl rfl)
theorem dX5_moveRule_14 : decode cX5_moveRule 14 = .ok (.iconst 1, 1) := dk_4 (dk_at dksX5_moveRule_0 14 rfl rfl)
theorem dX5_moveRule_15 : decode cX5_moveRule 15 = .ok (.invokevirtual 130, 3) := dk_182 0 130 (dk_at dksX5_moveRule_0 15 rfl rfl)
theorem dX5_moveRule_18 : decode cX5_moveRule 18 = .ok (.ireturn, 1) := dk_172 (dk_at dksX5_moveRule_0 18 rfl rfl)
theorem dX5_moveRule_19 : decode cX5_moveRule 19 = .ok (.aload_n 0, 1) := dk_42 (dk_at dksX5_moveRule_0 19 rfl rfl)
theorem dX5_moveRule_20 : decode cX5_moveRule 20 = .ok (.iload_n 2, 1) := dk_28 (dk_at dksX5_moveRule_0 20 rfl rfl)
theorem dX5_moveRule_21 : decode cX5_moveRule 21 = .ok (.invokevirtual 297, 3) := dk_182 1 41 (dk_at dksX5_moveRule_0 21 rfl rfl)
theorem dX5_moveRule_24 : decode cX5_moveRule 24 = .ok (.ifCond .ne 9, 3) := dk_154 0 9 (dk_at dksX5_moveRule_1 0 rfl rfl)
theorem dX5_moveRule_27 : decode cX5_moveRule 27 = .ok (.aload_n 0, 1) := dk_42 (dk_at dksX5_moveRule_1 3 rfl rfl)
theorem dX5_moveRule_28 : decode cX5_moveRule 28 = .ok (.iconst 2, 1) := dk_5 (dk_at dksX5_moveRule_1 4 rfl rfl)
theorem dX5_moveRule_29 : decode cX5_moveRule 29 = .ok (.invokevirtual 130, 3) := dk_182 0 130 (dk_at dksX5_moveRule_1 5 rfl rfl)
theorem dX5_moveRule_32 : decode cX5_moveRule 32 = .ok (.ireturn, 1) := dk_172 (dk_at dksX5_moveRule_1 8 rfl rfl)
theorem dX5_moveRule_33 : decode cX5_moveRule 33 = .ok (.aload_n 0, 1) := dk_42 (dk_at dksX5_moveRule_1 9 rfl rfl)
theorem dX5_moveRule_34 : decode cX5_moveRule 34 = .ok (.invokevirtual 428, 3) := dk_182 1 172 (dk_at dksX5_moveRule_1 10 rfl rfl)
theorem dX5_moveRule_37 : decode cX5_moveRule 37 = .ok (.aload_n 0, 1) := dk_42 (dk_at dksX5_moveRule_1 13 rfl rfl)
theorem dX5_moveRule_38 : decode cX5_moveRule 38 = .ok (.bipush 86, 2) := dk_16 86 (dk_at dksX5_moveRule_1 14 rfl rfl)
theorem dX5_moveRule_40 : decode cX5_moveRule 40 = .ok (.iconst 5, 1) := dk_8 (dk_at dksX5_moveRule_1 16 rfl rfl)
theorem dX5_moveRule_41 : decode cX5_moveRule 41 = .ok (.iload_n 1, 1) := dk_27 (dk_at dksX5_moveRule_1 17 rfl rfl)
theorem dX5_moveRule_42 : decode cX5_moveRule 42 = .ok (.iload_n 2, 1) := dk_28 (dk_at dksX5_moveRule_1 18 rfl rfl)
theorem dX5_moveRule_43 : decode cX5_moveRule 43 = .ok (.invokevirtual 401, 3) := dk_182 1 145 (dk_at dksX5_moveRule_1 19 rfl rfl)
theorem dX5_moveRule_46 : decode cX5_moveRule 46 = .ok (.iconst 0, 1) := dk_3 (dk_at dksX5_moveRule_1 22 rfl rfl)
theorem dX5_moveRule_47 : decode cX5_moveRule 47 = .ok (.istore_n 3, 1) := dk_62 (dk_at dksX5_moveRule_1 23 rfl rfl)
theorem dX5_moveRule_48 : decode cX5_moveRule 48 = .ok (.aload_n 0, 1) := dk_42 (dk_at dksX5_moveRule_2 0 rfl rfl)
theorem dX5_moveRule_49 : decode cX5_moveRule 49 = .ok (.iload_n 2, 1) := dk_28 (dk_at dksX5_moveRule_2 1 rfl rfl)
theorem dX5_moveRule_50 : decode cX5_moveRule 50 = .ok (.invokevirtual 362, 3) := dk_182 1 106 (dk_at dksX5_moveRule_2 2 rfl rfl)
theorem dX5_moveRule_53 : decode cX5_moveRule 53 = .ok (.istore 4, 2) := dk_54 4 (dk_at dksX5_moveRule_2 5 rfl rfl)
theorem dX5_moveRule_55 : decode cX5_moveRule 55 = .ok (.iload 4, 2) := dk_21 4 (dk_at dksX5_moveRule_2 7 rfl rfl)
theorem dX5_moveRule_57 : decode cX5_moveRule 57 = .ok (.ifCond .eq 18, 3) := dk_153 0 18 (dk_at dksX5_moveRule_2 9 rfl rfl)
theorem dX5_moveRule_60 : decode cX5_moveRule 60 = .ok (.iinc 3 1, 3) := dk_132 3 1 (dk_at dksX5_moveRule_2 12 rfl rfl)
theorem dX5_moveRule_63 : decode cX5_moveRule 63 = .ok (.iload 4, 2) := dk_21 4 (dk_at dksX5_moveRule_2 15 rfl rfl)
theorem dX5_moveRule_65 : decode cX5_moveRule 65 = .ok (.iload 4, 2) := dk_21 4 (dk_at dksX5_moveRule_2 17 rfl rfl)
theorem dX5_moveRule_67 : decode cX5_moveRule 67 = .ok (.iconst 1, 1) := dk_4 (dk_at dksX5_moveRule_2 19 rfl rfl)
theorem dX5_moveRule_68 : decode cX5_moveRule 68 = .ok (.isub, 1) := dk_100 (dk_at dksX5_moveRule_2 20 rfl rfl)
theorem dX5_moveRule_69 : decode cX5_moveRule 69 = .ok (.iand, 1) := dk_126 (dk_at dksX5_moveRule_2 21 rfl rfl)
theorem dX5_moveRule_70 : decode cX5_moveRule 70 = .ok (.istore 4, 2) := dk_54 4 (dk_at dksX5_moveRule_2 22 rfl rfl)
theorem dX5_moveRule_72 : decode cX5_moveRule 72 = .ok (.goto (-17), 3) := dk_167 255 239 (dk_at dksX5_moveRule_3 0 rfl rfl)
theorem dX5_moveRule_75 : decode cX5_moveRule 75 = .ok (.iload_n 3, 1) := dk_29 (dk_at dksX5_moveRule_3 3 rfl rfl)
theorem dX5_moveRule_76 : decode cX5_moveRule 76 = .ok (.ireturn, 1) := dk_172 (dk_at dksX5_moveRule_3 4 rfl rfl)
abbrev cX5_setCount : ByteArray := prog_17_method_140_code
def yX5_setCount : MethodName := ⟨RX5, "setCount", "(III)I"⟩
def dkwX5_setCount_2 : List UInt8 := [28, 29, 182, 0, 252, 42, 182, 1, 142, 172]
abbrev dktX5_setCount_2 : List UInt8 := dkwX5_setCount_2 ++ []
def dkwX5_setCount_1 : List UInt8 := [153, 0, 12, 29, 4, 7, 184, 0, 105, 154, 0, 9, 42, 4, 182, 0, 130, 172, 42, 182, 1, 172, 42, 27]
abbrev dktX5_setCount_1 : List UInt8 := dkwX5_setCount_1 ++ dktX5_setCount_2
def dkwX5_setCount_0 : List UInt8 := [42, 3, 181, 0, 91, 27, 3, 17, 3, 231, 184, 0, 105, 153, 0, 22, 28, 4, 16, 99, 184, 0, 105]
abbrev dktX5_setCount_0 : List UInt8 := dkwX5_setCount_0 ++ dktX5_setCount_1
theorem dksX5_setCount_0 : cX5_setCount.data.toList.drop 0 = dktX5_setCount_0 := by decide +kernel
theorem dksX5_setCount_1 : cX5_setCount.data.toList.drop 23 = dktX5_setCount_1 := dk_seg dksX5_setCount_0 23 rfl rfl
theorem dksX5_setCount_2 : cX5_setCount.data.toList.drop 47 = dktX5_setCount_2 := dk_seg dksX5_setCount_1 24 rfl rfl
theorem dX5_setCount_0 : decode cX5_setCount 0 = .ok (.aload_n 0, 1) := dk_42 (dk_at dksX5_setCount_0 0 rfl rfl)
theorem dX5_setCount_1 : decode cX5_setCount 1 = .ok (.iconst 0, 1) := dk_3 (dk_at dksX5_setCount_0 1 rfl rfl)
theorem dX5_setCount_2 : decode cX5_setCount 2 = .ok (.putfield 91, 3) := dk_181 0 91 (dk_at dksX5_setCount_0 2 rfl rfl)
theorem dX5_setCount_5 : decode cX5_setCount 5 = .ok (.iload_n 1, 1) := dk_27 (dk_at dksX5_setCount_0 5 rfl rfl)
theorem dX5_setCount_6 : decode cX5_setCount 6 = .ok (.iconst 0, 1) := dk_3 (dk_at dksX5_setCount_0 6 rfl rfl)
theorem dX5_setCount_7 : decode cX5_setCount 7 = .ok (.sipush 999, 3) := dk_17 3 231 (dk_at dksX5_setCount_0 7 rfl rfl)
theorem dX5_setCount_10 : decode cX5_setCount 10 = .ok (.invokestatic 105, 3) := dk_184 0 105 (dk_at dksX5_setCount_0 10 rfl rfl)
theorem dX5_setCount_13 : decode cX5_setCount 13 = .ok (.ifCond .eq 22, 3) := dk_153 0 22 (dk_at dksX5_setCount_0 13 rfl rfl)
theorem dX5_setCount_16 : decode cX5_setCount 16 = .ok (.iload_n 2, 1) := dk_28 (dk_at dksX5_setCount_0 16 rfl rfl)
theorem dX5_setCount_17 : decode cX5_setCount 17 = .ok (.iconst 1, 1) := dk_4 (dk_at dksX5_setCount_0 17 rfl rfl)
theorem dX5_setCount_18 : decode cX5_setCount 18 = .ok (.bipush 99, 2) := dk_16 99 (dk_at dksX5_setCount_0 18 rfl rfl)
theorem dX5_setCount_20 : decode cX5_setCount 20 = .ok (.invokestatic 105, 3) := dk_184 0 105 (dk_at dksX5_setCount_0 20 rfl rfl)
theorem dX5_setCount_23 : decode cX5_setCount 23 = .ok (.ifCond .eq 12, 3) := dk_153 0 12 (dk_at dksX5_setCount_1 0 rfl rfl)
theorem dX5_setCount_26 : decode cX5_setCount 26 = .ok (.iload_n 3, 1) := dk_29 (dk_at dksX5_setCount_1 3 rfl rfl)
theorem dX5_setCount_27 : decode cX5_setCount 27 = .ok (.iconst 1, 1) := dk_4 (dk_at dksX5_setCount_1 4 rfl rfl)
theorem dX5_setCount_28 : decode cX5_setCount 28 = .ok (.iconst 4, 1) := dk_7 (dk_at dksX5_setCount_1 5 rfl rfl)
theorem dX5_setCount_29 : decode cX5_setCount 29 = .ok (.invokestatic 105, 3) := dk_184 0 105 (dk_at dksX5_setCount_1 6 rfl rfl)
theorem dX5_setCount_32 : decode cX5_setCount 32 = .ok (.ifCond .ne 9, 3) := dk_154 0 9 (dk_at dksX5_setCount_1 9 rfl rfl)
theorem dX5_setCount_35 : decode cX5_setCount 35 = .ok (.aload_n 0, 1) := dk_42 (dk_at dksX5_setCount_1 12 rfl rfl)
theorem dX5_setCount_36 : decode cX5_setCount 36 = .ok (.iconst 1, 1) := dk_4 (dk_at dksX5_setCount_1 13 rfl rfl)
theorem dX5_setCount_37 : decode cX5_setCount 37 = .ok (.invokevirtual 130, 3) := dk_182 0 130 (dk_at dksX5_setCount_1 14 rfl rfl)
theorem dX5_setCount_40 : decode cX5_setCount 40 = .ok (.ireturn, 1) := dk_172 (dk_at dksX5_setCount_1 17 rfl rfl)
theorem dX5_setCount_41 : decode cX5_setCount 41 = .ok (.aload_n 0, 1) := dk_42 (dk_at dksX5_setCount_1 18 rfl rfl)
theorem dX5_setCount_42 : decode cX5_setCount 42 = .ok (.invokevirtual 428, 3) := dk_182 1 172 (dk_at dksX5_setCount_1 19 rfl rfl)
theorem dX5_setCount_45 : decode cX5_setCount 45 = .ok (.aload_n 0, 1) := dk_42 (dk_at dksX5_setCount_1 22 rfl rfl)
theorem dX5_setCount_46 : decode cX5_setCount 46 = .ok (.iload_n 1, 1) := dk_27 (dk_at dksX5_setCount_1 23 rfl rfl)
theorem dX5_setCount_47 : decode cX5_setCount 47 = .ok (.iload_n 2, 1) := dk_28 (dk_at dksX5_setCount_2 0 rfl rfl)
theorem dX5_setCount_48 : decode cX5_setCount 48 = .ok (.iload_n 3, 1) := dk_29 (dk_at dksX5_setCount_2 1 rfl rfl)
theorem dX5_setCount_49 : decode cX5_setCount 49 = .ok (.invokevirtual 252, 3) := dk_182 0 252 (dk_at dksX5_setCount_2 2 rfl rfl)
theorem dX5_setCount_52 : decode cX5_setCount 52 = .ok (.aload_n 0, 1) := dk_42 (dk_at dksX5_setCount_2 5 rfl rfl)
theorem dX5_setCount_53 : decode cX5_setCount 53 = .ok (.invokevirtual 398, 3) := dk_182 1 142 (dk_at dksX5_setCount_2 6 rfl rfl)
theorem dX5_setCount_56 : decode cX5_setCount 56 = .ok (.ireturn, 1) := dk_172 (dk_at dksX5_setCount_2 9 rfl rfl)
abbrev cX5_formatName : ByteArray := prog_17_method_143_code
def yX5_formatName : MethodName := ⟨RX5, "formatName", "(I)I"⟩
def dkwX5_formatName_1 : List UInt8 := [42, 42, 180, 0, 7, 42, 27, 182, 0, 118, 182, 1, 198, 42, 180, 1, 192, 172]
abbrev dktX5_formatName_1 : List UInt8 := dkwX5_formatName_1 ++ []
def dkwX5_formatName_0 : List UInt8 := [42, 3, 181, 0, 91, 42, 27, 182, 1, 32, 154, 0, 9, 42, 4, 182, 0, 130, 172, 42, 3, 181, 1, 192]
abbrev dktX5_formatName_0 : List UInt8 := dkwX5_formatName_0 ++ dktX5_formatName_1
theorem dksX5_formatName_0 : cX5_formatName.data.toList.drop 0 = dktX5_formatName_0 := by decide +kernel
theorem dksX5_formatName_1 : cX5_formatName.data.toList.drop 24 = dktX5_formatName_1 := dk_seg dksX5_formatName_0 24 rfl rfl
theorem dX5_formatName_0 : decode cX5_formatName 0 = .ok (.aload_n 0, 1) := dk_42 (dk_at dksX5_formatName_0 0 rfl rfl)
theorem dX5_formatName_1 : decode cX5_formatName 1 = .ok (.iconst 0, 1) := dk_3 (dk_at dksX5_formatName_0 1 rfl rfl)
theorem dX5_formatName_2 : decode cX5_formatName 2 = .ok (.putfield 91, 3) := dk_181 0 91 (dk_at dksX5_formatName_0 2 rfl rfl)
theorem dX5_formatName_5 : decode cX5_formatName 5 = .ok (.aload_n 0, 1) := dk_42 (dk_at dksX5_formatName_0 5 rfl rfl)
theorem dX5_formatName_6 : decode cX5_formatName 6 = .ok (.iload_n 1, 1) := dk_27 (dk_at dksX5_formatName_0 6 rfl rfl)
theorem dX5_formatName_7 : decode cX5_formatName 7 = .ok (.invokevirtual 288, 3) := dk_182 1 32 (dk_at dksX5_formatName_0 7 rfl rfl)
theorem dX5_formatName_10 : decode cX5_formatName 10 = .ok (.ifCond .ne 9, 3) := dk_154 0 9 (dk_at dksX5_formatName_0 10 rfl rfl)
theorem dX5_formatName_13 : decode cX5_formatName 13 = .ok (.aload_n 0, 1) := dk_42 (dk_at dksX5_formatName_0 13 rfl rfl)
theorem dX5_formatName_14 : decode cX5_formatName 14 = .ok (.iconst 1, 1) := dk_4 (dk_at dksX5_formatName_0 14 rfl rfl)
theorem dX5_formatName_15 : decode cX5_formatName 15 = .ok (.invokevirtual 130, 3) := dk_182 0 130 (dk_at dksX5_formatName_0 15 rfl rfl)
theorem dX5_formatName_18 : decode cX5_formatName 18 = .ok (.ireturn, 1) := dk_172 (dk_at dksX5_formatName_0 18 rfl rfl)
theorem dX5_formatName_19 : decode cX5_formatName 19 = .ok (.aload_n 0, 1) := dk_42 (dk_at dksX5_formatName_0 19 rfl rfl)
theorem dX5_formatName_20 : decode cX5_formatName 20 = .ok (.iconst 0, 1) := dk_3 (dk_at dksX5_formatName_0 20 rfl rfl)
theorem dX5_formatName_21 : decode cX5_formatName 21 = .ok (.putfield 448, 3) := dk_181 1 192 (dk_at dksX5_formatName_0 21 rfl rfl)
theorem dX5_formatName_24 : decode cX5_formatName 24 = .ok (.aload_n 0, 1) := dk_42 (dk_at dksX5_formatName_1 0 rfl rfl)
theorem dX5_formatName_25 : decode cX5_formatName 25 = .ok (.aload_n 0, 1) := dk_42 (dk_at dksX5_formatName_1 1 rfl rfl)
theorem dX5_formatName_26 : decode cX5_formatName 26 = .ok (.getfield 7, 3) := dk_180 0 7 (dk_at dksX5_formatName_1 2 rfl rfl)
theorem dX5_formatName_29 : decode cX5_formatName 29 = .ok (.aload_n 0, 1) := dk_42 (dk_at dksX5_formatName_1 5 rfl rfl)
theorem dX5_formatName_30 : decode cX5_formatName 30 = .ok (.iload_n 1, 1) := dk_27 (dk_at dksX5_formatName_1 6 rfl rfl)
theorem dX5_formatName_31 : decode cX5_formatName 31 = .ok (.invokevirtual 118, 3) := dk_182 0 118 (dk_at dksX5_formatName_1 7 rfl rfl)
theorem dX5_formatName_34 : decode cX5_formatName 34 = .ok (.invokevirtual 454, 3) := dk_182 1 198 (dk_at dksX5_formatName_1 10 rfl rfl)
theorem dX5_formatName_37 : decode cX5_formatName 37 = .ok (.aload_n 0, 1) := dk_42 (dk_at dksX5_formatName_1 13 rfl rfl)
theorem dX5_formatName_38 : decode cX5_formatName 38 = .ok (.getfield 448, 3) := dk_180 1 192 (dk_at dksX5_formatName_1 14 rfl rfl)
theorem dX5_formatName_41 : decode cX5_formatName 41 = .ok (.ireturn, 1) := dk_172 (dk_at dksX5_formatName_1 17 rfl rfl)
abbrev cX5_sayName : ByteArray := prog_17_method_142_code
def yX5_sayName : MethodName := ⟨RX5, "sayName", "([JI)V"⟩
def dkwX5_sayName_1 : List UInt8 := [132, 3, 1, 167, 255, 232, 177]
abbrev dktX5_sayName_1 : List UInt8 := dkwX5_sayName_1 ++ []
def dkwX5_sayName_0 : List UInt8 := [3, 62, 29, 43, 28, 16, 24, 184, 0, 121, 162, 0, 19, 42, 43, 28, 29, 184, 0, 114, 182, 1, 195]
abbrev dktX5_sayName_0 : List UInt8 := dkwX5_sayName_0 ++ dktX5_sayName_1
theorem dksX5_sayName_0 : cX5_sayName.data.toList.drop 0 = dktX5_sayName_0 := by decide +kernel
theorem dksX5_sayName_1 : cX5_sayName.data.toList.drop 23 = dktX5_sayName_1 := dk_seg dksX5_sayName_0 23 rfl rfl
theorem dX5_sayName_0 : decode cX5_sayName 0 = .ok (.iconst 0, 1) := dk_3 (dk_at dksX5_sayName_0 0 rfl rfl)
theorem dX5_sayName_1 : decode cX5_sayName 1 = .ok (.istore_n 3, 1) := dk_62 (dk_at dksX5_sayName_0 1 rfl rfl)
theorem dX5_sayName_2 : decode cX5_sayName 2 = .ok (.iload_n 3, 1) := dk_29 (dk_at dksX5_sayName_0 2 rfl rfl)
theorem dX5_sayName_3 : decode cX5_sayName 3 = .ok (.aload_n 1, 1) := dk_43 (dk_at dksX5_sayName_0 3 rfl rfl)
theorem dX5_sayName_4 : decode cX5_sayName 4 = .ok (.iload_n 2, 1) := dk_28 (dk_at dksX5_sayName_0 4 rfl rfl)
theorem dX5_sayName_5 : decode cX5_sayName 5 = .ok (.bipush 24, 2) := dk_16 24 (dk_at dksX5_sayName_0 5 rfl rfl)
theorem dX5_sayName_7 : decode cX5_sayName 7 = .ok (.invokestatic 121, 3) := dk_184 0 121 (dk_at dksX5_sayName_0 7 rfl rfl)
theorem dX5_sayName_10 : decode cX5_sayName 10 = .ok (.if_icmp .ge 19, 3) := dk_162 0 19 (dk_at dksX5_sayName_0 10 rfl rfl)
theorem dX5_sayName_13 : decode cX5_sayName 13 = .ok (.aload_n 0, 1) := dk_42 (dk_at dksX5_sayName_0 13 rfl rfl)
theorem dX5_sayName_14 : decode cX5_sayName 14 = .ok (.aload_n 1, 1) := dk_43 (dk_at dksX5_sayName_0 14 rfl rfl)
theorem dX5_sayName_15 : decode cX5_sayName 15 = .ok (.iload_n 2, 1) := dk_28 (dk_at dksX5_sayName_0 15 rfl rfl)
theorem dX5_sayName_16 : decode cX5_sayName 16 = .ok (.iload_n 3, 1) := dk_29 (dk_at dksX5_sayName_0 16 rfl rfl)
theorem dX5_sayName_17 : decode cX5_sayName 17 = .ok (.invokestatic 114, 3) := dk_184 0 114 (dk_at dksX5_sayName_0 17 rfl rfl)
theorem dX5_sayName_20 : decode cX5_sayName 20 = .ok (.invokevirtual 451, 3) := dk_182 1 195 (dk_at dksX5_sayName_0 20 rfl rfl)
theorem dX5_sayName_23 : decode cX5_sayName 23 = .ok (.iinc 3 1, 3) := dk_132 3 1 (dk_at dksX5_sayName_1 0 rfl rfl)
theorem dX5_sayName_26 : decode cX5_sayName 26 = .ok (.goto (-24), 3) := dk_167 255 232 (dk_at dksX5_sayName_1 3 rfl rfl)
theorem dX5_sayName_29 : decode cX5_sayName 29 = .ok (.return_, 1) := dk_177 (dk_at dksX5_sayName_1 6 rfl rfl)
abbrev cX5_say : ByteArray := prog_17_method_141_code
def yX5_say : MethodName := ⟨RX5, "say", "(I)V"⟩
def dkwX5_say_0 : List UInt8 := [42, 180, 0, 17, 42, 180, 1, 192, 27, 146, 85, 42, 89, 180, 1, 192, 4, 96, 181, 1, 192, 177]
abbrev dktX5_say_0 : List UInt8 := dkwX5_say_0 ++ []
theorem dksX5_say_0 : cX5_say.data.toList.drop 0 = dktX5_say_0 := by decide +kernel
theorem dX5_say_0 : decode cX5_say 0 = .ok (.aload_n 0, 1) := dk_42 (dk_at dksX5_say_0 0 rfl rfl)
theorem dX5_say_1 : decode cX5_say 1 = .ok (.getfield 17, 3) := dk_180 0 17 (dk_at dksX5_say_0 1 rfl rfl)
theorem dX5_say_4 : decode cX5_say 4 = .ok (.aload_n 0, 1) := dk_42 (dk_at dksX5_say_0 4 rfl rfl)
theorem dX5_say_5 : decode cX5_say 5 = .ok (.getfield 448, 3) := dk_180 1 192 (dk_at dksX5_say_0 5 rfl rfl)
theorem dX5_say_8 : decode cX5_say 8 = .ok (.iload_n 1, 1) := dk_27 (dk_at dksX5_say_0 8 rfl rfl)
theorem dX5_say_9 : decode cX5_say 9 = .ok (.i2c, 1) := dk_146 (dk_at dksX5_say_0 9 rfl rfl)
theorem dX5_say_10 : decode cX5_say 10 = .ok (.castore, 1) := dk_85 (dk_at dksX5_say_0 10 rfl rfl)
theorem dX5_say_11 : decode cX5_say 11 = .ok (.aload_n 0, 1) := dk_42 (dk_at dksX5_say_0 11 rfl rfl)
theorem dX5_say_12 : decode cX5_say 12 = .ok (.dup, 1) := dk_89 (dk_at dksX5_say_0 12 rfl rfl)
theorem dX5_say_13 : decode cX5_say 13 = .ok (.getfield 448, 3) := dk_180 1 192 (dk_at dksX5_say_0 13 rfl rfl)
theorem dX5_say_16 : decode cX5_say 16 = .ok (.iconst 1, 1) := dk_4 (dk_at dksX5_say_0 16 rfl rfl)
theorem dX5_say_17 : decode cX5_say 17 = .ok (.iadd, 1) := dk_96 (dk_at dksX5_say_0 17 rfl rfl)
theorem dX5_say_18 : decode cX5_say 18 = .ok (.putfield 448, 3) := dk_181 1 192 (dk_at dksX5_say_0 18 rfl rfl)
theorem dX5_say_21 : decode cX5_say 21 = .ok (.return_, 1) := dk_177 (dk_at dksX5_say_0 21 rfl rfl)
abbrev cX5_formatNew : ByteArray := prog_17_method_144_code
def yX5_formatNew : MethodName := ⟨RX5, "formatNew", "(I)I"⟩
def dkwX5_formatNew_3 : List UInt8 := [172]
abbrev dktX5_formatNew_3 : List UInt8 := dkwX5_formatNew_3 ++ []
def dkwX5_formatNew_2 : List UInt8 := [180, 0, 46, 17, 0, 200, 27, 104, 28, 96, 52, 182, 1, 195, 132, 2, 1, 167, 255, 227, 42, 180, 1, 192]
abbrev dktX5_formatNew_2 : List UInt8 := dkwX5_formatNew_2 ++ dktX5_formatNew_3
def dkwX5_formatNew_1 : List UInt8 := [160, 0, 9, 42, 16, 45, 182, 1, 195, 3, 61, 28, 42, 180, 0, 43, 27, 46, 162, 0, 25, 42, 42]
abbrev dktX5_formatNew_1 : List UInt8 := dkwX5_formatNew_1 ++ dktX5_formatNew_2
def dkwX5_formatNew_0 : List UInt8 := [42, 27, 182, 1, 103, 154, 0, 5, 3, 172, 42, 3, 181, 1, 192, 42, 180, 0, 31, 27, 46, 2]
abbrev dktX5_formatNew_0 : List UInt8 := dkwX5_formatNew_0 ++ dktX5_formatNew_1
theorem dksX5_formatNew_0 : cX5_formatNew.data.toList.drop 0 = dktX5_formatNew_0 := by decide +kernel
theorem dksX5_formatNew_1 : cX5_formatNew.data.toList.drop 22 = dktX5_formatNew_1 := dk_seg dksX5_formatNew_0 22 rfl rfl
theorem dksX5_formatNew_2 : cX5_formatNew.data.toList.drop 45 = dktX5_formatNew_2 := dk_seg dksX5_formatNew_1 23 rfl rfl
theorem dksX5_formatNew_3 : cX5_formatNew.data.toList.drop 69 = dktX5_formatNew_3 := dk_seg dksX5_formatNew_2 24 rfl rfl
theorem dX5_formatNew_0 : decode cX5_formatNew 0 = .ok (.aload_n 0, 1) := dk_42 (dk_at dksX5_formatNew_0 0 rfl rfl)
theorem dX5_formatNew_1 : decode cX5_formatNew 1 = .ok (.iload_n 1, 1) := dk_27 (dk_at dksX5_formatNew_0 1 rfl rfl)
theorem dX5_formatNew_2 : decode cX5_formatNew 2 = .ok (.invokevirtual 359, 3) := dk_182 1 103 (dk_at dksX5_formatNew_0 2 rfl rfl)
theorem dX5_formatNew_5 : decode cX5_formatNew 5 = .ok (.ifCond .ne 5, 3) := dk_154 0 5 (dk_at dksX5_formatNew_0 5 rfl rfl)
theorem dX5_formatNew_8 : decode cX5_formatNew 8 = .ok (.iconst 0, 1) := dk_3 (dk_at dksX5_formatNew_0 8 rfl rfl)
theorem dX5_formatNew_9 : decode cX5_formatNew 9 = .ok (.ireturn, 1) := dk_172 (dk_at dksX5_formatNew_0 9 rfl rfl)
theorem dX5_formatNew_10 : decode cX5_formatNew 10 = .ok (.aload_n 0, 1) := dk_42 (dk_at dksX5_formatNew_0 10 rfl rfl)
theorem dX5_formatNew_11 : decode cX5_formatNew 11 = .ok (.iconst 0, 1) := dk_3 (dk_at dksX5_formatNew_0 11 rfl rfl)
theorem dX5_formatNew_12 : decode cX5_formatNew 12 = .ok (.putfield 448, 3) := dk_181 1 192 (dk_at dksX5_formatNew_0 12 rfl rfl)
theorem dX5_formatNew_15 : decode cX5_formatNew 15 = .ok (.aload_n 0, 1) := dk_42 (dk_at dksX5_formatNew_0 15 rfl rfl)
theorem dX5_formatNew_16 : decode cX5_formatNew 16 = .ok (.getfield 31, 3) := dk_180 0 31 (dk_at dksX5_formatNew_0 16 rfl rfl)
theorem dX5_formatNew_19 : decode cX5_formatNew 19 = .ok (.iload_n 1, 1) := dk_27 (dk_at dksX5_formatNew_0 19 rfl rfl)
theorem dX5_formatNew_20 : decode cX5_formatNew 20 = .ok (.iaload, 1) := dk_46 (dk_at dksX5_formatNew_0 20 rfl rfl)
theorem dX5_formatNew_21 : decode cX5_formatNew 21 = .ok (.iconst (-1), 1) := dk_2 (dk_at dksX5_formatNew_0 21 rfl rfl)
theorem dX5_formatNew_22 : decode cX5_formatNew 22 = .ok (.if_icmp .ne 9, 3) := dk_160 0 9 (dk_at dksX5_formatNew_1 0 rfl rfl)
theorem dX5_formatNew_25 : decode cX5_formatNew 25 = .ok (.aload_n 0, 1) := dk_42 (dk_at dksX5_formatNew_1 3 rfl rfl)
theorem dX5_formatNew_26 : decode cX5_formatNew 26 = .ok (.bipush 45, 2) := dk_16 45 (dk_at dksX5_formatNew_1 4 rfl rfl)
theorem dX5_formatNew_28 : decode cX5_formatNew 28 = .ok (.invokevirtual 451, 3) := dk_182 1 195 (dk_at dksX5_formatNew_1 6 rfl rfl)
theorem dX5_formatNew_31 : decode cX5_formatNew 31 = .ok (.iconst 0, 1) := dk_3 (dk_at dksX5_formatNew_1 9 rfl rfl)
theorem dX5_formatNew_32 : decode cX5_formatNew 32 = .ok (.istore_n 2, 1) := dk_61 (dk_at dksX5_formatNew_1 10 rfl rfl)
theorem dX5_formatNew_33 : decode cX5_formatNew 33 = .ok (.iload_n 2, 1) := dk_28 (dk_at dksX5_formatNew_1 11 rfl rfl)
theorem dX5_formatNew_34 : decode cX5_formatNew 34 = .ok (.aload_n 0, 1) := dk_42 (dk_at dksX5_formatNew_1 12 rfl rfl)
theorem dX5_formatNew_35 : decode cX5_formatNew 35 = .ok (.getfield 43, 3) := dk_180 0 43 (dk_at dksX5_formatNew_1 13 rfl rfl)
theorem dX5_formatNew_38 : decode cX5_formatNew 38 = .ok (.iload_n 1, 1) := dk_27 (dk_at dksX5_formatNew_1 16 rfl rfl)
theorem dX5_formatNew_39 : decode cX5_formatNew 39 = .ok (.iaload, 1) := dk_46 (dk_at dksX5_formatNew_1 17 rfl rfl)
theorem dX5_formatNew_40 : decode cX5_formatNew 40 = .ok (.if_icmp .ge 25, 3) := dk_162 0 25 (dk_at dksX5_formatNew_1 18 rfl rfl)
theorem dX5_formatNew_43 : decode cX5_formatNew 43 = .ok (.aload_n 0, 1) := dk_42 (dk_at dksX5_formatNew_1 21 rfl rfl)
theorem dX5_formatNew_44 : decode cX5_formatNew 44 = .ok (.aload_n 0, 1) := dk_42 (dk_at dksX5_formatNew_1 22 rfl rfl)
theorem dX5_formatNew_45 : decode cX5_formatNew 45 = .ok (.getfield 46, 3) := dk_180 0 46 (dk_at dksX5_formatNew_2 0 rfl rfl)
theorem dX5_formatNew_48 : decode cX5_formatNew 48 = .ok (.sipush 200, 3) := dk_17 0 200 (dk_at dksX5_formatNew_2 3 rfl rfl)
theorem dX5_formatNew_51 : decode cX5_formatNew 51 = .ok (.iload_n 1, 1) := dk_27 (dk_at dksX5_formatNew_2 6 rfl rfl)
theorem dX5_formatNew_52 : decode cX5_formatNew 52 = .ok (.imul, 1) := dk_104 (dk_at dksX5_formatNew_2 7 rfl rfl)
theorem dX5_formatNew_53 : decode cX5_formatNew 53 = .ok (.iload_n 2, 1) := dk_28 (dk_at dksX5_formatNew_2 8 rfl rfl)
theorem dX5_formatNew_54 : decode cX5_formatNew 54 = .ok (.iadd, 1) := dk_96 (dk_at dksX5_formatNew_2 9 rfl rfl)
theorem dX5_formatNew_55 : decode cX5_formatNew 55 = .ok (.caload, 1) := dk_52 (dk_at dksX5_formatNew_2 10 rfl rfl)
theorem dX5_formatNew_56 : decode cX5_formatNew 56 = .ok (.invokevirtual 451, 3) := dk_182 1 195 (dk_at dksX5_formatNew_2 11 rfl rfl)
theorem dX5_formatNew_59 : decode cX5_formatNew 59 = .ok (.iinc 2 1, 3) := dk_132 2 1 (dk_at dksX5_formatNew_2 14 rfl rfl)
theorem dX5_formatNew_62 : decode cX5_formatNew 62 = .ok (.goto (-29), 3) := dk_167 255 227 (dk_at dksX5_formatNew_2 17 rfl rfl)
theorem dX5_formatNew_65 : decode cX5_formatNew 65 = .ok (.aload_n 0, 1) := dk_42 (dk_at dksX5_formatNew_2 20 rfl rfl)
theorem dX5_formatNew_66 : decode cX5_formatNew 66 = .ok (.getfield 448, 3) := dk_180 1 192 (dk_at dksX5_formatNew_2 21 rfl rfl)
theorem dX5_formatNew_69 : decode cX5_formatNew 69 = .ok (.ireturn, 1) := dk_172 (dk_at dksX5_formatNew_3 0 rfl rfl)
abbrev cX5_formatStep : ByteArray := prog_17_method_145_code
def yX5_formatStep : MethodName := ⟨RX5, "formatStep", "(I)I"⟩
def dkwX5_formatStep_3 : List UInt8 := [180, 0, 74, 6, 27, 104, 182, 1, 198, 42, 180, 1, 192, 172]
abbrev dktX5_formatStep_3 : List UInt8 := dkwX5_formatStep_3 ++ []
def dkwX5_formatStep_2 : List UInt8 := [182, 1, 195, 42, 16, 116, 182, 1, 195, 42, 16, 111, 182, 1, 195, 42, 16, 32, 182, 1, 195, 42, 42]
abbrev dktX5_formatStep_2 : List UInt8 := dkwX5_formatStep_2 ++ dktX5_formatStep_3
def dkwX5_formatStep_1 : List UInt8 := [4, 182, 0, 130, 172, 42, 3, 181, 1, 192, 42, 42, 180, 0, 71, 6, 27, 104, 182, 1, 198, 42, 16, 32]
abbrev dktX5_formatStep_1 : List UInt8 := dkwX5_formatStep_1 ++ dktX5_formatStep_2
def dkwX5_formatStep_0 : List UInt8 := [42, 3, 181, 0, 91, 42, 182, 1, 133, 27, 3, 42, 180, 1, 119, 4, 100, 184, 0, 105, 154, 0, 9, 42]
abbrev dktX5_formatStep_0 : List UInt8 := dkwX5_formatStep_0 ++ dktX5_formatStep_1
theorem dksX5_formatStep_0 : cX5_formatStep.data.toList.drop 0 = dktX5_formatStep_0 := by decide +kernel
theorem dksX5_formatStep_1 : cX5_formatStep.data.toList.drop 24 = dktX5_formatStep_1 := dk_seg dksX5_formatStep_0 24 rfl rfl
theorem dksX5_formatStep_2 : cX5_formatStep.data.toList.drop 48 = dktX5_formatStep_2 := dk_seg dksX5_formatStep_1 24 rfl rfl
theorem dksX5_formatStep_3 : cX5_formatStep.data.toList.drop 71 = dktX5_formatStep_3 := dk_seg dksX5_formatStep_2 23 rfl rfl
theorem dX5_formatStep_0 : decode cX5_formatStep 0 = .ok (.aload_n 0, 1) := dk_42 (dk_at dksX5_formatStep_0 0 rfl rfl)
theorem dX5_formatStep_1 : decode cX5_formatStep 1 = .ok (.iconst 0, 1) := dk_3 (dk_at dksX5_formatStep_0 1 rfl rfl)
theorem dX5_formatStep_2 : decode cX5_formatStep 2 = .ok (.putfield 91, 3) := dk_181 0 91 (dk_at dksX5_formatStep_0 2 rfl rfl)
theorem dX5_formatStep_5 : decode cX5_formatStep 5 = .ok (.aload_n 0, 1) := dk_42 (dk_at dksX5_formatStep_0 5 rfl rfl)
theorem dX5_formatStep_6 : decode cX5_formatStep 6 = .ok (.invokevirtual 389, 3) := dk_182 1 133 (dk_at dksX5_formatStep_0 6 rfl rfl)
theorem dX5_formatStep_9 : decode cX5_formatStep 9 = .ok (.iload_n 1, 1) := dk_27 (dk_at dksX5_formatStep_0 9 rfl rfl)
theorem dX5_formatStep_10 : decode cX5_formatStep 10 = .ok (.iconst 0, 1) := dk_3 (dk_at dksX5_formatStep_0 10 rfl rfl)
theorem dX5_formatStep_11 : decode cX5_formatStep 11 = .ok (.aload_n 0, 1) := dk_42 (dk_at dksX5_formatStep_0 11 rfl rfl)
theorem dX5_formatStep_12 : decode cX5_formatStep 12 = .ok (.getfield 375, 3) := dk_180 1 119 (dk_at dksX5_formatStep_0 12 rfl rfl)
theorem dX5_formatStep_15 : decode cX5_formatStep 15 = .ok (.iconst 1, 1) := dk_4 (dk_at dksX5_formatStep_0 15 rfl rfl)
theorem dX5_formatStep_16 : decode cX5_formatStep 16 = .ok (.isub, 1) := dk_100 (dk_at dksX5_formatStep_0 16 rfl rfl)
theorem dX5_formatStep_17 : decode cX5_formatStep 17 = .ok (.invokestatic 105, 3) := dk_184 0 105 (dk_at dksX5_formatStep_0 17 rfl rfl)
theorem dX5_formatStep_20 : decode cX5_formatStep 20 = .ok (.ifCond .ne 9, 3) := dk_154 0 9 (dk_at dksX5_formatStep_0 20 rfl rfl)
theorem dX5_formatStep_23 : decode cX5_formatStep 23 = .ok (.aload_n 0, 1) := dk_42 (dk_at dksX5_formatStep_0 23 rfl rfl)
theorem dX5_formatStep_24 : decode cX5_formatStep 24 = .ok (.iconst 1, 1) := dk_4 (dk_at dksX5_formatStep_1 0 rfl rfl)
theorem dX5_formatStep_25 : decode cX5_formatStep 25 = .ok (.invokevirtual 130, 3) := dk_182 0 130 (dk_at dksX5_formatStep_1 1 rfl rfl)
theorem dX5_formatStep_28 : decode cX5_formatStep 28 = .ok (.ireturn, 1) := dk_172 (dk_at dksX5_formatStep_1 4 rfl rfl)
theorem dX5_formatStep_29 : decode cX5_formatStep 29 = .ok (.aload_n 0, 1) := dk_42 (dk_at dksX5_formatStep_1 5 rfl rfl)
theorem dX5_formatStep_30 : decode cX5_formatStep 30 = .ok (.iconst 0, 1) := dk_3 (dk_at dksX5_formatStep_1 6 rfl rfl)
theorem dX5_formatStep_31 : decode cX5_formatStep 31 = .ok (.putfield 448, 3) := dk_181 1 192 (dk_at dksX5_formatStep_1 7 rfl rfl)
theorem dX5_formatStep_34 : decode cX5_formatStep 34 = .ok (.aload_n 0, 1) := dk_42 (dk_at dksX5_formatStep_1 10 rfl rfl)
theorem dX5_formatStep_35 : decode cX5_formatStep 35 = .ok (.aload_n 0, 1) := dk_42 (dk_at dksX5_formatStep_1 11 rfl rfl)
theorem dX5_formatStep_36 : decode cX5_formatStep 36 = .ok (.getfield 71, 3) := dk_180 0 71 (dk_at dksX5_formatStep_1 12 rfl rfl)
theorem dX5_formatStep_39 : decode cX5_formatStep 39 = .ok (.iconst 3, 1) := dk_6 (dk_at dksX5_formatStep_1 15 rfl rfl)
theorem dX5_formatStep_40 : decode cX5_formatStep 40 = .ok (.iload_n 1, 1) := dk_27 (dk_at dksX5_formatStep_1 16 rfl rfl)
theorem dX5_formatStep_41 : decode cX5_formatStep 41 = .ok (.imul, 1) := dk_104 (dk_at dksX5_formatStep_1 17 rfl rfl)
theorem dX5_formatStep_42 : decode cX5_formatStep 42 = .ok (.invokevirtual 454, 3) := dk_182 1 198 (dk_at dksX5_formatStep_1 18 rfl rfl)
theorem dX5_formatStep_45 : decode cX5_formatStep 45 = .ok (.aload_n 0, 1) := dk_42 (dk_at dksX5_formatStep_1 21 rfl rfl)
theorem dX5_formatStep_46 : decode cX5_formatStep 46 = .ok (.bipush 32, 2) := dk_16 32 (dk_at dksX5_formatStep_1 22 rfl rfl)
theorem dX5_formatStep_48 : decode cX5_formatStep 48 = .ok (.invokevirtual 451, 3) := dk_182 1 195 (dk_at dksX5_formatStep_2 0 rfl rfl)
theorem dX5_formatStep_51 : decode cX5_formatStep 51 = .ok (.aload_n 0, 1) := dk_42 (dk_at dksX5_formatStep_2 3 rfl rfl)
theorem dX5_formatStep_52 : decode cX5_formatStep 52 = .ok (.bipush 116, 2) := dk_16 116 (dk_at dksX5_formatStep_2 4 rfl rfl)
theorem dX5_formatStep_54 : decode cX5_formatStep 54 = .ok (.invokevirtual 451, 3) := dk_182 1 195 (dk_at dksX5_formatStep_2 6 rfl rfl)
theorem dX5_formatStep_57 : decode cX5_formatStep 57 = .ok (.aload_n 0, 1) := dk_42 (dk_at dksX5_formatStep_2 9 rfl rfl)
theorem dX5_formatStep_58 : decode cX5_formatStep 58 = .ok (.bipush 111, 2) := dk_16 111 (dk_at dksX5_formatStep_2 10 rfl rfl)
theorem dX5_formatStep_60 : decode cX5_formatStep 60 = .ok (.invokevirtual 451, 3) := dk_182 1 195 (dk_at dksX5_formatStep_2 12 rfl rfl)
theorem dX5_formatStep_63 : decode cX5_formatStep 63 = .ok (.aload_n 0, 1) := dk_42 (dk_at dksX5_formatStep_2 15 rfl rfl)
theorem dX5_formatStep_64 : decode cX5_formatStep 64 = .ok (.bipush 32, 2) := dk_16 32 (dk_at dksX5_formatStep_2 16 rfl rfl)
theorem dX5_formatStep_66 : decode cX5_formatStep 66 = .ok (.invokevirtual 451, 3) := dk_182 1 195 (dk_at dksX5_formatStep_2 18 rfl rfl)
theorem dX5_formatStep_69 : decode cX5_formatStep 69 = .ok (.aload_n 0, 1) := dk_42 (dk_at dksX5_formatStep_2 21 rfl rfl)
theorem dX5_formatStep_70 : decode cX5_formatStep 70 = .ok (.aload_n 0, 1) := dk_42 (dk_at dksX5_formatStep_2 22 rfl rfl)
theorem dX5_formatStep_71 : decode cX5_formatStep 71 = .ok (.getfield 74, 3) := dk_180 0 74 (dk_at dksX5_formatStep_3 0 rfl rfl)
theorem dX5_formatStep_74 : decode cX5_formatStep 74 = .ok (.iconst 3, 1) := dk_6 (dk_at dksX5_formatStep_3 3 rfl rfl)
theorem dX5_formatStep_75 : decode cX5_formatStep 75 = .ok (.iload_n 1, 1) := dk_27 (dk_at dksX5_formatStep_3 4 rfl rfl)
theorem dX5_formatStep_76 : decode cX5_formatStep 76 = .ok (.imul, 1) := dk_104 (dk_at dksX5_formatStep_3 5 rfl rfl)
theorem dX5_formatStep_77 : decode cX5_formatStep 77 = .ok (.invokevirtual 454, 3) := dk_182 1 198 (dk_at dksX5_formatStep_3 6 rfl rfl)
theorem dX5_formatStep_80 : decode cX5_formatStep 80 = .ok (.aload_n 0, 1) := dk_42 (dk_at dksX5_formatStep_3 9 rfl rfl)
theorem dX5_formatStep_81 : decode cX5_formatStep 81 = .ok (.getfield 448, 3) := dk_180 1 192 (dk_at dksX5_formatStep_3 10 rfl rfl)
theorem dX5_formatStep_84 : decode cX5_formatStep 84 = .ok (.ireturn, 1) := dk_172 (dk_at dksX5_formatStep_3 13 rfl rfl)
abbrev cX5_formattedCharacter : ByteArray := prog_17_method_146_code
def yX5_formattedCharacter : MethodName := ⟨RX5, "formattedCharacter", "(I)C"⟩
def dkwX5_formattedCharacter_1 : List UInt8 := [3, 172, 42, 180, 0, 17, 27, 52, 172]
abbrev dktX5_formattedCharacter_1 : List UInt8 := dkwX5_formattedCharacter_1 ++ []
def dkwX5_formattedCharacter_0 : List UInt8 := [42, 3, 181, 0, 91, 27, 3, 42, 180, 1, 192, 4, 100, 184, 0, 105, 154, 0, 10, 42, 4, 181, 0, 91]
abbrev dktX5_formattedCharacter_0 : List UInt8 := dkwX5_formattedCharacter_0 ++ dktX5_formattedCharacter_1
theorem dksX5_formattedCharacter_0 : cX5_formattedCharacter.data.toList.drop 0 = dktX5_formattedCharacter_0 := by decide +kernel
theorem dksX5_formattedCharacter_1 : cX5_formattedCharacter.data.toList.drop 24 = dktX5_formattedCharacter_1 := dk_seg dksX5_formattedCharacter_0 24 rfl rfl
theorem dX5_formattedCharacter_0 : decode cX5_formattedCharacter 0 = .ok (.aload_n 0, 1) := dk_42 (dk_at dksX5_formattedCharacter_0 0 rfl rfl)
theorem dX5_formattedCharacter_1 : decode cX5_formattedCharacter 1 = .ok (.iconst 0, 1) := dk_3 (dk_at dksX5_formattedCharacter_0 1 rfl rfl)
theorem dX5_formattedCharacter_2 : decode cX5_formattedCharacter 2 = .ok (.putfield 91, 3) := dk_181 0 91 (dk_at dksX5_formattedCharacter_0 2 rfl rfl)
theorem dX5_formattedCharacter_5 : decode cX5_formattedCharacter 5 = .ok (.iload_n 1, 1) := dk_27 (dk_at dksX5_formattedCharacter_0 5 rfl rfl)
theorem dX5_formattedCharacter_6 : decode cX5_formattedCharacter 6 = .ok (.iconst 0, 1) := dk_3 (dk_at dksX5_formattedCharacter_0 6 rfl rfl)
theorem dX5_formattedCharacter_7 : decode cX5_formattedCharacter 7 = .ok (.aload_n 0, 1) := dk_42 (dk_at dksX5_formattedCharacter_0 7 rfl rfl)
theorem dX5_formattedCharacter_8 : decode cX5_formattedCharacter 8 = .ok (.getfield 448, 3) := dk_180 1 192 (dk_at dksX5_formattedCharacter_0 8 rfl rfl)
theorem dX5_formattedCharacter_11 : decode cX5_formattedCharacter 11 = .ok (.iconst 1, 1) := dk_4 (dk_at dksX5_formattedCharacter_0 11 rfl rfl)
theorem dX5_formattedCharacter_12 : decode cX5_formattedCharacter 12 = .ok (.isub, 1) := dk_100 (dk_at dksX5_formattedCharacter_0 12 rfl rfl)
theorem dX5_formattedCharacter_13 : decode cX5_formattedCharacter 13 = .ok (.invokestatic 105, 3) := dk_184 0 105 (dk_at dksX5_formattedCharacter_0 13 rfl rfl)
theorem dX5_formattedCharacter_16 : decode cX5_formattedCharacter 16 = .ok (.ifCond .ne 10, 3) := dk_154 0 10 (dk_at dksX5_formattedCharacter_0 16 rfl rfl)
theorem dX5_formattedCharacter_19 : decode cX5_formattedCharacter 19 = .ok (.aload_n 0, 1) := dk_42 (dk_at dksX5_formattedCharacter_0 19 rfl rfl)
theorem dX5_formattedCharacter_20 : decode cX5_formattedCharacter 20 = .ok (.iconst 1, 1) := dk_4 (dk_at dksX5_formattedCharacter_0 20 rfl rfl)
theorem dX5_formattedCharacter_21 : decode cX5_formattedCharacter 21 = .ok (.putfield 91, 3) := dk_181 0 91 (dk_at dksX5_formattedCharacter_0 21 rfl rfl)
theorem dX5_formattedCharacter_24 : decode cX5_formattedCharacter 24 = .ok (.iconst 0, 1) := dk_3 (dk_at dksX5_formattedCharacter_1 0 rfl rfl)
theorem dX5_formattedCharacter_25 : decode cX5_formattedCharacter 25 = .ok (.ireturn, 1) := dk_172 (dk_at dksX5_formattedCharacter_1 1 rfl rfl)
theorem dX5_formattedCharacter_26 : decode cX5_formattedCharacter 26 = .ok (.aload_n 0, 1) := dk_42 (dk_at dksX5_formattedCharacter_1 2 rfl rfl)
theorem dX5_formattedCharacter_27 : decode cX5_formattedCharacter 27 = .ok (.getfield 17, 3) := dk_180 0 17 (dk_at dksX5_formattedCharacter_1 3 rfl rfl)
theorem dX5_formattedCharacter_30 : decode cX5_formattedCharacter 30 = .ok (.iload_n 1, 1) := dk_27 (dk_at dksX5_formattedCharacter_1 6 rfl rfl)
theorem dX5_formattedCharacter_31 : decode cX5_formattedCharacter 31 = .ok (.caload, 1) := dk_52 (dk_at dksX5_formattedCharacter_1 7 rfl rfl)
theorem dX5_formattedCharacter_32 : decode cX5_formattedCharacter 32 = .ok (.ireturn, 1) := dk_172 (dk_at dksX5_formattedCharacter_1 8 rfl rfl)
theorem q154 : (Jvm.Cond.initialized "BatchRenamerModel") ∈ lw_all := lw_g (lw_at lw_m1 25 rfl) rfl
theorem q836 : (Jvm.Cond.selects "BatchRenamerModel" ({ cls := "java/lang/Object", name := "equals", desc := "(Ljava/lang/Object;)Z" } : Jvm.MethodName) ({ cls := "java/lang/Object", name := "equals", desc := "(Ljava/lang/Object;)Z" } : Jvm.MethodName)) ∈ lw_all := lw_g (lw_at lw_m3 227 rfl) rfl
theorem q872 : (Jvm.Cond.selects "BatchRenamerModel" ({ cls := "java/lang/Object", name := "getClass", desc := "()Ljava/lang/Class;" } : Jvm.MethodName) ({ cls := "java/lang/Object", name := "getClass", desc := "()Ljava/lang/Class;" } : Jvm.MethodName)) ∈ lw_all := lw_g (lw_at lw_m4 23 rfl) rfl
theorem q2187 : (Jvm.Cond.instantiable "BatchRenamerModel" (36 : Nat)) ∈ lw_all := lw_g (lw_at lw_m9 138 rfl) rfl
theorem q2189 : (Jvm.Cond.instanceMethod ({ cls := "BatchRenamerModel", name := "<init>", desc := "()V" } : Jvm.MethodName)) ∈ lw_all := lw_g (lw_at lw_m9 140 rfl) rfl
theorem q2190 : (Jvm.Cond.code ({ cls := "BatchRenamerModel", name := "<init>", desc := "()V" } : Jvm.MethodName) prog_17_method_1_code (1 : Nat) (Option.none : Option Jvm.ClassFile.FieldType)) ∈ lw_all := lw_g (lw_at lw_m9 141 rfl) rfl
theorem q2191 : (Jvm.Cond.methodLink "BatchRenamerModel" (1 : Nat) ({ cls := "java/lang/Object", name := "<init>", desc := "()V" } : Jvm.MethodName)) ∈ lw_all := lw_g (lw_at lw_m9 142 rfl) rfl
theorem q2192 : (Jvm.Cond.methodLink "BatchRenamerModel" (84 : Nat) ({ cls := "BatchRenamerModel", name := "beginReading", desc := "()V" } : Jvm.MethodName)) ∈ lw_all := lw_g (lw_at lw_m9 143 rfl) rfl
theorem q2193 : (Jvm.Cond.privateMethod ({ cls := "BatchRenamerModel", name := "beginReading", desc := "()V" } : Jvm.MethodName)) ∈ lw_tbl := lw_at lw_m9 144 rfl
theorem q2194 : (Jvm.Cond.instanceMethod ({ cls := "BatchRenamerModel", name := "beginReading", desc := "()V" } : Jvm.MethodName)) ∈ lw_all := lw_g (lw_at lw_m9 145 rfl) rfl
theorem q2195 : (Jvm.Cond.code ({ cls := "BatchRenamerModel", name := "beginReading", desc := "()V" } : Jvm.MethodName) prog_17_method_52_code (2 : Nat) (Option.none : Option Jvm.ClassFile.FieldType)) ∈ lw_all := lw_g (lw_at lw_m9 146 rfl) rfl
theorem q2196 : (Jvm.Cond.methodLink "BatchRenamerModel" (87 : Nat) ({ cls := "BatchRenamerModel", name := "copyRow", desc := "(II)V" } : Jvm.MethodName)) ∈ lw_all := lw_g (lw_at lw_m9 147 rfl) rfl
theorem q2197 : (Jvm.Cond.privateMethod ({ cls := "BatchRenamerModel", name := "copyRow", desc := "(II)V" } : Jvm.MethodName)) ∈ lw_tbl := lw_at lw_m9 148 rfl
theorem q2198 : (Jvm.Cond.instanceMethod ({ cls := "BatchRenamerModel", name := "copyRow", desc := "(II)V" } : Jvm.MethodName)) ∈ lw_all := lw_g (lw_at lw_m9 149 rfl) rfl
theorem q2199 : (Jvm.Cond.code ({ cls := "BatchRenamerModel", name := "copyRow", desc := "(II)V" } : Jvm.MethodName) prog_17_method_108_code (4 : Nat) (Option.none : Option Jvm.ClassFile.FieldType)) ∈ lw_all := lw_g (lw_at lw_m9 150 rfl) rfl
theorem q2200 : (Jvm.Cond.fieldLink "BatchRenamerModel" (91 : Nat) "BatchRenamerModel" "thrown" "I") ∈ lw_all := lw_g (lw_at lw_m9 151 rfl) rfl
theorem q2201 : (Jvm.Cond.fieldLink "BatchRenamerModel" (7 : Nat) "BatchRenamerModel" "rows" "[J") ∈ lw_all := lw_g (lw_at lw_m9 152 rfl) rfl
theorem q2202 : (Jvm.Cond.fieldLink "BatchRenamerModel" (94 : Nat) "BatchRenamerModel" "at" "I") ∈ lw_all := lw_g (lw_at lw_m9 153 rfl) rfl
theorem q2203 : (Jvm.Cond.fieldLink "BatchRenamerModel" (282 : Nat) "BatchRenamerModel" "edits" "I") ∈ lw_all := lw_g (lw_at lw_m9 154 rfl) rfl
theorem q2204 : (Jvm.Cond.fieldLink "BatchRenamerModel" (285 : Nat) "BatchRenamerModel" "firstEdit" "I") ∈ lw_all := lw_g (lw_at lw_m9 155 rfl) rfl
theorem q2205 : (Jvm.Cond.fieldLink "BatchRenamerModel" (13 : Nat) "BatchRenamerModel" "buffer" "[B") ∈ lw_all := lw_g (lw_at lw_m9 156 rfl) rfl
theorem q2206 : (Jvm.Cond.fieldLink "BatchRenamerModel" (127 : Nat) "BatchRenamerModel" "buffered" "I") ∈ lw_all := lw_g (lw_at lw_m9 157 rfl) rfl
theorem q2207 : (Jvm.Cond.fieldLink "BatchRenamerModel" (80 : Nat) "BatchRenamerModel" "errorOffset" "I") ∈ lw_all := lw_g (lw_at lw_m9 158 rfl) rfl
theorem q2208 : (Jvm.Cond.fieldLink "BatchRenamerModel" (17 : Nat) "BatchRenamerModel" "formatted" "[C") ∈ lw_all := lw_g (lw_at lw_m9 159 rfl) rfl
theorem q2209 : (Jvm.Cond.fieldLink "BatchRenamerModel" (448 : Nat) "BatchRenamerModel" "formattedLength" "I") ∈ lw_all := lw_g (lw_at lw_m9 160 rfl) rfl
theorem q2210 : (Jvm.Cond.fieldLink "BatchRenamerModel" (137 : Nat) "BatchRenamerModel" "textLength" "I") ∈ lw_all := lw_g (lw_at lw_m9 161 rfl) rfl
theorem q2211 : (Jvm.Cond.fieldLink "BatchRenamerModel" (147 : Nat) "BatchRenamerModel" "next" "I") ∈ lw_all := lw_g (lw_at lw_m9 162 rfl) rfl
theorem q2212 : (Jvm.Cond.fieldLink "BatchRenamerModel" (153 : Nat) "BatchRenamerModel" "tokenAt" "I") ∈ lw_all := lw_g (lw_at lw_m9 163 rfl) rfl
theorem q2213 : (Jvm.Cond.fieldLink "BatchRenamerModel" (156 : Nat) "BatchRenamerModel" "token" "I") ∈ lw_all := lw_g (lw_at lw_m9 164 rfl) rfl
theorem q2214 : (Jvm.Cond.fieldLink "BatchRenamerModel" (162 : Nat) "BatchRenamerModel" "wrongAt" "I") ∈ lw_all := lw_g (lw_at lw_m9 165 rfl) rfl
theorem q2215 : (Jvm.Cond.fieldLink "BatchRenamerModel" (21 : Nat) "BatchRenamerModel" "typed" "[J") ∈ lw_all := lw_g (lw_at lw_m9 166 rfl) rfl
theorem q2216 : (Jvm.Cond.fieldLink "BatchRenamerModel" (24 : Nat) "BatchRenamerModel" "capturedAt" "[I") ∈ lw_all := lw_g (lw_at lw_m9 167 rfl) rfl
theorem q2217 : (Jvm.Cond.fieldLink "BatchRenamerModel" (28 : Nat) "BatchRenamerModel" "captured" "[I") ∈ lw_all := lw_g (lw_at lw_m9 168 rfl) rfl
theorem q2218 : (Jvm.Cond.fieldLink "BatchRenamerModel" (31 : Nat) "BatchRenamerModel" "ruleOf" "[I") ∈ lw_all := lw_g (lw_at lw_m9 169 rfl) rfl
theorem q2219 : (Jvm.Cond.fieldLink "BatchRenamerModel" (34 : Nat) "BatchRenamerModel" "groupAt" "[I") ∈ lw_all := lw_g (lw_at lw_m9 170 rfl) rfl
theorem q2220 : (Jvm.Cond.fieldLink "BatchRenamerModel" (37 : Nat) "BatchRenamerModel" "groupLong" "[I") ∈ lw_all := lw_g (lw_at lw_m9 171 rfl) rfl
theorem q2221 : (Jvm.Cond.fieldLink "BatchRenamerModel" (40 : Nat) "BatchRenamerModel" "counters" "[I") ∈ lw_all := lw_g (lw_at lw_m9 172 rfl) rfl
theorem q2222 : (Jvm.Cond.fieldLink "BatchRenamerModel" (43 : Nat) "BatchRenamerModel" "newLong" "[I") ∈ lw_all := lw_g (lw_at lw_m9 173 rfl) rfl
theorem q2223 : (Jvm.Cond.fieldLink "BatchRenamerModel" (46 : Nat) "BatchRenamerModel" "newSigns" "[C") ∈ lw_all := lw_g (lw_at lw_m9 174 rfl) rfl
theorem q2224 : (Jvm.Cond.fieldLink "BatchRenamerModel" (49 : Nat) "BatchRenamerModel" "status" "[I") ∈ lw_all := lw_g (lw_at lw_m9 175 rfl) rfl
theorem q2225 : (Jvm.Cond.fieldLink "BatchRenamerModel" (52 : Nat) "BatchRenamerModel" "then" "[I") ∈ lw_all := lw_g (lw_at lw_m9 176 rfl) rfl
theorem q2226 : (Jvm.Cond.fieldLink "BatchRenamerModel" (350 : Nat) "BatchRenamerModel" "roundMany" "I") ∈ lw_all := lw_g (lw_at lw_m9 177 rfl) rfl
theorem q2227 : (Jvm.Cond.fieldLink "BatchRenamerModel" (55 : Nat) "BatchRenamerModel" "working" "[J") ∈ lw_all := lw_g (lw_at lw_m9 178 rfl) rfl
theorem q2228 : (Jvm.Cond.fieldLink "BatchRenamerModel" (58 : Nat) "BatchRenamerModel" "isThere" "[Z") ∈ lw_all := lw_g (lw_at lw_m9 179 rfl) rfl
theorem q2229 : (Jvm.Cond.fieldLink "BatchRenamerModel" (62 : Nat) "BatchRenamerModel" "isSpare" "[Z") ∈ lw_all := lw_g (lw_at lw_m9 180 rfl) rfl
theorem q2230 : (Jvm.Cond.fieldLink "BatchRenamerModel" (375 : Nat) "BatchRenamerModel" "stepMany" "I") ∈ lw_all := lw_g (lw_at lw_m9 181 rfl) rfl
theorem q2231 : (Jvm.Cond.fieldLink "BatchRenamerModel" (65 : Nat) "BatchRenamerModel" "stepFile" "[I") ∈ lw_all := lw_g (lw_at lw_m9 182 rfl) rfl
theorem q2232 : (Jvm.Cond.fieldLink "BatchRenamerModel" (68 : Nat) "BatchRenamerModel" "stepKind" "[I") ∈ lw_all := lw_g (lw_at lw_m9 183 rfl) rfl
theorem q2233 : (Jvm.Cond.fieldLink "BatchRenamerModel" (71 : Nat) "BatchRenamerModel" "before" "[J") ∈ lw_all := lw_g (lw_at lw_m9 184 rfl) rfl
theorem q2234 : (Jvm.Cond.fieldLink "BatchRenamerModel" (74 : Nat) "BatchRenamerModel" "behind" "[J") ∈ lw_all := lw_g (lw_at lw_m9 185 rfl) rfl
theorem q2235 : (Jvm.Cond.fieldLink "BatchRenamerModel" (77 : Nat) "BatchRenamerModel" "spare" "[J") ∈ lw_all := lw_g (lw_at lw_m9 186 rfl) rfl
theorem q2236 : (Jvm.Cond.lays "BatchRenamerModel" "BatchRenamerModel" "thrown" "I") ∈ lw_all := lw_g (lw_at lw_m9 187 rfl) rfl
theorem q2237 : (Jvm.Cond.soleField "BatchRenamerModel" "thrown") ∈ lw_all := lw_g (lw_at lw_m9 188 rfl) rfl
theorem q2238 : (Jvm.Cond.laysFinal "BatchRenamerModel" "BatchRenamerModel" "rows" "[J") ∈ lw_all := lw_g (lw_at lw_m9 189 rfl) rfl
theorem q2239 : (Jvm.Cond.soleField "BatchRenamerModel" "rows") ∈ lw_all := lw_g (lw_at lw_m9 190 rfl) rfl
theorem q2240 : (Jvm.Cond.lays "BatchRenamerModel" "BatchRenamerModel" "at" "I") ∈ lw_all := lw_g (lw_at lw_m9 191 rfl) rfl
theorem q2241 : (Jvm.Cond.soleField "BatchRenamerModel" "at") ∈ lw_all := lw_g (lw_at lw_m9 192 rfl) rfl
theorem q2242 : (Jvm.Cond.lays "BatchRenamerModel" "BatchRenamerModel" "edits" "I") ∈ lw_all := lw_g (lw_at lw_m9 193 rfl) rfl
theorem q2243 : (Jvm.Cond.soleField "BatchRenamerModel" "edits") ∈ lw_all := lw_g (lw_at lw_m9 194 rfl) rfl
theorem q2244 : (Jvm.Cond.lays "BatchRenamerModel" "BatchRenamerModel" "firstEdit" "I") ∈ lw_all := lw_g (lw_at lw_m9 195 rfl) rfl
theorem q2245 : (Jvm.Cond.soleField "BatchRenamerModel" "firstEdit") ∈ lw_all := lw_g (lw_at lw_m9 196 rfl) rfl
theorem q2246 : (Jvm.Cond.laysFinal "BatchRenamerModel" "BatchRenamerModel" "buffer" "[B") ∈ lw_all := lw_g (lw_at lw_m9 197 rfl) rfl
theorem q2247 : (Jvm.Cond.soleField "BatchRenamerModel" "buffer") ∈ lw_all := lw_g (lw_at lw_m9 198 rfl) rfl
theorem q2248 : (Jvm.Cond.lays "BatchRenamerModel" "BatchRenamerModel" "buffered" "I") ∈ lw_all := lw_g (lw_at lw_m9 199 rfl) rfl
theorem q2249 : (Jvm.Cond.soleField "BatchRenamerModel" "buffered") ∈ lw_all := lw_g (lw_at lw_m9 200 rfl) rfl
theorem q2250 : (Jvm.Cond.lays "BatchRenamerModel" "BatchRenamerModel" "errorOffset" "I") ∈ lw_all := lw_g (lw_at lw_m9 201 rfl) rfl
theorem q2251 : (Jvm.Cond.soleField "BatchRenamerModel" "errorOffset") ∈ lw_all := lw_g (lw_at lw_m9 202 rfl) rfl
theorem q2252 : (Jvm.Cond.laysFinal "BatchRenamerModel" "BatchRenamerModel" "formatted" "[C") ∈ lw_all := lw_g (lw_at lw_m9 203 rfl) rfl
theorem q2253 : (Jvm.Cond.soleField "BatchRenamerModel" "formatted") ∈ lw_all := lw_g (lw_at lw_m9 204 rfl) rfl
theorem q2254 : (Jvm.Cond.lays "BatchRenamerModel" "BatchRenamerModel" "formattedLength" "I") ∈ lw_all := lw_g (lw_at lw_m9 205 rfl) rfl
theorem q2255 : (Jvm.Cond.soleField "BatchRenamerModel" "formattedLength") ∈ lw_all := lw_g (lw_at lw_m9 206 rfl) rfl
theorem q2256 : (Jvm.Cond.lays "BatchRenamerModel" "BatchRenamerModel" "textLength" "I") ∈ lw_all := lw_g (lw_at lw_m9 207 rfl) rfl
theorem q2257 : (Jvm.Cond.soleField "BatchRenamerModel" "textLength") ∈ lw_all := lw_g (lw_at lw_m9 208 rfl) rfl
theorem q2258 : (Jvm.Cond.lays "BatchRenamerModel" "BatchRenamerModel" "next" "I") ∈ lw_all := lw_g (lw_at lw_m9 209 rfl) rfl
theorem q2259 : (Jvm.Cond.soleField "BatchRenamerModel" "next") ∈ lw_all := lw_g (lw_at lw_m9 210 rfl) rfl
theorem q2260 : (Jvm.Cond.lays "BatchRenamerModel" "BatchRenamerModel" "tokenAt" "I") ∈ lw_all := lw_g (lw_at lw_m9 211 rfl) rfl
theorem q2261 : (Jvm.Cond.soleField "BatchRenamerModel" "tokenAt") ∈ lw_all := lw_g (lw_at lw_m9 212 rfl) rfl
theorem q2262 : (Jvm.Cond.lays "BatchRenamerModel" "BatchRenamerModel" "token" "I") ∈ lw_all := lw_g (lw_at lw_m9 213 rfl) rfl
theorem q2263 : (Jvm.Cond.soleField "BatchRenamerModel" "token") ∈ lw_all := lw_g (lw_at lw_m9 214 rfl) rfl
theorem q2264 : (Jvm.Cond.lays "BatchRenamerModel" "BatchRenamerModel" "wrongAt" "I") ∈ lw_all := lw_g (lw_at lw_m9 215 rfl) rfl
theorem q2265 : (Jvm.Cond.soleField "BatchRenamerModel" "wrongAt") ∈ lw_all := lw_g (lw_at lw_m9 216 rfl) rfl
theorem q2266 : (Jvm.Cond.laysFinal "BatchRenamerModel" "BatchRenamerModel" "typed" "[J") ∈ lw_all := lw_g (lw_at lw_m9 217 rfl) rfl
theorem q2267 : (Jvm.Cond.soleField "BatchRenamerModel" "typed") ∈ lw_all := lw_g (lw_at lw_m9 218 rfl) rfl
theorem q2268 : (Jvm.Cond.laysFinal "BatchRenamerModel" "BatchRenamerModel" "capturedAt" "[I") ∈ lw_all := lw_g (lw_at lw_m9 219 rfl) rfl
theorem q2269 : (Jvm.Cond.soleField "BatchRenamerModel" "capturedAt") ∈ lw_all := lw_g (lw_at lw_m9 220 rfl) rfl
theorem q2270 : (Jvm.Cond.laysFinal "BatchRenamerModel" "BatchRenamerModel" "captured" "[I") ∈ lw_all := lw_g (lw_at lw_m9 221 rfl) rfl
theorem q2271 : (Jvm.Cond.soleField "BatchRenamerModel" "captured") ∈ lw_all := lw_g (lw_at lw_m9 222 rfl) rfl
theorem q2272 : (Jvm.Cond.laysFinal "BatchRenamerModel" "BatchRenamerModel" "ruleOf" "[I") ∈ lw_all := lw_g (lw_at lw_m9 223 rfl) rfl
theorem q2273 : (Jvm.Cond.soleField "BatchRenamerModel" "ruleOf") ∈ lw_all := lw_g (lw_at lw_m9 224 rfl) rfl
theorem q2274 : (Jvm.Cond.laysFinal "BatchRenamerModel" "BatchRenamerModel" "groupAt" "[I") ∈ lw_all := lw_g (lw_at lw_m9 225 rfl) rfl
theorem q2275 : (Jvm.Cond.soleField "BatchRenamerModel" "groupAt") ∈ lw_all := lw_g (lw_at lw_m9 226 rfl) rfl
theorem q2276 : (Jvm.Cond.laysFinal "BatchRenamerModel" "BatchRenamerModel" "groupLong" "[I") ∈ lw_all := lw_g (lw_at lw_m9 227 rfl) rfl
theorem q2277 : (Jvm.Cond.soleField "BatchRenamerModel" "groupLong") ∈ lw_all := lw_g (lw_at lw_m9 228 rfl) rfl
theorem q2278 : (Jvm.Cond.laysFinal "BatchRenamerModel" "BatchRenamerModel" "counters" "[I") ∈ lw_all := lw_g (lw_at lw_m9 229 rfl) rfl
theorem q2279 : (Jvm.Cond.soleField "BatchRenamerModel" "counters") ∈ lw_all := lw_g (lw_at lw_m9 230 rfl) rfl
theorem q2280 : (Jvm.Cond.laysFinal "BatchRenamerModel" "BatchRenamerModel" "newLong" "[I") ∈ lw_all := lw_g (lw_at lw_m9 231 rfl) rfl
theorem q2281 : (Jvm.Cond.soleField "BatchRenamerModel" "newLong") ∈ lw_all := lw_g (lw_at lw_m9 232 rfl) rfl
theorem q2282 : (Jvm.Cond.laysFinal "BatchRenamerModel" "BatchRenamerModel" "newSigns" "[C") ∈ lw_all := lw_g (lw_at lw_m9 233 rfl) rfl
theorem q2283 : (Jvm.Cond.soleField "BatchRenamerModel" "newSigns") ∈ lw_all := lw_g (lw_at lw_m9 234 rfl) rfl
theorem q2284 : (Jvm.Cond.laysFinal "BatchRenamerModel" "BatchRenamerModel" "status" "[I") ∈ lw_all := lw_g (lw_at lw_m9 235 rfl) rfl
theorem q2285 : (Jvm.Cond.soleField "BatchRenamerModel" "status") ∈ lw_all := lw_g (lw_at lw_m9 236 rfl) rfl
theorem q2286 : (Jvm.Cond.laysFinal "BatchRenamerModel" "BatchRenamerModel" "then" "[I") ∈ lw_all := lw_g (lw_at lw_m9 237 rfl) rfl
theorem q2287 : (Jvm.Cond.soleField "BatchRenamerModel" "then") ∈ lw_all := lw_g (lw_at lw_m9 238 rfl) rfl
theorem q2288 : (Jvm.Cond.lays "BatchRenamerModel" "BatchRenamerModel" "roundMany" "I") ∈ lw_all := lw_g (lw_at lw_m9 239 rfl) rfl
theorem q2289 : (Jvm.Cond.soleField "BatchRenamerModel" "roundMany") ∈ lw_all := lw_g (lw_at lw_m10 0 rfl) rfl
theorem q2290 : (Jvm.Cond.laysFinal "BatchRenamerModel" "BatchRenamerModel" "working" "[J") ∈ lw_all := lw_g (lw_at lw_m10 1 rfl) rfl
theorem q2291 : (Jvm.Cond.soleField "BatchRenamerModel" "working") ∈ lw_all := lw_g (lw_at lw_m10 2 rfl) rfl
theorem q2292 : (Jvm.Cond.laysFinal "BatchRenamerModel" "BatchRenamerModel" "isThere" "[Z") ∈ lw_all := lw_g (lw_at lw_m10 3 rfl) rfl
theorem q2293 : (Jvm.Cond.soleField "BatchRenamerModel" "isThere") ∈ lw_all := lw_g (lw_at lw_m10 4 rfl) rfl
theorem q2294 : (Jvm.Cond.laysFinal "BatchRenamerModel" "BatchRenamerModel" "isSpare" "[Z") ∈ lw_all := lw_g (lw_at lw_m10 5 rfl) rfl
theorem q2295 : (Jvm.Cond.soleField "BatchRenamerModel" "isSpare") ∈ lw_all := lw_g (lw_at lw_m10 6 rfl) rfl
theorem q2296 : (Jvm.Cond.lays "BatchRenamerModel" "BatchRenamerModel" "stepMany" "I") ∈ lw_all := lw_g (lw_at lw_m10 7 rfl) rfl
theorem q2297 : (Jvm.Cond.soleField "BatchRenamerModel" "stepMany") ∈ lw_all := lw_g (lw_at lw_m10 8 rfl) rfl
theorem q2298 : (Jvm.Cond.laysFinal "BatchRenamerModel" "BatchRenamerModel" "stepFile" "[I") ∈ lw_all := lw_g (lw_at lw_m10 9 rfl) rfl
theorem q2299 : (Jvm.Cond.soleField "BatchRenamerModel" "stepFile") ∈ lw_all := lw_g (lw_at lw_m10 10 rfl) rfl
theorem q2300 : (Jvm.Cond.laysFinal "BatchRenamerModel" "BatchRenamerModel" "stepKind" "[I") ∈ lw_all := lw_g (lw_at lw_m10 11 rfl) rfl
theorem q2301 : (Jvm.Cond.soleField "BatchRenamerModel" "stepKind") ∈ lw_all := lw_g (lw_at lw_m10 12 rfl) rfl
theorem q2302 : (Jvm.Cond.laysFinal "BatchRenamerModel" "BatchRenamerModel" "before" "[J") ∈ lw_all := lw_g (lw_at lw_m10 13 rfl) rfl
theorem q2303 : (Jvm.Cond.soleField "BatchRenamerModel" "before") ∈ lw_all := lw_g (lw_at lw_m10 14 rfl) rfl
theorem q2304 : (Jvm.Cond.laysFinal "BatchRenamerModel" "BatchRenamerModel" "behind" "[J") ∈ lw_all := lw_g (lw_at lw_m10 15 rfl) rfl
theorem q2305 : (Jvm.Cond.soleField "BatchRenamerModel" "behind") ∈ lw_all := lw_g (lw_at lw_m10 16 rfl) rfl
theorem q2306 : (Jvm.Cond.laysFinal "BatchRenamerModel" "BatchRenamerModel" "spare" "[J") ∈ lw_all := lw_g (lw_at lw_m10 17 rfl) rfl
theorem q2307 : (Jvm.Cond.soleField "BatchRenamerModel" "spare") ∈ lw_all := lw_g (lw_at lw_m10 18 rfl) rfl
theorem q2308 : (Jvm.Cond.superclass "BatchRenamerModel" "java/lang/Object") ∈ lw_all := lw_g (lw_at lw_m10 19 rfl) rfl
theorem q2312 : (Jvm.Cond.instanceMethod ({ cls := "BatchRenamerModel", name := "thrown", desc := "()I" } : Jvm.MethodName)) ∈ lw_all := lw_g (lw_at lw_m10 23 rfl) rfl
theorem q2313 : (Jvm.Cond.selects "BatchRenamerModel" ({ cls := "BatchRenamerModel", name := "thrown", desc := "()I" } : Jvm.MethodName) ({ cls := "BatchRenamerModel", name := "thrown", desc := "()I" } : Jvm.MethodName)) ∈ lw_all := lw_g (lw_at lw_m10 24 rfl) rfl
theorem q2314 : (Jvm.Cond.code ({ cls := "BatchRenamerModel", name := "thrown", desc := "()I" } : Jvm.MethodName) prog_17_method_2_code (1 : Nat) (Option.some Jvm.ClassFile.FieldType.int)) ∈ lw_all := lw_g (lw_at lw_m10 25 rfl) rfl
theorem q2316 : (Jvm.Cond.instanceMethod ({ cls := "BatchRenamerModel", name := "append", desc := "(IIIII)I" } : Jvm.MethodName)) ∈ lw_all := lw_g (lw_at lw_m10 27 rfl) rfl
theorem q2317 : (Jvm.Cond.selects "BatchRenamerModel" ({ cls := "BatchRenamerModel", name := "append", desc := "(IIIII)I" } : Jvm.MethodName) ({ cls := "BatchRenamerModel", name := "append", desc := "(IIIII)I" } : Jvm.MethodName)) ∈ lw_all := lw_g (lw_at lw_m10 28 rfl) rfl
theorem q2318 : (Jvm.Cond.code ({ cls := "BatchRenamerModel", name := "append", desc := "(IIIII)I" } : Jvm.MethodName) prog_17_method_23_code (6 : Nat) (Option.some Jvm.ClassFile.FieldType.int)) ∈ lw_all := lw_g (lw_at lw_m10 29 rfl) rfl
theorem q2319 : (Jvm.Cond.methodLink "BatchRenamerModel" (130 : Nat) ({ cls := "BatchRenamerModel", name := "fails", desc := "(I)I" } : Jvm.MethodName)) ∈ lw_all := lw_g (lw_at lw_m10 30 rfl) rfl
theorem q2320 : (Jvm.Cond.privateMethod ({ cls := "BatchRenamerModel", name := "fails", desc := "(I)I" } : Jvm.MethodName)) ∈ lw_tbl := lw_at lw_m10 31 rfl
theorem q2321 : (Jvm.Cond.instanceMethod ({ cls := "BatchRenamerModel", name := "fails", desc := "(I)I" } : Jvm.MethodName)) ∈ lw_all := lw_g (lw_at lw_m10 32 rfl) rfl
theorem q2322 : (Jvm.Cond.code ({ cls := "BatchRenamerModel", name := "fails", desc := "(I)I" } : Jvm.MethodName) prog_17_method_3_code (2 : Nat) (Option.some Jvm.ClassFile.FieldType.int)) ∈ lw_all := lw_g (lw_at lw_m10 33 rfl) rfl
theorem q2323 : (Jvm.Cond.methodLink "BatchRenamerModel" (133 : Nat) ({ cls := "BatchRenamerModel", name := "put", desc := "(I)V" } : Jvm.MethodName)) ∈ lw_all := lw_g (lw_at lw_m10 34 rfl) rfl
theorem q2324 : (Jvm.Cond.privateMethod ({ cls := "BatchRenamerModel", name := "put", desc := "(I)V" } : Jvm.MethodName)) ∈ lw_tbl := lw_at lw_m10 35 rfl
theorem q2325 : (Jvm.Cond.instanceMethod ({ cls := "BatchRenamerModel", name := "put", desc := "(I)V" } : Jvm.MethodName)) ∈ lw_all := lw_g (lw_at lw_m10 36 rfl) rfl
theorem q2326 : (Jvm.Cond.code ({ cls := "BatchRenamerModel", name := "put", desc := "(I)V" } : Jvm.MethodName) prog_17_method_22_code (2 : Nat) (Option.none : Option Jvm.ClassFile.FieldType)) ∈ lw_all := lw_g (lw_at lw_m10 37 rfl) rfl
theorem q2328 : (Jvm.Cond.instanceMethod ({ cls := "BatchRenamerModel", name := "truncate", desc := "(I)V" } : Jvm.MethodName)) ∈ lw_all := lw_g (lw_at lw_m10 39 rfl) rfl
theorem q2329 : (Jvm.Cond.selects "BatchRenamerModel" ({ cls := "BatchRenamerModel", name := "truncate", desc := "(I)V" } : Jvm.MethodName) ({ cls := "BatchRenamerModel", name := "truncate", desc := "(I)V" } : Jvm.MethodName)) ∈ lw_all := lw_g (lw_at lw_m10 40 rfl) rfl
theorem q2330 : (Jvm.Cond.code ({ cls := "BatchRenamerModel", name := "truncate", desc := "(I)V" } : Jvm.MethodName) prog_17_method_24_code (2 : Nat) (Option.none : Option Jvm.ClassFile.FieldType)) ∈ lw_all := lw_g (lw_at lw_m10 41 rfl) rfl
theorem q2331 : (Jvm.Cond.methodLink "BatchRenamerModel" (105 : Nat) ({ cls := "BatchRenamerModel", name := "isIn", desc := "(III)Z" } : Jvm.MethodName)) ∈ lw_all := lw_g (lw_at lw_m10 42 rfl) rfl
theorem q2332 : (Jvm.Cond.static ({ cls := "BatchRenamerModel", name := "isIn", desc := "(III)Z" } : Jvm.MethodName)) ∈ lw_all := lw_g (lw_at lw_m10 43 rfl) rfl
theorem q2333 : (Jvm.Cond.code ({ cls := "BatchRenamerModel", name := "isIn", desc := "(III)Z" } : Jvm.MethodName) prog_17_method_4_code (3 : Nat) (Option.some Jvm.ClassFile.FieldType.boolean)) ∈ lw_all := lw_g (lw_at lw_m10 44 rfl) rfl
theorem q2335 : (Jvm.Cond.instanceMethod ({ cls := "BatchRenamerModel", name := "load", desc := "()I" } : Jvm.MethodName)) ∈ lw_all := lw_g (lw_at lw_m10 46 rfl) rfl
theorem q2336 : (Jvm.Cond.selects "BatchRenamerModel" ({ cls := "BatchRenamerModel", name := "load", desc := "()I" } : Jvm.MethodName) ({ cls := "BatchRenamerModel", name := "load", desc := "()I" } : Jvm.MethodName)) ∈ lw_all := lw_g (lw_at lw_m10 47 rfl) rfl
theorem q2337 : (Jvm.Cond.code ({ cls := "BatchRenamerModel", name := "load", desc := "()I" } : Jvm.MethodName) prog_17_method_54_code (1 : Nat) (Option.some Jvm.ClassFile.FieldType.int)) ∈ lw_all := lw_g (lw_at lw_m10 48 rfl) rfl
theorem q2338 : (Jvm.Cond.methodLink "BatchRenamerModel" (276 : Nat) ({ cls := "BatchRenamerModel", name := "beginTokens", desc := "()V" } : Jvm.MethodName)) ∈ lw_all := lw_g (lw_at lw_m10 49 rfl) rfl
theorem q2339 : (Jvm.Cond.privateMethod ({ cls := "BatchRenamerModel", name := "beginTokens", desc := "()V" } : Jvm.MethodName)) ∈ lw_tbl := lw_at lw_m10 50 rfl
theorem q2340 : (Jvm.Cond.instanceMethod ({ cls := "BatchRenamerModel", name := "beginTokens", desc := "()V" } : Jvm.MethodName)) ∈ lw_all := lw_g (lw_at lw_m10 51 rfl) rfl
theorem q2341 : (Jvm.Cond.code ({ cls := "BatchRenamerModel", name := "beginTokens", desc := "()V" } : Jvm.MethodName) prog_17_method_53_code (1 : Nat) (Option.none : Option Jvm.ClassFile.FieldType)) ∈ lw_all := lw_g (lw_at lw_m10 52 rfl) rfl
theorem q2342 : (Jvm.Cond.methodLink "BatchRenamerModel" (169 : Nat) ({ cls := "BatchRenamerModel", name := "readToken", desc := "()V" } : Jvm.MethodName)) ∈ lw_all := lw_g (lw_at lw_m10 53 rfl) rfl
theorem q2343 : (Jvm.Cond.privateMethod ({ cls := "BatchRenamerModel", name := "readToken", desc := "()V" } : Jvm.MethodName)) ∈ lw_tbl := lw_at lw_m10 54 rfl
theorem q2344 : (Jvm.Cond.instanceMethod ({ cls := "BatchRenamerModel", name := "readToken", desc := "()V" } : Jvm.MethodName)) ∈ lw_all := lw_g (lw_at lw_m10 55 rfl) rfl
theorem q2345 : (Jvm.Cond.code ({ cls := "BatchRenamerModel", name := "readToken", desc := "()V" } : Jvm.MethodName) prog_17_method_29_code (1 : Nat) (Option.none : Option Jvm.ClassFile.FieldType)) ∈ lw_all := lw_g (lw_at lw_m10 56 rfl) rfl
theorem q2346 : (Jvm.Cond.methodLink "BatchRenamerModel" (150 : Nat) ({ cls := "BatchRenamerModel", name := "byteAt", desc := "(I)I" } : Jvm.MethodName)) ∈ lw_all := lw_g (lw_at lw_m10 57 rfl) rfl
theorem q2347 : (Jvm.Cond.privateMethod ({ cls := "BatchRenamerModel", name := "byteAt", desc := "(I)I" } : Jvm.MethodName)) ∈ lw_tbl := lw_at lw_m10 58 rfl
theorem q2348 : (Jvm.Cond.instanceMethod ({ cls := "BatchRenamerModel", name := "byteAt", desc := "(I)I" } : Jvm.MethodName)) ∈ lw_all := lw_g (lw_at lw_m10 59 rfl) rfl
theorem q2349 : (Jvm.Cond.code ({ cls := "BatchRenamerModel", name := "byteAt", desc := "(I)I" } : Jvm.MethodName) prog_17_method_25_code (2 : Nat) (Option.some Jvm.ClassFile.FieldType.int)) ∈ lw_all := lw_g (lw_at lw_m10 60 rfl) rfl
theorem q2350 : (Jvm.Cond.methodLink "BatchRenamerModel" (159 : Nat) ({ cls := "BatchRenamerModel", name := "isOfChunk", desc := "(I)Z" } : Jvm.MethodName)) ∈ lw_all := lw_g (lw_at lw_m10 61 rfl) rfl
theorem q2351 : (Jvm.Cond.static ({ cls := "BatchRenamerModel", name := "isOfChunk", desc := "(I)Z" } : Jvm.MethodName)) ∈ lw_all := lw_g (lw_at lw_m10 62 rfl) rfl
theorem q2352 : (Jvm.Cond.code ({ cls := "BatchRenamerModel", name := "isOfChunk", desc := "(I)Z" } : Jvm.MethodName) prog_17_method_28_code (1 : Nat) (Option.some Jvm.ClassFile.FieldType.boolean)) ∈ lw_all := lw_g (lw_at lw_m10 63 rfl) rfl
theorem q2353 : (Jvm.Cond.methodLink "BatchRenamerModel" (144 : Nat) ({ cls := "BatchRenamerModel", name := "isOfName", desc := "(I)Z" } : Jvm.MethodName)) ∈ lw_all := lw_g (lw_at lw_m10 64 rfl) rfl
theorem q2354 : (Jvm.Cond.static ({ cls := "BatchRenamerModel", name := "isOfName", desc := "(I)Z" } : Jvm.MethodName)) ∈ lw_all := lw_g (lw_at lw_m10 65 rfl) rfl
theorem q2355 : (Jvm.Cond.code ({ cls := "BatchRenamerModel", name := "isOfName", desc := "(I)Z" } : Jvm.MethodName) prog_17_method_27_code (1 : Nat) (Option.some Jvm.ClassFile.FieldType.boolean)) ∈ lw_all := lw_g (lw_at lw_m10 66 rfl) rfl
theorem q2356 : (Jvm.Cond.methodLink "BatchRenamerModel" (140 : Nat) ({ cls := "BatchRenamerModel", name := "isDigit", desc := "(I)Z" } : Jvm.MethodName)) ∈ lw_all := lw_g (lw_at lw_m10 67 rfl) rfl
theorem q2357 : (Jvm.Cond.static ({ cls := "BatchRenamerModel", name := "isDigit", desc := "(I)Z" } : Jvm.MethodName)) ∈ lw_all := lw_g (lw_at lw_m10 68 rfl) rfl
theorem q2358 : (Jvm.Cond.code ({ cls := "BatchRenamerModel", name := "isDigit", desc := "(I)Z" } : Jvm.MethodName) prog_17_method_26_code (1 : Nat) (Option.some Jvm.ClassFile.FieldType.boolean)) ∈ lw_all := lw_g (lw_at lw_m10 69 rfl) rfl
theorem q2359 : (Jvm.Cond.methodLink "BatchRenamerModel" (165 : Nat) ({ cls := "BatchRenamerModel", name := "isWell", desc := "()Z" } : Jvm.MethodName)) ∈ lw_all := lw_g (lw_at lw_m10 70 rfl) rfl
theorem q2360 : (Jvm.Cond.privateMethod ({ cls := "BatchRenamerModel", name := "isWell", desc := "()Z" } : Jvm.MethodName)) ∈ lw_tbl := lw_at lw_m10 71 rfl
theorem q2361 : (Jvm.Cond.instanceMethod ({ cls := "BatchRenamerModel", name := "isWell", desc := "()Z" } : Jvm.MethodName)) ∈ lw_all := lw_g (lw_at lw_m10 72 rfl) rfl
theorem q2362 : (Jvm.Cond.code ({ cls := "BatchRenamerModel", name := "isWell", desc := "()Z" } : Jvm.MethodName) prog_17_method_30_code (1 : Nat) (Option.some Jvm.ClassFile.FieldType.boolean)) ∈ lw_all := lw_g (lw_at lw_m10 73 rfl) rfl
theorem q2363 : (Jvm.Cond.methodLink "BatchRenamerModel" (279 : Nat) ({ cls := "BatchRenamerModel", name := "readStatement", desc := "()V" } : Jvm.MethodName)) ∈ lw_all := lw_g (lw_at lw_m10 74 rfl) rfl
theorem q2364 : (Jvm.Cond.privateMethod ({ cls := "BatchRenamerModel", name := "readStatement", desc := "()V" } : Jvm.MethodName)) ∈ lw_tbl := lw_at lw_m10 75 rfl
theorem q2365 : (Jvm.Cond.instanceMethod ({ cls := "BatchRenamerModel", name := "readStatement", desc := "()V" } : Jvm.MethodName)) ∈ lw_all := lw_g (lw_at lw_m10 76 rfl) rfl
theorem q2366 : (Jvm.Cond.code ({ cls := "BatchRenamerModel", name := "readStatement", desc := "()V" } : Jvm.MethodName) prog_17_method_51_code (1 : Nat) (Option.none : Option Jvm.ClassFile.FieldType)) ∈ lw_all := lw_g (lw_at lw_m10 77 rfl) rfl
theorem q2367 : (Jvm.Cond.stringRef "BatchRenamerModel" (256 : Nat) "file") ∈ lw_tbl := lw_at lw_m10 78 rfl
theorem q2368 : (Jvm.Cond.methodLink "BatchRenamerModel" (221 : Nat) ({ cls := "BatchRenamerModel", name := "isWord", desc := "(Ljava/lang/String;)Z" } : Jvm.MethodName)) ∈ lw_all := lw_g (lw_at lw_m10 79 rfl) rfl
theorem q2369 : (Jvm.Cond.privateMethod ({ cls := "BatchRenamerModel", name := "isWord", desc := "(Ljava/lang/String;)Z" } : Jvm.MethodName)) ∈ lw_tbl := lw_at lw_m10 80 rfl
theorem q2370 : (Jvm.Cond.instanceMethod ({ cls := "BatchRenamerModel", name := "isWord", desc := "(Ljava/lang/String;)Z" } : Jvm.MethodName)) ∈ lw_all := lw_g (lw_at lw_m10 81 rfl) rfl
theorem q2371 : (Jvm.Cond.code ({ cls := "BatchRenamerModel", name := "isWord", desc := "(Ljava/lang/String;)Z" } : Jvm.MethodName) prog_17_method_34_code (3 : Nat) (Option.some Jvm.ClassFile.FieldType.boolean)) ∈ lw_all := lw_g (lw_at lw_m10 82 rfl) rfl
theorem q2372 : (Jvm.Cond.methodLink "BatchRenamerModel" (172 : Nat) ({ cls := "BatchRenamerModel", name := "tokenLong", desc := "()I" } : Jvm.MethodName)) ∈ lw_all := lw_g (lw_at lw_m10 83 rfl) rfl
theorem q2373 : (Jvm.Cond.privateMethod ({ cls := "BatchRenamerModel", name := "tokenLong", desc := "()I" } : Jvm.MethodName)) ∈ lw_tbl := lw_at lw_m10 84 rfl
theorem q2374 : (Jvm.Cond.instanceMethod ({ cls := "BatchRenamerModel", name := "tokenLong", desc := "()I" } : Jvm.MethodName)) ∈ lw_all := lw_g (lw_at lw_m10 85 rfl) rfl
theorem q2375 : (Jvm.Cond.code ({ cls := "BatchRenamerModel", name := "tokenLong", desc := "()I" } : Jvm.MethodName) prog_17_method_33_code (1 : Nat) (Option.some Jvm.ClassFile.FieldType.int)) ∈ lw_all := lw_g (lw_at lw_m10 86 rfl) rfl
theorem q2376 : (Jvm.Cond.methodLink "BatchRenamerModel" (175 : Nat) ({ cls := "java/lang/String", name := "length", desc := "()I" } : Jvm.MethodName)) ∈ lw_all := lw_g (lw_at lw_m10 87 rfl) rfl
theorem q2377 : (Jvm.Cond.methodLink "BatchRenamerModel" (180 : Nat) ({ cls := "java/lang/String", name := "charAt", desc := "(I)C" } : Jvm.MethodName)) ∈ lw_all := lw_g (lw_at lw_m10 88 rfl) rfl
theorem q2378 : (Jvm.Cond.methodLink "BatchRenamerModel" (258 : Nat) ({ cls := "BatchRenamerModel", name := "readFile", desc := "()V" } : Jvm.MethodName)) ∈ lw_all := lw_g (lw_at lw_m10 89 rfl) rfl
theorem q2379 : (Jvm.Cond.privateMethod ({ cls := "BatchRenamerModel", name := "readFile", desc := "()V" } : Jvm.MethodName)) ∈ lw_tbl := lw_at lw_m10 90 rfl
theorem q2380 : (Jvm.Cond.instanceMethod ({ cls := "BatchRenamerModel", name := "readFile", desc := "()V" } : Jvm.MethodName)) ∈ lw_all := lw_g (lw_at lw_m10 91 rfl) rfl
theorem q2381 : (Jvm.Cond.code ({ cls := "BatchRenamerModel", name := "readFile", desc := "()V" } : Jvm.MethodName) prog_17_method_47_code (1 : Nat) (Option.none : Option Jvm.ClassFile.FieldType)) ∈ lw_all := lw_g (lw_at lw_m10 92 rfl) rfl
theorem q2382 : (Jvm.Cond.methodLink "BatchRenamerModel" (101 : Nat) ({ cls := "BatchRenamerModel", name := "many", desc := "()I" } : Jvm.MethodName)) ∈ lw_all := lw_g (lw_at lw_m10 93 rfl) rfl
theorem q2383 : (Jvm.Cond.privateMethod ({ cls := "BatchRenamerModel", name := "many", desc := "()I" } : Jvm.MethodName)) ∈ lw_tbl := lw_at lw_m10 94 rfl
theorem q2384 : (Jvm.Cond.instanceMethod ({ cls := "BatchRenamerModel", name := "many", desc := "()I" } : Jvm.MethodName)) ∈ lw_all := lw_g (lw_at lw_m10 95 rfl) rfl
theorem q2385 : (Jvm.Cond.code ({ cls := "BatchRenamerModel", name := "many", desc := "()I" } : Jvm.MethodName) prog_17_method_7_code (1 : Nat) (Option.some Jvm.ClassFile.FieldType.int)) ∈ lw_all := lw_g (lw_at lw_m10 96 rfl) rfl
theorem q2386 : (Jvm.Cond.methodLink "BatchRenamerModel" (97 : Nat) ({ cls := "BatchRenamerModel", name := "get", desc := "(I)I" } : Jvm.MethodName)) ∈ lw_all := lw_g (lw_at lw_m10 97 rfl) rfl
theorem q2387 : (Jvm.Cond.privateMethod ({ cls := "BatchRenamerModel", name := "get", desc := "(I)I" } : Jvm.MethodName)) ∈ lw_tbl := lw_at lw_m10 98 rfl
theorem q2388 : (Jvm.Cond.instanceMethod ({ cls := "BatchRenamerModel", name := "get", desc := "(I)I" } : Jvm.MethodName)) ∈ lw_all := lw_g (lw_at lw_m10 99 rfl) rfl
theorem q2389 : (Jvm.Cond.code ({ cls := "BatchRenamerModel", name := "get", desc := "(I)I" } : Jvm.MethodName) prog_17_method_5_code (2 : Nat) (Option.some Jvm.ClassFile.FieldType.int)) ∈ lw_all := lw_g (lw_at lw_m10 100 rfl) rfl
theorem q2390 : (Jvm.Cond.methodLink "BatchRenamerModel" (203 : Nat) ({ cls := "BatchRenamerModel", name := "must", desc := "(Z)V" } : Jvm.MethodName)) ∈ lw_all := lw_g (lw_at lw_m10 101 rfl) rfl
theorem q2391 : (Jvm.Cond.privateMethod ({ cls := "BatchRenamerModel", name := "must", desc := "(Z)V" } : Jvm.MethodName)) ∈ lw_tbl := lw_at lw_m10 102 rfl
theorem q2392 : (Jvm.Cond.instanceMethod ({ cls := "BatchRenamerModel", name := "must", desc := "(Z)V" } : Jvm.MethodName)) ∈ lw_all := lw_g (lw_at lw_m10 103 rfl) rfl
theorem q2393 : (Jvm.Cond.code ({ cls := "BatchRenamerModel", name := "must", desc := "(Z)V" } : Jvm.MethodName) prog_17_method_31_code (2 : Nat) (Option.none : Option Jvm.ClassFile.FieldType)) ∈ lw_all := lw_g (lw_at lw_m10 104 rfl) rfl
theorem q2394 : (Jvm.Cond.methodLink "BatchRenamerModel" (207 : Nat) ({ cls := "BatchRenamerModel", name := "goesOn", desc := "()V" } : Jvm.MethodName)) ∈ lw_all := lw_g (lw_at lw_m10 105 rfl) rfl
theorem q2395 : (Jvm.Cond.privateMethod ({ cls := "BatchRenamerModel", name := "goesOn", desc := "()V" } : Jvm.MethodName)) ∈ lw_tbl := lw_at lw_m10 106 rfl
theorem q2396 : (Jvm.Cond.instanceMethod ({ cls := "BatchRenamerModel", name := "goesOn", desc := "()V" } : Jvm.MethodName)) ∈ lw_all := lw_g (lw_at lw_m10 107 rfl) rfl
theorem q2397 : (Jvm.Cond.code ({ cls := "BatchRenamerModel", name := "goesOn", desc := "()V" } : Jvm.MethodName) prog_17_method_32_code (1 : Nat) (Option.none : Option Jvm.ClassFile.FieldType)) ∈ lw_all := lw_g (lw_at lw_m10 108 rfl) rfl
theorem q2398 : (Jvm.Cond.methodLink "BatchRenamerModel" (240 : Nat) ({ cls := "BatchRenamerModel", name := "isNameHere", desc := "()Z" } : Jvm.MethodName)) ∈ lw_all := lw_g (lw_at lw_m10 109 rfl) rfl
theorem q2399 : (Jvm.Cond.privateMethod ({ cls := "BatchRenamerModel", name := "isNameHere", desc := "()Z" } : Jvm.MethodName)) ∈ lw_tbl := lw_at lw_m10 110 rfl
theorem q2400 : (Jvm.Cond.instanceMethod ({ cls := "BatchRenamerModel", name := "isNameHere", desc := "()Z" } : Jvm.MethodName)) ∈ lw_all := lw_g (lw_at lw_m10 111 rfl) rfl
theorem q2401 : (Jvm.Cond.code ({ cls := "BatchRenamerModel", name := "isNameHere", desc := "()Z" } : Jvm.MethodName) prog_17_method_36_code (1 : Nat) (Option.some Jvm.ClassFile.FieldType.boolean)) ∈ lw_all := lw_g (lw_at lw_m10 112 rfl) rfl
theorem q2402 : (Jvm.Cond.methodLink "BatchRenamerModel" (184 : Nat) ({ cls := "BatchRenamerModel", name := "isName", desc := "(II)Z" } : Jvm.MethodName)) ∈ lw_all := lw_g (lw_at lw_m10 113 rfl) rfl
theorem q2403 : (Jvm.Cond.privateMethod ({ cls := "BatchRenamerModel", name := "isName", desc := "(II)Z" } : Jvm.MethodName)) ∈ lw_tbl := lw_at lw_m10 114 rfl
theorem q2404 : (Jvm.Cond.instanceMethod ({ cls := "BatchRenamerModel", name := "isName", desc := "(II)Z" } : Jvm.MethodName)) ∈ lw_all := lw_g (lw_at lw_m10 115 rfl) rfl
theorem q2405 : (Jvm.Cond.code ({ cls := "BatchRenamerModel", name := "isName", desc := "(II)Z" } : Jvm.MethodName) prog_17_method_35_code (4 : Nat) (Option.some Jvm.ClassFile.FieldType.boolean)) ∈ lw_all := lw_g (lw_at lw_m10 116 rfl) rfl
theorem q2406 : (Jvm.Cond.methodLink "BatchRenamerModel" (243 : Nat) ({ cls := "BatchRenamerModel", name := "takesName", desc := "(II)V" } : Jvm.MethodName)) ∈ lw_all := lw_g (lw_at lw_m10 117 rfl) rfl
theorem q2407 : (Jvm.Cond.privateMethod ({ cls := "BatchRenamerModel", name := "takesName", desc := "(II)V" } : Jvm.MethodName)) ∈ lw_tbl := lw_at lw_m10 118 rfl
theorem q2408 : (Jvm.Cond.instanceMethod ({ cls := "BatchRenamerModel", name := "takesName", desc := "(II)V" } : Jvm.MethodName)) ∈ lw_all := lw_g (lw_at lw_m10 119 rfl) rfl
theorem q2409 : (Jvm.Cond.code ({ cls := "BatchRenamerModel", name := "takesName", desc := "(II)V" } : Jvm.MethodName) prog_17_method_37_code (4 : Nat) (Option.none : Option Jvm.ClassFile.FieldType)) ∈ lw_all := lw_g (lw_at lw_m10 120 rfl) rfl
theorem q2410 : (Jvm.Cond.methodLink "BatchRenamerModel" (188 : Nat) ({ cls := "BatchRenamerModel", name := "clears", desc := "([JII)V" } : Jvm.MethodName)) ∈ lw_all := lw_g (lw_at lw_m10 121 rfl) rfl
theorem q2411 : (Jvm.Cond.static ({ cls := "BatchRenamerModel", name := "clears", desc := "([JII)V" } : Jvm.MethodName)) ∈ lw_all := lw_g (lw_at lw_m10 122 rfl) rfl
theorem q2412 : (Jvm.Cond.code ({ cls := "BatchRenamerModel", name := "clears", desc := "([JII)V" } : Jvm.MethodName) prog_17_method_14_code (4 : Nat) (Option.none : Option Jvm.ClassFile.FieldType)) ∈ lw_all := lw_g (lw_at lw_m10 123 rfl) rfl
theorem q2413 : (Jvm.Cond.methodLink "BatchRenamerModel" (192 : Nat) ({ cls := "BatchRenamerModel", name := "putIn", desc := "([JIII)V" } : Jvm.MethodName)) ∈ lw_all := lw_g (lw_at lw_m10 124 rfl) rfl
theorem q2414 : (Jvm.Cond.static ({ cls := "BatchRenamerModel", name := "putIn", desc := "([JIII)V" } : Jvm.MethodName)) ∈ lw_all := lw_g (lw_at lw_m10 125 rfl) rfl
theorem q2415 : (Jvm.Cond.code ({ cls := "BatchRenamerModel", name := "putIn", desc := "([JIII)V" } : Jvm.MethodName) prog_17_method_13_code (4 : Nat) (Option.none : Option Jvm.ClassFile.FieldType)) ∈ lw_all := lw_g (lw_at lw_m10 126 rfl) rfl
theorem q2416 : (Jvm.Cond.methodLink "BatchRenamerModel" (246 : Nat) ({ cls := "BatchRenamerModel", name := "fileTyped", desc := "()I" } : Jvm.MethodName)) ∈ lw_all := lw_g (lw_at lw_m10 127 rfl) rfl
theorem q2417 : (Jvm.Cond.privateMethod ({ cls := "BatchRenamerModel", name := "fileTyped", desc := "()I" } : Jvm.MethodName)) ∈ lw_tbl := lw_at lw_m10 128 rfl
theorem q2418 : (Jvm.Cond.instanceMethod ({ cls := "BatchRenamerModel", name := "fileTyped", desc := "()I" } : Jvm.MethodName)) ∈ lw_all := lw_g (lw_at lw_m10 129 rfl) rfl
theorem q2419 : (Jvm.Cond.code ({ cls := "BatchRenamerModel", name := "fileTyped", desc := "()I" } : Jvm.MethodName) prog_17_method_45_code (2 : Nat) (Option.some Jvm.ClassFile.FieldType.int)) ∈ lw_all := lw_g (lw_at lw_m10 130 rfl) rfl
theorem q2420 : (Jvm.Cond.methodLink "BatchRenamerModel" (118 : Nat) ({ cls := "BatchRenamerModel", name := "nameAt", desc := "(I)I" } : Jvm.MethodName)) ∈ lw_all := lw_g (lw_at lw_m10 131 rfl) rfl
theorem q2421 : (Jvm.Cond.privateMethod ({ cls := "BatchRenamerModel", name := "nameAt", desc := "(I)I" } : Jvm.MethodName)) ∈ lw_tbl := lw_at lw_m10 132 rfl
theorem q2422 : (Jvm.Cond.instanceMethod ({ cls := "BatchRenamerModel", name := "nameAt", desc := "(I)I" } : Jvm.MethodName)) ∈ lw_all := lw_g (lw_at lw_m10 133 rfl) rfl
theorem q2423 : (Jvm.Cond.code ({ cls := "BatchRenamerModel", name := "nameAt", desc := "(I)I" } : Jvm.MethodName) prog_17_method_17_code (2 : Nat) (Option.some Jvm.ClassFile.FieldType.int)) ∈ lw_all := lw_g (lw_at lw_m10 134 rfl) rfl
theorem q2424 : (Jvm.Cond.methodLink "BatchRenamerModel" (232 : Nat) ({ cls := "BatchRenamerModel", name := "compared", desc := "([JI[JI)I" } : Jvm.MethodName)) ∈ lw_all := lw_g (lw_at lw_m10 135 rfl) rfl
theorem q2425 : (Jvm.Cond.static ({ cls := "BatchRenamerModel", name := "compared", desc := "([JI[JI)I" } : Jvm.MethodName)) ∈ lw_all := lw_g (lw_at lw_m10 136 rfl) rfl
theorem q2426 : (Jvm.Cond.code ({ cls := "BatchRenamerModel", name := "compared", desc := "([JI[JI)I" } : Jvm.MethodName) prog_17_method_15_code (5 : Nat) (Option.some Jvm.ClassFile.FieldType.int)) ∈ lw_all := lw_g (lw_at lw_m10 137 rfl) rfl
theorem q2427 : (Jvm.Cond.methodLink "BatchRenamerModel" (249 : Nat) ({ cls := "BatchRenamerModel", name := "addsTyped", desc := "()V" } : Jvm.MethodName)) ∈ lw_all := lw_g (lw_at lw_m10 138 rfl) rfl
theorem q2428 : (Jvm.Cond.privateMethod ({ cls := "BatchRenamerModel", name := "addsTyped", desc := "()V" } : Jvm.MethodName)) ∈ lw_tbl := lw_at lw_m10 139 rfl
theorem q2429 : (Jvm.Cond.instanceMethod ({ cls := "BatchRenamerModel", name := "addsTyped", desc := "()V" } : Jvm.MethodName)) ∈ lw_all := lw_g (lw_at lw_m10 140 rfl) rfl
theorem q2430 : (Jvm.Cond.code ({ cls := "BatchRenamerModel", name := "addsTyped", desc := "()V" } : Jvm.MethodName) prog_17_method_46_code (2 : Nat) (Option.none : Option Jvm.ClassFile.FieldType)) ∈ lw_all := lw_g (lw_at lw_m10 141 rfl) rfl
theorem q2431 : (Jvm.Cond.methodLink "BatchRenamerModel" (236 : Nat) ({ cls := "BatchRenamerModel", name := "copyName", desc := "([JI[JI)V" } : Jvm.MethodName)) ∈ lw_all := lw_g (lw_at lw_m10 142 rfl) rfl
theorem q2432 : (Jvm.Cond.static ({ cls := "BatchRenamerModel", name := "copyName", desc := "([JI[JI)V" } : Jvm.MethodName)) ∈ lw_all := lw_g (lw_at lw_m10 143 rfl) rfl
theorem q2433 : (Jvm.Cond.code ({ cls := "BatchRenamerModel", name := "copyName", desc := "([JI[JI)V" } : Jvm.MethodName) prog_17_method_16_code (5 : Nat) (Option.none : Option Jvm.ClassFile.FieldType)) ∈ lw_all := lw_g (lw_at lw_m10 144 rfl) rfl
theorem q2434 : (Jvm.Cond.methodLink "BatchRenamerModel" (228 : Nat) ({ cls := "BatchRenamerModel", name := "set", desc := "(IJ)V" } : Jvm.MethodName)) ∈ lw_all := lw_g (lw_at lw_m10 145 rfl) rfl
theorem q2435 : (Jvm.Cond.privateMethod ({ cls := "BatchRenamerModel", name := "set", desc := "(IJ)V" } : Jvm.MethodName)) ∈ lw_tbl := lw_at lw_m10 146 rfl
theorem q2436 : (Jvm.Cond.instanceMethod ({ cls := "BatchRenamerModel", name := "set", desc := "(IJ)V" } : Jvm.MethodName)) ∈ lw_all := lw_g (lw_at lw_m10 147 rfl) rfl
theorem q2437 : (Jvm.Cond.code ({ cls := "BatchRenamerModel", name := "set", desc := "(IJ)V" } : Jvm.MethodName) prog_17_method_6_code (4 : Nat) (Option.none : Option Jvm.ClassFile.FieldType)) ∈ lw_all := lw_g (lw_at lw_m10 148 rfl) rfl
theorem q2438 : (Jvm.Cond.stringRef "BatchRenamerModel" (261 : Nat) "keep") ∈ lw_tbl := lw_at lw_m10 149 rfl
theorem q2439 : (Jvm.Cond.methodLink "BatchRenamerModel" (263 : Nat) ({ cls := "BatchRenamerModel", name := "readKeep", desc := "()V" } : Jvm.MethodName)) ∈ lw_all := lw_g (lw_at lw_m10 150 rfl) rfl
theorem q2440 : (Jvm.Cond.privateMethod ({ cls := "BatchRenamerModel", name := "readKeep", desc := "()V" } : Jvm.MethodName)) ∈ lw_tbl := lw_at lw_m10 151 rfl
theorem q2441 : (Jvm.Cond.instanceMethod ({ cls := "BatchRenamerModel", name := "readKeep", desc := "()V" } : Jvm.MethodName)) ∈ lw_all := lw_g (lw_at lw_m10 152 rfl) rfl
theorem q2442 : (Jvm.Cond.code ({ cls := "BatchRenamerModel", name := "readKeep", desc := "()V" } : Jvm.MethodName) prog_17_method_48_code (2 : Nat) (Option.none : Option Jvm.ClassFile.FieldType)) ∈ lw_all := lw_g (lw_at lw_m10 153 rfl) rfl
theorem q2443 : (Jvm.Cond.stringRef "BatchRenamerModel" (266 : Nat) "count") ∈ lw_tbl := lw_at lw_m10 154 rfl
theorem q2444 : (Jvm.Cond.methodLink "BatchRenamerModel" (268 : Nat) ({ cls := "BatchRenamerModel", name := "readCount", desc := "()V" } : Jvm.MethodName)) ∈ lw_all := lw_g (lw_at lw_m10 155 rfl) rfl
theorem q2445 : (Jvm.Cond.privateMethod ({ cls := "BatchRenamerModel", name := "readCount", desc := "()V" } : Jvm.MethodName)) ∈ lw_tbl := lw_at lw_m10 156 rfl
theorem q2446 : (Jvm.Cond.instanceMethod ({ cls := "BatchRenamerModel", name := "readCount", desc := "()V" } : Jvm.MethodName)) ∈ lw_all := lw_g (lw_at lw_m10 157 rfl) rfl
theorem q2447 : (Jvm.Cond.code ({ cls := "BatchRenamerModel", name := "readCount", desc := "()V" } : Jvm.MethodName) prog_17_method_49_code (4 : Nat) (Option.none : Option Jvm.ClassFile.FieldType)) ∈ lw_all := lw_g (lw_at lw_m10 158 rfl) rfl
theorem q2448 : (Jvm.Cond.methodLink "BatchRenamerModel" (225 : Nat) ({ cls := "BatchRenamerModel", name := "readNumber", desc := "(II)I" } : Jvm.MethodName)) ∈ lw_all := lw_g (lw_at lw_m10 159 rfl) rfl
theorem q2449 : (Jvm.Cond.privateMethod ({ cls := "BatchRenamerModel", name := "readNumber", desc := "(II)I" } : Jvm.MethodName)) ∈ lw_tbl := lw_at lw_m10 160 rfl
theorem q2450 : (Jvm.Cond.instanceMethod ({ cls := "BatchRenamerModel", name := "readNumber", desc := "(II)I" } : Jvm.MethodName)) ∈ lw_all := lw_g (lw_at lw_m10 161 rfl) rfl
theorem q2451 : (Jvm.Cond.code ({ cls := "BatchRenamerModel", name := "readNumber", desc := "(II)I" } : Jvm.MethodName) prog_17_method_42_code (4 : Nat) (Option.some Jvm.ClassFile.FieldType.int)) ∈ lw_all := lw_g (lw_at lw_m10 162 rfl) rfl
theorem q2452 : (Jvm.Cond.methodLink "BatchRenamerModel" (199 : Nat) ({ cls := "BatchRenamerModel", name := "numberHere", desc := "(II)I" } : Jvm.MethodName)) ∈ lw_all := lw_g (lw_at lw_m10 163 rfl) rfl
theorem q2453 : (Jvm.Cond.privateMethod ({ cls := "BatchRenamerModel", name := "numberHere", desc := "(II)I" } : Jvm.MethodName)) ∈ lw_tbl := lw_at lw_m10 164 rfl
theorem q2454 : (Jvm.Cond.instanceMethod ({ cls := "BatchRenamerModel", name := "numberHere", desc := "(II)I" } : Jvm.MethodName)) ∈ lw_all := lw_g (lw_at lw_m10 165 rfl) rfl
theorem q2455 : (Jvm.Cond.code ({ cls := "BatchRenamerModel", name := "numberHere", desc := "(II)I" } : Jvm.MethodName) prog_17_method_41_code (5 : Nat) (Option.some Jvm.ClassFile.FieldType.int)) ∈ lw_all := lw_g (lw_at lw_m10 166 rfl) rfl
theorem q2456 : (Jvm.Cond.methodLink "BatchRenamerModel" (252 : Nat) ({ cls := "BatchRenamerModel", name := "counts", desc := "(III)V" } : Jvm.MethodName)) ∈ lw_all := lw_g (lw_at lw_m10 167 rfl) rfl
theorem q2457 : (Jvm.Cond.privateMethod ({ cls := "BatchRenamerModel", name := "counts", desc := "(III)V" } : Jvm.MethodName)) ∈ lw_tbl := lw_at lw_m10 168 rfl
theorem q2458 : (Jvm.Cond.instanceMethod ({ cls := "BatchRenamerModel", name := "counts", desc := "(III)V" } : Jvm.MethodName)) ∈ lw_all := lw_g (lw_at lw_m10 169 rfl) rfl
theorem q2459 : (Jvm.Cond.code ({ cls := "BatchRenamerModel", name := "counts", desc := "(III)V" } : Jvm.MethodName) prog_17_method_50_code (4 : Nat) (Option.none : Option Jvm.ClassFile.FieldType)) ∈ lw_all := lw_g (lw_at lw_m10 170 rfl) rfl
theorem q2460 : (Jvm.Cond.stringRef "BatchRenamerModel" (271 : Nat) "rule") ∈ lw_tbl := lw_at lw_m10 171 rfl
theorem q2461 : (Jvm.Cond.methodLink "BatchRenamerModel" (109 : Nat) ({ cls := "BatchRenamerModel", name := "ruleMany", desc := "()I" } : Jvm.MethodName)) ∈ lw_all := lw_g (lw_at lw_m10 172 rfl) rfl
theorem q2462 : (Jvm.Cond.privateMethod ({ cls := "BatchRenamerModel", name := "ruleMany", desc := "()I" } : Jvm.MethodName)) ∈ lw_tbl := lw_at lw_m10 173 rfl
theorem q2463 : (Jvm.Cond.instanceMethod ({ cls := "BatchRenamerModel", name := "ruleMany", desc := "()I" } : Jvm.MethodName)) ∈ lw_all := lw_g (lw_at lw_m10 174 rfl) rfl
theorem q2464 : (Jvm.Cond.code ({ cls := "BatchRenamerModel", name := "ruleMany", desc := "()I" } : Jvm.MethodName) prog_17_method_8_code (1 : Nat) (Option.some Jvm.ClassFile.FieldType.int)) ∈ lw_all := lw_g (lw_at lw_m10 175 rfl) rfl
theorem q2465 : (Jvm.Cond.methodLink "BatchRenamerModel" (273 : Nat) ({ cls := "BatchRenamerModel", name := "readRule", desc := "()V" } : Jvm.MethodName)) ∈ lw_all := lw_g (lw_at lw_m10 176 rfl) rfl
theorem q2466 : (Jvm.Cond.privateMethod ({ cls := "BatchRenamerModel", name := "readRule", desc := "()V" } : Jvm.MethodName)) ∈ lw_tbl := lw_at lw_m10 177 rfl
theorem q2467 : (Jvm.Cond.instanceMethod ({ cls := "BatchRenamerModel", name := "readRule", desc := "()V" } : Jvm.MethodName)) ∈ lw_all := lw_g (lw_at lw_m10 178 rfl) rfl
theorem q2468 : (Jvm.Cond.code ({ cls := "BatchRenamerModel", name := "readRule", desc := "()V" } : Jvm.MethodName) prog_17_method_44_code (3 : Nat) (Option.none : Option Jvm.ClassFile.FieldType)) ∈ lw_all := lw_g (lw_at lw_m10 179 rfl) rfl
theorem q2469 : (Jvm.Cond.methodLink "BatchRenamerModel" (210 : Nat) ({ cls := "BatchRenamerModel", name := "patternHere", desc := "()I" } : Jvm.MethodName)) ∈ lw_all := lw_g (lw_at lw_m10 180 rfl) rfl
theorem q2470 : (Jvm.Cond.privateMethod ({ cls := "BatchRenamerModel", name := "patternHere", desc := "()I" } : Jvm.MethodName)) ∈ lw_tbl := lw_at lw_m10 181 rfl
theorem q2471 : (Jvm.Cond.instanceMethod ({ cls := "BatchRenamerModel", name := "patternHere", desc := "()I" } : Jvm.MethodName)) ∈ lw_all := lw_g (lw_at lw_m10 182 rfl) rfl
theorem q2472 : (Jvm.Cond.code ({ cls := "BatchRenamerModel", name := "patternHere", desc := "()I" } : Jvm.MethodName) prog_17_method_39_code (3 : Nat) (Option.some Jvm.ClassFile.FieldType.int)) ∈ lw_all := lw_g (lw_at lw_m10 183 rfl) rfl
theorem q2473 : (Jvm.Cond.methodLink "BatchRenamerModel" (196 : Nat) ({ cls := "BatchRenamerModel", name := "isWildcard", desc := "(I)Z" } : Jvm.MethodName)) ∈ lw_all := lw_g (lw_at lw_m10 184 rfl) rfl
theorem q2474 : (Jvm.Cond.static ({ cls := "BatchRenamerModel", name := "isWildcard", desc := "(I)Z" } : Jvm.MethodName)) ∈ lw_all := lw_g (lw_at lw_m10 185 rfl) rfl
theorem q2475 : (Jvm.Cond.code ({ cls := "BatchRenamerModel", name := "isWildcard", desc := "(I)Z" } : Jvm.MethodName) prog_17_method_38_code (1 : Nat) (Option.some Jvm.ClassFile.FieldType.boolean)) ∈ lw_all := lw_g (lw_at lw_m10 186 rfl) rfl
theorem q2476 : (Jvm.Cond.methodLink "BatchRenamerModel" (124 : Nat) ({ cls := "BatchRenamerModel", name := "ruleAt", desc := "(I)I" } : Jvm.MethodName)) ∈ lw_all := lw_g (lw_at lw_m10 187 rfl) rfl
theorem q2477 : (Jvm.Cond.privateMethod ({ cls := "BatchRenamerModel", name := "ruleAt", desc := "(I)I" } : Jvm.MethodName)) ∈ lw_tbl := lw_at lw_m10 188 rfl
theorem q2478 : (Jvm.Cond.instanceMethod ({ cls := "BatchRenamerModel", name := "ruleAt", desc := "(I)I" } : Jvm.MethodName)) ∈ lw_all := lw_g (lw_at lw_m10 189 rfl) rfl
theorem q2479 : (Jvm.Cond.code ({ cls := "BatchRenamerModel", name := "ruleAt", desc := "(I)I" } : Jvm.MethodName) prog_17_method_19_code (2 : Nat) (Option.some Jvm.ClassFile.FieldType.int)) ∈ lw_all := lw_g (lw_at lw_m10 190 rfl) rfl
theorem q2480 : (Jvm.Cond.methodLink "BatchRenamerModel" (213 : Nat) ({ cls := "BatchRenamerModel", name := "takesHere", desc := "(I)V" } : Jvm.MethodName)) ∈ lw_all := lw_g (lw_at lw_m10 191 rfl) rfl
theorem q2481 : (Jvm.Cond.privateMethod ({ cls := "BatchRenamerModel", name := "takesHere", desc := "(I)V" } : Jvm.MethodName)) ∈ lw_tbl := lw_at lw_m10 192 rfl
theorem q2482 : (Jvm.Cond.instanceMethod ({ cls := "BatchRenamerModel", name := "takesHere", desc := "(I)V" } : Jvm.MethodName)) ∈ lw_all := lw_g (lw_at lw_m10 193 rfl) rfl
theorem q2483 : (Jvm.Cond.code ({ cls := "BatchRenamerModel", name := "takesHere", desc := "(I)V" } : Jvm.MethodName) prog_17_method_43_code (3 : Nat) (Option.none : Option Jvm.ClassFile.FieldType)) ∈ lw_all := lw_g (lw_at lw_m10 194 rfl) rfl
theorem q2484 : (Jvm.Cond.methodLink "BatchRenamerModel" (216 : Nat) ({ cls := "BatchRenamerModel", name := "isTemplateHere", desc := "(I)Z" } : Jvm.MethodName)) ∈ lw_all := lw_g (lw_at lw_m10 195 rfl) rfl
theorem q2485 : (Jvm.Cond.privateMethod ({ cls := "BatchRenamerModel", name := "isTemplateHere", desc := "(I)Z" } : Jvm.MethodName)) ∈ lw_tbl := lw_at lw_m10 196 rfl
theorem q2486 : (Jvm.Cond.instanceMethod ({ cls := "BatchRenamerModel", name := "isTemplateHere", desc := "(I)Z" } : Jvm.MethodName)) ∈ lw_all := lw_g (lw_at lw_m10 197 rfl) rfl
theorem q2487 : (Jvm.Cond.code ({ cls := "BatchRenamerModel", name := "isTemplateHere", desc := "(I)Z" } : Jvm.MethodName) prog_17_method_40_code (5 : Nat) (Option.some Jvm.ClassFile.FieldType.boolean)) ∈ lw_all := lw_g (lw_at lw_m10 198 rfl) rfl
theorem q2488 : (Jvm.Cond.stringRef "BatchRenamerModel" (219 : Nat) "by") ∈ lw_tbl := lw_at lw_m10 199 rfl
theorem q2490 : (Jvm.Cond.instanceMethod ({ cls := "BatchRenamerModel", name := "errorOffset", desc := "()I" } : Jvm.MethodName)) ∈ lw_all := lw_g (lw_at lw_m10 201 rfl) rfl
theorem q2491 : (Jvm.Cond.selects "BatchRenamerModel" ({ cls := "BatchRenamerModel", name := "errorOffset", desc := "()I" } : Jvm.MethodName) ({ cls := "BatchRenamerModel", name := "errorOffset", desc := "()I" } : Jvm.MethodName)) ∈ lw_all := lw_g (lw_at lw_m10 202 rfl) rfl
theorem q2492 : (Jvm.Cond.code ({ cls := "BatchRenamerModel", name := "errorOffset", desc := "()I" } : Jvm.MethodName) prog_17_method_55_code (1 : Nat) (Option.some Jvm.ClassFile.FieldType.int)) ∈ lw_all := lw_g (lw_at lw_m10 203 rfl) rfl
theorem q2494 : (Jvm.Cond.instanceMethod ({ cls := "BatchRenamerModel", name := "files", desc := "()I" } : Jvm.MethodName)) ∈ lw_all := lw_g (lw_at lw_m10 205 rfl) rfl
theorem q2495 : (Jvm.Cond.selects "BatchRenamerModel" ({ cls := "BatchRenamerModel", name := "files", desc := "()I" } : Jvm.MethodName) ({ cls := "BatchRenamerModel", name := "files", desc := "()I" } : Jvm.MethodName)) ∈ lw_all := lw_g (lw_at lw_m10 206 rfl) rfl
theorem q2496 : (Jvm.Cond.code ({ cls := "BatchRenamerModel", name := "files", desc := "()I" } : Jvm.MethodName) prog_17_method_56_code (1 : Nat) (Option.some Jvm.ClassFile.FieldType.int)) ∈ lw_all := lw_g (lw_at lw_m10 207 rfl) rfl
theorem q2498 : (Jvm.Cond.instanceMethod ({ cls := "BatchRenamerModel", name := "rules", desc := "()I" } : Jvm.MethodName)) ∈ lw_all := lw_g (lw_at lw_m10 209 rfl) rfl
theorem q2499 : (Jvm.Cond.selects "BatchRenamerModel" ({ cls := "BatchRenamerModel", name := "rules", desc := "()I" } : Jvm.MethodName) ({ cls := "BatchRenamerModel", name := "rules", desc := "()I" } : Jvm.MethodName)) ∈ lw_all := lw_g (lw_at lw_m10 210 rfl) rfl
theorem q2500 : (Jvm.Cond.code ({ cls := "BatchRenamerModel", name := "rules", desc := "()I" } : Jvm.MethodName) prog_17_method_57_code (1 : Nat) (Option.some Jvm.ClassFile.FieldType.int)) ∈ lw_all := lw_g (lw_at lw_m10 211 rfl) rfl
theorem q2502 : (Jvm.Cond.instanceMethod ({ cls := "BatchRenamerModel", name := "isKept", desc := "(I)Z" } : Jvm.MethodName)) ∈ lw_all := lw_g (lw_at lw_m10 213 rfl) rfl
theorem q2503 : (Jvm.Cond.selects "BatchRenamerModel" ({ cls := "BatchRenamerModel", name := "isKept", desc := "(I)Z" } : Jvm.MethodName) ({ cls := "BatchRenamerModel", name := "isKept", desc := "(I)Z" } : Jvm.MethodName)) ∈ lw_all := lw_g (lw_at lw_m10 214 rfl) rfl
theorem q2504 : (Jvm.Cond.code ({ cls := "BatchRenamerModel", name := "isKept", desc := "(I)Z" } : Jvm.MethodName) prog_17_method_58_code (2 : Nat) (Option.some Jvm.ClassFile.FieldType.boolean)) ∈ lw_all := lw_g (lw_at lw_m10 215 rfl) rfl
theorem q2505 : (Jvm.Cond.methodLink "BatchRenamerModel" (288 : Nat) ({ cls := "BatchRenamerModel", name := "isFile", desc := "(I)Z" } : Jvm.MethodName)) ∈ lw_all := lw_g (lw_at lw_m10 216 rfl) rfl
theorem q2506 : (Jvm.Cond.privateMethod ({ cls := "BatchRenamerModel", name := "isFile", desc := "(I)Z" } : Jvm.MethodName)) ∈ lw_tbl := lw_at lw_m10 217 rfl
theorem q2507 : (Jvm.Cond.instanceMethod ({ cls := "BatchRenamerModel", name := "isFile", desc := "(I)Z" } : Jvm.MethodName)) ∈ lw_all := lw_g (lw_at lw_m10 218 rfl) rfl
theorem q2508 : (Jvm.Cond.code ({ cls := "BatchRenamerModel", name := "isFile", desc := "(I)Z" } : Jvm.MethodName) prog_17_method_9_code (2 : Nat) (Option.some Jvm.ClassFile.FieldType.boolean)) ∈ lw_all := lw_g (lw_at lw_m10 219 rfl) rfl
theorem q2510 : (Jvm.Cond.instanceMethod ({ cls := "BatchRenamerModel", name := "length", desc := "(I)I" } : Jvm.MethodName)) ∈ lw_all := lw_g (lw_at lw_m10 221 rfl) rfl
theorem q2511 : (Jvm.Cond.selects "BatchRenamerModel" ({ cls := "BatchRenamerModel", name := "length", desc := "(I)I" } : Jvm.MethodName) ({ cls := "BatchRenamerModel", name := "length", desc := "(I)I" } : Jvm.MethodName)) ∈ lw_all := lw_g (lw_at lw_m10 222 rfl) rfl
theorem q2512 : (Jvm.Cond.code ({ cls := "BatchRenamerModel", name := "length", desc := "(I)I" } : Jvm.MethodName) prog_17_method_59_code (2 : Nat) (Option.some Jvm.ClassFile.FieldType.int)) ∈ lw_all := lw_g (lw_at lw_m10 223 rfl) rfl
theorem q2513 : (Jvm.Cond.methodLink "BatchRenamerModel" (291 : Nat) ({ cls := "BatchRenamerModel", name := "nameLong", desc := "(I)I" } : Jvm.MethodName)) ∈ lw_all := lw_g (lw_at lw_m10 224 rfl) rfl
theorem q2514 : (Jvm.Cond.privateMethod ({ cls := "BatchRenamerModel", name := "nameLong", desc := "(I)I" } : Jvm.MethodName)) ∈ lw_tbl := lw_at lw_m10 225 rfl
theorem q2515 : (Jvm.Cond.instanceMethod ({ cls := "BatchRenamerModel", name := "nameLong", desc := "(I)I" } : Jvm.MethodName)) ∈ lw_all := lw_g (lw_at lw_m10 226 rfl) rfl
theorem q2516 : (Jvm.Cond.code ({ cls := "BatchRenamerModel", name := "nameLong", desc := "(I)I" } : Jvm.MethodName) prog_17_method_18_code (2 : Nat) (Option.some Jvm.ClassFile.FieldType.int)) ∈ lw_all := lw_g (lw_at lw_m10 227 rfl) rfl
theorem q2517 : (Jvm.Cond.methodLink "BatchRenamerModel" (121 : Nat) ({ cls := "BatchRenamerModel", name := "longIn", desc := "([JII)I" } : Jvm.MethodName)) ∈ lw_all := lw_g (lw_at lw_m10 228 rfl) rfl
theorem q2518 : (Jvm.Cond.static ({ cls := "BatchRenamerModel", name := "longIn", desc := "([JII)I" } : Jvm.MethodName)) ∈ lw_all := lw_g (lw_at lw_m10 229 rfl) rfl
theorem q2519 : (Jvm.Cond.code ({ cls := "BatchRenamerModel", name := "longIn", desc := "([JII)I" } : Jvm.MethodName) prog_17_method_12_code (4 : Nat) (Option.some Jvm.ClassFile.FieldType.int)) ∈ lw_all := lw_g (lw_at lw_m10 230 rfl) rfl
theorem q2520 : (Jvm.Cond.methodLink "BatchRenamerModel" (114 : Nat) ({ cls := "BatchRenamerModel", name := "signIn", desc := "([JII)I" } : Jvm.MethodName)) ∈ lw_all := lw_g (lw_at lw_m10 231 rfl) rfl
theorem q2521 : (Jvm.Cond.static ({ cls := "BatchRenamerModel", name := "signIn", desc := "([JII)I" } : Jvm.MethodName)) ∈ lw_all := lw_g (lw_at lw_m10 232 rfl) rfl
theorem q2522 : (Jvm.Cond.code ({ cls := "BatchRenamerModel", name := "signIn", desc := "([JII)I" } : Jvm.MethodName) prog_17_method_11_code (3 : Nat) (Option.some Jvm.ClassFile.FieldType.int)) ∈ lw_all := lw_g (lw_at lw_m10 233 rfl) rfl
theorem q2523 : (Jvm.Cond.constantLong "BatchRenamerModel" (112 : Nat) (255 : Int64)) ∈ lw_all := lw_g (lw_at lw_m10 234 rfl) rfl
theorem q2525 : (Jvm.Cond.instanceMethod ({ cls := "BatchRenamerModel", name := "rank", desc := "(I)I" } : Jvm.MethodName)) ∈ lw_all := lw_g (lw_at lw_m10 236 rfl) rfl
theorem q2526 : (Jvm.Cond.selects "BatchRenamerModel" ({ cls := "BatchRenamerModel", name := "rank", desc := "(I)I" } : Jvm.MethodName) ({ cls := "BatchRenamerModel", name := "rank", desc := "(I)I" } : Jvm.MethodName)) ∈ lw_all := lw_g (lw_at lw_m10 237 rfl) rfl
theorem q2527 : (Jvm.Cond.code ({ cls := "BatchRenamerModel", name := "rank", desc := "(I)I" } : Jvm.MethodName) prog_17_method_60_code (4 : Nat) (Option.some Jvm.ClassFile.FieldType.int)) ∈ lw_all := lw_g (lw_at lw_m10 238 rfl) rfl
theorem q2529 : (Jvm.Cond.instanceMethod ({ cls := "BatchRenamerModel", name := "counting", desc := "(I)I" } : Jvm.MethodName)) ∈ lw_all := lw_g (lw_at lw_m11 0 rfl) rfl
theorem q2530 : (Jvm.Cond.selects "BatchRenamerModel" ({ cls := "BatchRenamerModel", name := "counting", desc := "(I)I" } : Jvm.MethodName) ({ cls := "BatchRenamerModel", name := "counting", desc := "(I)I" } : Jvm.MethodName)) ∈ lw_all := lw_g (lw_at lw_m11 1 rfl) rfl
theorem q2531 : (Jvm.Cond.code ({ cls := "BatchRenamerModel", name := "counting", desc := "(I)I" } : Jvm.MethodName) prog_17_method_61_code (2 : Nat) (Option.some Jvm.ClassFile.FieldType.int)) ∈ lw_all := lw_g (lw_at lw_m11 2 rfl) rfl
theorem q2533 : (Jvm.Cond.instanceMethod ({ cls := "BatchRenamerModel", name := "wildcards", desc := "(I)I" } : Jvm.MethodName)) ∈ lw_all := lw_g (lw_at lw_m11 4 rfl) rfl
theorem q2534 : (Jvm.Cond.selects "BatchRenamerModel" ({ cls := "BatchRenamerModel", name := "wildcards", desc := "(I)I" } : Jvm.MethodName) ({ cls := "BatchRenamerModel", name := "wildcards", desc := "(I)I" } : Jvm.MethodName)) ∈ lw_all := lw_g (lw_at lw_m11 5 rfl) rfl
theorem q2535 : (Jvm.Cond.code ({ cls := "BatchRenamerModel", name := "wildcards", desc := "(I)I" } : Jvm.MethodName) prog_17_method_63_code (2 : Nat) (Option.some Jvm.ClassFile.FieldType.int)) ∈ lw_all := lw_g (lw_at lw_m11 6 rfl) rfl
theorem q2536 : (Jvm.Cond.methodLink "BatchRenamerModel" (297 : Nat) ({ cls := "BatchRenamerModel", name := "isRule", desc := "(I)Z" } : Jvm.MethodName)) ∈ lw_all := lw_g (lw_at lw_m11 7 rfl) rfl
theorem q2537 : (Jvm.Cond.privateMethod ({ cls := "BatchRenamerModel", name := "isRule", desc := "(I)Z" } : Jvm.MethodName)) ∈ lw_tbl := lw_at lw_m11 8 rfl
theorem q2538 : (Jvm.Cond.instanceMethod ({ cls := "BatchRenamerModel", name := "isRule", desc := "(I)Z" } : Jvm.MethodName)) ∈ lw_all := lw_g (lw_at lw_m11 9 rfl) rfl
theorem q2539 : (Jvm.Cond.code ({ cls := "BatchRenamerModel", name := "isRule", desc := "(I)Z" } : Jvm.MethodName) prog_17_method_10_code (2 : Nat) (Option.some Jvm.ClassFile.FieldType.boolean)) ∈ lw_all := lw_g (lw_at lw_m11 10 rfl) rfl
theorem q2540 : (Jvm.Cond.methodLink "BatchRenamerModel" (300 : Nat) ({ cls := "BatchRenamerModel", name := "wildcardsOf", desc := "(I)I" } : Jvm.MethodName)) ∈ lw_all := lw_g (lw_at lw_m11 11 rfl) rfl
theorem q2541 : (Jvm.Cond.privateMethod ({ cls := "BatchRenamerModel", name := "wildcardsOf", desc := "(I)I" } : Jvm.MethodName)) ∈ lw_tbl := lw_at lw_m11 12 rfl
theorem q2542 : (Jvm.Cond.instanceMethod ({ cls := "BatchRenamerModel", name := "wildcardsOf", desc := "(I)I" } : Jvm.MethodName)) ∈ lw_all := lw_g (lw_at lw_m11 13 rfl) rfl
theorem q2543 : (Jvm.Cond.code ({ cls := "BatchRenamerModel", name := "wildcardsOf", desc := "(I)I" } : Jvm.MethodName) prog_17_method_62_code (4 : Nat) (Option.some Jvm.ClassFile.FieldType.int)) ∈ lw_all := lw_g (lw_at lw_m11 14 rfl) rfl
theorem q2544 : (Jvm.Cond.methodLink "BatchRenamerModel" (294 : Nat) ({ cls := "BatchRenamerModel", name := "patternSign", desc := "(II)I" } : Jvm.MethodName)) ∈ lw_all := lw_g (lw_at lw_m11 15 rfl) rfl
theorem q2545 : (Jvm.Cond.privateMethod ({ cls := "BatchRenamerModel", name := "patternSign", desc := "(II)I" } : Jvm.MethodName)) ∈ lw_tbl := lw_at lw_m11 16 rfl
theorem q2546 : (Jvm.Cond.instanceMethod ({ cls := "BatchRenamerModel", name := "patternSign", desc := "(II)I" } : Jvm.MethodName)) ∈ lw_all := lw_g (lw_at lw_m11 17 rfl) rfl
theorem q2547 : (Jvm.Cond.code ({ cls := "BatchRenamerModel", name := "patternSign", desc := "(II)I" } : Jvm.MethodName) prog_17_method_20_code (3 : Nat) (Option.some Jvm.ClassFile.FieldType.int)) ∈ lw_all := lw_g (lw_at lw_m11 18 rfl) rfl
theorem q2549 : (Jvm.Cond.instanceMethod ({ cls := "BatchRenamerModel", name := "matches", desc := "(II)Z" } : Jvm.MethodName)) ∈ lw_all := lw_g (lw_at lw_m11 20 rfl) rfl
theorem q2550 : (Jvm.Cond.selects "BatchRenamerModel" ({ cls := "BatchRenamerModel", name := "matches", desc := "(II)Z" } : Jvm.MethodName) ({ cls := "BatchRenamerModel", name := "matches", desc := "(II)Z" } : Jvm.MethodName)) ∈ lw_all := lw_g (lw_at lw_m11 21 rfl) rfl
theorem q2551 : (Jvm.Cond.code ({ cls := "BatchRenamerModel", name := "matches", desc := "(II)Z" } : Jvm.MethodName) prog_17_method_67_code (3 : Nat) (Option.some Jvm.ClassFile.FieldType.boolean)) ∈ lw_all := lw_g (lw_at lw_m11 22 rfl) rfl
theorem q2552 : (Jvm.Cond.methodLink "BatchRenamerModel" (310 : Nat) ({ cls := "BatchRenamerModel", name := "fits", desc := "(II)Z" } : Jvm.MethodName)) ∈ lw_all := lw_g (lw_at lw_m11 23 rfl) rfl
theorem q2553 : (Jvm.Cond.privateMethod ({ cls := "BatchRenamerModel", name := "fits", desc := "(II)Z" } : Jvm.MethodName)) ∈ lw_tbl := lw_at lw_m11 24 rfl
theorem q2554 : (Jvm.Cond.instanceMethod ({ cls := "BatchRenamerModel", name := "fits", desc := "(II)Z" } : Jvm.MethodName)) ∈ lw_all := lw_g (lw_at lw_m11 25 rfl) rfl
theorem q2555 : (Jvm.Cond.code ({ cls := "BatchRenamerModel", name := "fits", desc := "(II)Z" } : Jvm.MethodName) prog_17_method_66_code (3 : Nat) (Option.some Jvm.ClassFile.FieldType.boolean)) ∈ lw_all := lw_g (lw_at lw_m11 26 rfl) rfl
theorem q2556 : (Jvm.Cond.methodLink "BatchRenamerModel" (303 : Nat) ({ cls := "BatchRenamerModel", name := "goesThrough", desc := "(IIIII)Z" } : Jvm.MethodName)) ∈ lw_all := lw_g (lw_at lw_m11 27 rfl) rfl
theorem q2557 : (Jvm.Cond.privateMethod ({ cls := "BatchRenamerModel", name := "goesThrough", desc := "(IIIII)Z" } : Jvm.MethodName)) ∈ lw_tbl := lw_at lw_m11 28 rfl
theorem q2558 : (Jvm.Cond.instanceMethod ({ cls := "BatchRenamerModel", name := "goesThrough", desc := "(IIIII)Z" } : Jvm.MethodName)) ∈ lw_all := lw_g (lw_at lw_m11 29 rfl) rfl
theorem q2559 : (Jvm.Cond.code ({ cls := "BatchRenamerModel", name := "goesThrough", desc := "(IIIII)Z" } : Jvm.MethodName) prog_17_method_64_code (9 : Nat) (Option.some Jvm.ClassFile.FieldType.boolean)) ∈ lw_all := lw_g (lw_at lw_m11 30 rfl) rfl
theorem q2560 : (Jvm.Cond.methodLink "BatchRenamerModel" (307 : Nat) ({ cls := "BatchRenamerModel", name := "keepsCapture", desc := "(III)V" } : Jvm.MethodName)) ∈ lw_all := lw_g (lw_at lw_m11 31 rfl) rfl
theorem q2561 : (Jvm.Cond.privateMethod ({ cls := "BatchRenamerModel", name := "keepsCapture", desc := "(III)V" } : Jvm.MethodName)) ∈ lw_tbl := lw_at lw_m11 32 rfl
theorem q2562 : (Jvm.Cond.instanceMethod ({ cls := "BatchRenamerModel", name := "keepsCapture", desc := "(III)V" } : Jvm.MethodName)) ∈ lw_all := lw_g (lw_at lw_m11 33 rfl) rfl
theorem q2563 : (Jvm.Cond.code ({ cls := "BatchRenamerModel", name := "keepsCapture", desc := "(III)V" } : Jvm.MethodName) prog_17_method_65_code (4 : Nat) (Option.none : Option Jvm.ClassFile.FieldType)) ∈ lw_all := lw_g (lw_at lw_m11 34 rfl) rfl
theorem q2565 : (Jvm.Cond.instanceMethod ({ cls := "BatchRenamerModel", name := "capture", desc := "(IIII)I" } : Jvm.MethodName)) ∈ lw_all := lw_g (lw_at lw_m11 36 rfl) rfl
theorem q2566 : (Jvm.Cond.selects "BatchRenamerModel" ({ cls := "BatchRenamerModel", name := "capture", desc := "(IIII)I" } : Jvm.MethodName) ({ cls := "BatchRenamerModel", name := "capture", desc := "(IIII)I" } : Jvm.MethodName)) ∈ lw_all := lw_g (lw_at lw_m11 37 rfl) rfl
theorem q2567 : (Jvm.Cond.code ({ cls := "BatchRenamerModel", name := "capture", desc := "(IIII)I" } : Jvm.MethodName) prog_17_method_68_code (5 : Nat) (Option.some Jvm.ClassFile.FieldType.int)) ∈ lw_all := lw_g (lw_at lw_m11 38 rfl) rfl
theorem q2569 : (Jvm.Cond.instanceMethod ({ cls := "BatchRenamerModel", name := "ruleOf", desc := "(I)I" } : Jvm.MethodName)) ∈ lw_all := lw_g (lw_at lw_m11 40 rfl) rfl
theorem q2570 : (Jvm.Cond.selects "BatchRenamerModel" ({ cls := "BatchRenamerModel", name := "ruleOf", desc := "(I)I" } : Jvm.MethodName) ({ cls := "BatchRenamerModel", name := "ruleOf", desc := "(I)I" } : Jvm.MethodName)) ∈ lw_all := lw_g (lw_at lw_m11 41 rfl) rfl
theorem q2571 : (Jvm.Cond.code ({ cls := "BatchRenamerModel", name := "ruleOf", desc := "(I)I" } : Jvm.MethodName) prog_17_method_83_code (2 : Nat) (Option.some Jvm.ClassFile.FieldType.int)) ∈ lw_all := lw_g (lw_at lw_m11 42 rfl) rfl
theorem q2572 : (Jvm.Cond.methodLink "BatchRenamerModel" (359 : Nat) ({ cls := "BatchRenamerModel", name := "isLaid", desc := "(I)Z" } : Jvm.MethodName)) ∈ lw_all := lw_g (lw_at lw_m11 43 rfl) rfl
theorem q2573 : (Jvm.Cond.privateMethod ({ cls := "BatchRenamerModel", name := "isLaid", desc := "(I)Z" } : Jvm.MethodName)) ∈ lw_tbl := lw_at lw_m11 44 rfl
theorem q2574 : (Jvm.Cond.instanceMethod ({ cls := "BatchRenamerModel", name := "isLaid", desc := "(I)Z" } : Jvm.MethodName)) ∈ lw_all := lw_g (lw_at lw_m11 45 rfl) rfl
theorem q2575 : (Jvm.Cond.code ({ cls := "BatchRenamerModel", name := "isLaid", desc := "(I)Z" } : Jvm.MethodName) prog_17_method_82_code (2 : Nat) (Option.some Jvm.ClassFile.FieldType.boolean)) ∈ lw_all := lw_g (lw_at lw_m11 46 rfl) rfl
theorem q2576 : (Jvm.Cond.methodLink "BatchRenamerModel" (356 : Nat) ({ cls := "BatchRenamerModel", name := "laysAll", desc := "()V" } : Jvm.MethodName)) ∈ lw_all := lw_g (lw_at lw_m11 47 rfl) rfl
theorem q2577 : (Jvm.Cond.privateMethod ({ cls := "BatchRenamerModel", name := "laysAll", desc := "()V" } : Jvm.MethodName)) ∈ lw_tbl := lw_at lw_m11 48 rfl
theorem q2578 : (Jvm.Cond.instanceMethod ({ cls := "BatchRenamerModel", name := "laysAll", desc := "()V" } : Jvm.MethodName)) ∈ lw_all := lw_g (lw_at lw_m11 49 rfl) rfl
theorem q2579 : (Jvm.Cond.code ({ cls := "BatchRenamerModel", name := "laysAll", desc := "()V" } : Jvm.MethodName) prog_17_method_81_code (2 : Nat) (Option.none : Option Jvm.ClassFile.FieldType)) ∈ lw_all := lw_g (lw_at lw_m11 50 rfl) rfl
theorem q2580 : (Jvm.Cond.methodLink "BatchRenamerModel" (338 : Nat) ({ cls := "BatchRenamerModel", name := "findsRule", desc := "(I)V" } : Jvm.MethodName)) ∈ lw_all := lw_g (lw_at lw_m11 51 rfl) rfl
theorem q2581 : (Jvm.Cond.privateMethod ({ cls := "BatchRenamerModel", name := "findsRule", desc := "(I)V" } : Jvm.MethodName)) ∈ lw_tbl := lw_at lw_m11 52 rfl
theorem q2582 : (Jvm.Cond.instanceMethod ({ cls := "BatchRenamerModel", name := "findsRule", desc := "(I)V" } : Jvm.MethodName)) ∈ lw_all := lw_g (lw_at lw_m11 53 rfl) rfl
theorem q2583 : (Jvm.Cond.code ({ cls := "BatchRenamerModel", name := "findsRule", desc := "(I)V" } : Jvm.MethodName) prog_17_method_69_code (4 : Nat) (Option.none : Option Jvm.ClassFile.FieldType)) ∈ lw_all := lw_g (lw_at lw_m11 54 rfl) rfl
theorem q2584 : (Jvm.Cond.methodLink "BatchRenamerModel" (341 : Nat) ({ cls := "BatchRenamerModel", name := "countsFile", desc := "(I)V" } : Jvm.MethodName)) ∈ lw_all := lw_g (lw_at lw_m11 55 rfl) rfl
theorem q2585 : (Jvm.Cond.privateMethod ({ cls := "BatchRenamerModel", name := "countsFile", desc := "(I)V" } : Jvm.MethodName)) ∈ lw_tbl := lw_at lw_m11 56 rfl
theorem q2586 : (Jvm.Cond.instanceMethod ({ cls := "BatchRenamerModel", name := "countsFile", desc := "(I)V" } : Jvm.MethodName)) ∈ lw_all := lw_g (lw_at lw_m11 57 rfl) rfl
theorem q2587 : (Jvm.Cond.code ({ cls := "BatchRenamerModel", name := "countsFile", desc := "(I)V" } : Jvm.MethodName) prog_17_method_75_code (3 : Nat) (Option.none : Option Jvm.ClassFile.FieldType)) ∈ lw_all := lw_g (lw_at lw_m11 58 rfl) rfl
theorem q2588 : (Jvm.Cond.methodLink "BatchRenamerModel" (325 : Nat) ({ cls := "BatchRenamerModel", name := "areOneGroup", desc := "(II)Z" } : Jvm.MethodName)) ∈ lw_all := lw_g (lw_at lw_m11 59 rfl) rfl
theorem q2589 : (Jvm.Cond.privateMethod ({ cls := "BatchRenamerModel", name := "areOneGroup", desc := "(II)Z" } : Jvm.MethodName)) ∈ lw_tbl := lw_at lw_m11 60 rfl
theorem q2590 : (Jvm.Cond.instanceMethod ({ cls := "BatchRenamerModel", name := "areOneGroup", desc := "(II)Z" } : Jvm.MethodName)) ∈ lw_all := lw_g (lw_at lw_m11 61 rfl) rfl
theorem q2591 : (Jvm.Cond.code ({ cls := "BatchRenamerModel", name := "areOneGroup", desc := "(II)Z" } : Jvm.MethodName) prog_17_method_70_code (5 : Nat) (Option.some Jvm.ClassFile.FieldType.boolean)) ∈ lw_all := lw_g (lw_at lw_m11 62 rfl) rfl
theorem q2592 : (Jvm.Cond.methodLink "BatchRenamerModel" (344 : Nat) ({ cls := "BatchRenamerModel", name := "makesNew", desc := "(I)V" } : Jvm.MethodName)) ∈ lw_all := lw_g (lw_at lw_m11 63 rfl) rfl
theorem q2593 : (Jvm.Cond.privateMethod ({ cls := "BatchRenamerModel", name := "makesNew", desc := "(I)V" } : Jvm.MethodName)) ∈ lw_tbl := lw_at lw_m11 64 rfl
theorem q2594 : (Jvm.Cond.instanceMethod ({ cls := "BatchRenamerModel", name := "makesNew", desc := "(I)V" } : Jvm.MethodName)) ∈ lw_all := lw_g (lw_at lw_m11 65 rfl) rfl
theorem q2595 : (Jvm.Cond.code ({ cls := "BatchRenamerModel", name := "makesNew", desc := "(I)V" } : Jvm.MethodName) prog_17_method_73_code (6 : Nat) (Option.none : Option Jvm.ClassFile.FieldType)) ∈ lw_all := lw_g (lw_at lw_m11 66 rfl) rfl
theorem q2596 : (Jvm.Cond.methodLink "BatchRenamerModel" (316 : Nat) ({ cls := "BatchRenamerModel", name := "templateSign", desc := "(II)I" } : Jvm.MethodName)) ∈ lw_all := lw_g (lw_at lw_m11 67 rfl) rfl
theorem q2597 : (Jvm.Cond.privateMethod ({ cls := "BatchRenamerModel", name := "templateSign", desc := "(II)I" } : Jvm.MethodName)) ∈ lw_tbl := lw_at lw_m11 68 rfl
theorem q2598 : (Jvm.Cond.instanceMethod ({ cls := "BatchRenamerModel", name := "templateSign", desc := "(II)I" } : Jvm.MethodName)) ∈ lw_all := lw_g (lw_at lw_m11 69 rfl) rfl
theorem q2599 : (Jvm.Cond.code ({ cls := "BatchRenamerModel", name := "templateSign", desc := "(II)I" } : Jvm.MethodName) prog_17_method_21_code (3 : Nat) (Option.some Jvm.ClassFile.FieldType.int)) ∈ lw_all := lw_g (lw_at lw_m11 70 rfl) rfl
theorem q2600 : (Jvm.Cond.methodLink "BatchRenamerModel" (313 : Nat) ({ cls := "BatchRenamerModel", name := "adds", desc := "(II)V" } : Jvm.MethodName)) ∈ lw_all := lw_g (lw_at lw_m11 71 rfl) rfl
theorem q2601 : (Jvm.Cond.privateMethod ({ cls := "BatchRenamerModel", name := "adds", desc := "(II)V" } : Jvm.MethodName)) ∈ lw_tbl := lw_at lw_m11 72 rfl
theorem q2602 : (Jvm.Cond.instanceMethod ({ cls := "BatchRenamerModel", name := "adds", desc := "(II)V" } : Jvm.MethodName)) ∈ lw_all := lw_g (lw_at lw_m11 73 rfl) rfl
theorem q2603 : (Jvm.Cond.code ({ cls := "BatchRenamerModel", name := "adds", desc := "(II)V" } : Jvm.MethodName) prog_17_method_71_code (3 : Nat) (Option.none : Option Jvm.ClassFile.FieldType)) ∈ lw_all := lw_g (lw_at lw_m11 74 rfl) rfl
theorem q2604 : (Jvm.Cond.methodLink "BatchRenamerModel" (319 : Nat) ({ cls := "BatchRenamerModel", name := "addsCounter", desc := "(I)V" } : Jvm.MethodName)) ∈ lw_all := lw_g (lw_at lw_m11 75 rfl) rfl
theorem q2605 : (Jvm.Cond.privateMethod ({ cls := "BatchRenamerModel", name := "addsCounter", desc := "(I)V" } : Jvm.MethodName)) ∈ lw_tbl := lw_at lw_m11 76 rfl
theorem q2606 : (Jvm.Cond.instanceMethod ({ cls := "BatchRenamerModel", name := "addsCounter", desc := "(I)V" } : Jvm.MethodName)) ∈ lw_all := lw_g (lw_at lw_m11 77 rfl) rfl
theorem q2607 : (Jvm.Cond.code ({ cls := "BatchRenamerModel", name := "addsCounter", desc := "(I)V" } : Jvm.MethodName) prog_17_method_72_code (6 : Nat) (Option.none : Option Jvm.ClassFile.FieldType)) ∈ lw_all := lw_g (lw_at lw_m11 78 rfl) rfl
theorem q2608 : (Jvm.Cond.methodLink "BatchRenamerModel" (322 : Nat) ({ cls := "BatchRenamerModel", name := "addsCapture", desc := "(II)V" } : Jvm.MethodName)) ∈ lw_all := lw_g (lw_at lw_m11 79 rfl) rfl
theorem q2609 : (Jvm.Cond.privateMethod ({ cls := "BatchRenamerModel", name := "addsCapture", desc := "(II)V" } : Jvm.MethodName)) ∈ lw_tbl := lw_at lw_m11 80 rfl
theorem q2610 : (Jvm.Cond.instanceMethod ({ cls := "BatchRenamerModel", name := "addsCapture", desc := "(II)V" } : Jvm.MethodName)) ∈ lw_all := lw_g (lw_at lw_m11 81 rfl) rfl
theorem q2611 : (Jvm.Cond.code ({ cls := "BatchRenamerModel", name := "addsCapture", desc := "(II)V" } : Jvm.MethodName) prog_17_method_74_code (4 : Nat) (Option.none : Option Jvm.ClassFile.FieldType)) ∈ lw_all := lw_g (lw_at lw_m11 82 rfl) rfl
theorem q2612 : (Jvm.Cond.methodLink "BatchRenamerModel" (347 : Nat) ({ cls := "BatchRenamerModel", name := "firstStatus", desc := "(I)I" } : Jvm.MethodName)) ∈ lw_all := lw_g (lw_at lw_m11 83 rfl) rfl
theorem q2613 : (Jvm.Cond.privateMethod ({ cls := "BatchRenamerModel", name := "firstStatus", desc := "(I)I" } : Jvm.MethodName)) ∈ lw_tbl := lw_at lw_m11 84 rfl
theorem q2614 : (Jvm.Cond.instanceMethod ({ cls := "BatchRenamerModel", name := "firstStatus", desc := "(I)I" } : Jvm.MethodName)) ∈ lw_all := lw_g (lw_at lw_m11 85 rfl) rfl
theorem q2615 : (Jvm.Cond.code ({ cls := "BatchRenamerModel", name := "firstStatus", desc := "(I)I" } : Jvm.MethodName) prog_17_method_78_code (2 : Nat) (Option.some Jvm.ClassFile.FieldType.int)) ∈ lw_all := lw_g (lw_at lw_m11 86 rfl) rfl
theorem q2616 : (Jvm.Cond.methodLink "BatchRenamerModel" (328 : Nat) ({ cls := "BatchRenamerModel", name := "isNew", desc := "(I[JI)Z" } : Jvm.MethodName)) ∈ lw_all := lw_g (lw_at lw_m11 87 rfl) rfl
theorem q2617 : (Jvm.Cond.privateMethod ({ cls := "BatchRenamerModel", name := "isNew", desc := "(I[JI)Z" } : Jvm.MethodName)) ∈ lw_tbl := lw_at lw_m11 88 rfl
theorem q2618 : (Jvm.Cond.instanceMethod ({ cls := "BatchRenamerModel", name := "isNew", desc := "(I[JI)Z" } : Jvm.MethodName)) ∈ lw_all := lw_g (lw_at lw_m11 89 rfl) rfl
theorem q2619 : (Jvm.Cond.code ({ cls := "BatchRenamerModel", name := "isNew", desc := "(I[JI)Z" } : Jvm.MethodName) prog_17_method_76_code (5 : Nat) (Option.some Jvm.ClassFile.FieldType.boolean)) ∈ lw_all := lw_g (lw_at lw_m11 90 rfl) rfl
theorem q2620 : (Jvm.Cond.methodLink "BatchRenamerModel" (353 : Nat) ({ cls := "BatchRenamerModel", name := "isRound", desc := "()Z" } : Jvm.MethodName)) ∈ lw_all := lw_g (lw_at lw_m11 91 rfl) rfl
theorem q2621 : (Jvm.Cond.privateMethod ({ cls := "BatchRenamerModel", name := "isRound", desc := "()Z" } : Jvm.MethodName)) ∈ lw_tbl := lw_at lw_m11 92 rfl
theorem q2622 : (Jvm.Cond.instanceMethod ({ cls := "BatchRenamerModel", name := "isRound", desc := "()Z" } : Jvm.MethodName)) ∈ lw_all := lw_g (lw_at lw_m11 93 rfl) rfl
theorem q2623 : (Jvm.Cond.code ({ cls := "BatchRenamerModel", name := "isRound", desc := "()Z" } : Jvm.MethodName) prog_17_method_80_code (3 : Nat) (Option.some Jvm.ClassFile.FieldType.boolean)) ∈ lw_all := lw_g (lw_at lw_m11 94 rfl) rfl
theorem q2624 : (Jvm.Cond.methodLink "BatchRenamerModel" (335 : Nat) ({ cls := "BatchRenamerModel", name := "statusBehind", desc := "(I)I" } : Jvm.MethodName)) ∈ lw_all := lw_g (lw_at lw_m11 95 rfl) rfl
theorem q2625 : (Jvm.Cond.privateMethod ({ cls := "BatchRenamerModel", name := "statusBehind", desc := "(I)I" } : Jvm.MethodName)) ∈ lw_tbl := lw_at lw_m11 96 rfl
theorem q2626 : (Jvm.Cond.instanceMethod ({ cls := "BatchRenamerModel", name := "statusBehind", desc := "(I)I" } : Jvm.MethodName)) ∈ lw_all := lw_g (lw_at lw_m11 97 rfl) rfl
theorem q2627 : (Jvm.Cond.code ({ cls := "BatchRenamerModel", name := "statusBehind", desc := "(I)I" } : Jvm.MethodName) prog_17_method_79_code (4 : Nat) (Option.some Jvm.ClassFile.FieldType.int)) ∈ lw_all := lw_g (lw_at lw_m11 98 rfl) rfl
theorem q2628 : (Jvm.Cond.methodLink "BatchRenamerModel" (332 : Nat) ({ cls := "BatchRenamerModel", name := "areNewAlike", desc := "(II)Z" } : Jvm.MethodName)) ∈ lw_all := lw_g (lw_at lw_m11 99 rfl) rfl
theorem q2629 : (Jvm.Cond.privateMethod ({ cls := "BatchRenamerModel", name := "areNewAlike", desc := "(II)Z" } : Jvm.MethodName)) ∈ lw_tbl := lw_at lw_m11 100 rfl
theorem q2630 : (Jvm.Cond.instanceMethod ({ cls := "BatchRenamerModel", name := "areNewAlike", desc := "(II)Z" } : Jvm.MethodName)) ∈ lw_all := lw_g (lw_at lw_m11 101 rfl) rfl
theorem q2631 : (Jvm.Cond.code ({ cls := "BatchRenamerModel", name := "areNewAlike", desc := "(II)Z" } : Jvm.MethodName) prog_17_method_77_code (4 : Nat) (Option.some Jvm.ClassFile.FieldType.boolean)) ∈ lw_all := lw_g (lw_at lw_m11 102 rfl) rfl
theorem q2633 : (Jvm.Cond.instanceMethod ({ cls := "BatchRenamerModel", name := "filesOf", desc := "(I)I" } : Jvm.MethodName)) ∈ lw_all := lw_g (lw_at lw_m11 104 rfl) rfl
theorem q2634 : (Jvm.Cond.selects "BatchRenamerModel" ({ cls := "BatchRenamerModel", name := "filesOf", desc := "(I)I" } : Jvm.MethodName) ({ cls := "BatchRenamerModel", name := "filesOf", desc := "(I)I" } : Jvm.MethodName)) ∈ lw_all := lw_g (lw_at lw_m11 105 rfl) rfl
theorem q2635 : (Jvm.Cond.code ({ cls := "BatchRenamerModel", name := "filesOf", desc := "(I)I" } : Jvm.MethodName) prog_17_method_85_code (2 : Nat) (Option.some Jvm.ClassFile.FieldType.int)) ∈ lw_all := lw_g (lw_at lw_m11 106 rfl) rfl
theorem q2636 : (Jvm.Cond.methodLink "BatchRenamerModel" (362 : Nat) ({ cls := "BatchRenamerModel", name := "setWith", desc := "(I)I" } : Jvm.MethodName)) ∈ lw_all := lw_g (lw_at lw_m11 107 rfl) rfl
theorem q2637 : (Jvm.Cond.privateMethod ({ cls := "BatchRenamerModel", name := "setWith", desc := "(I)I" } : Jvm.MethodName)) ∈ lw_tbl := lw_at lw_m11 108 rfl
theorem q2638 : (Jvm.Cond.instanceMethod ({ cls := "BatchRenamerModel", name := "setWith", desc := "(I)I" } : Jvm.MethodName)) ∈ lw_all := lw_g (lw_at lw_m11 109 rfl) rfl
theorem q2639 : (Jvm.Cond.code ({ cls := "BatchRenamerModel", name := "setWith", desc := "(I)I" } : Jvm.MethodName) prog_17_method_84_code (4 : Nat) (Option.some Jvm.ClassFile.FieldType.int)) ∈ lw_all := lw_g (lw_at lw_m11 110 rfl) rfl
theorem q2641 : (Jvm.Cond.instanceMethod ({ cls := "BatchRenamerModel", name := "groups", desc := "(I)I" } : Jvm.MethodName)) ∈ lw_all := lw_g (lw_at lw_m11 112 rfl) rfl
theorem q2642 : (Jvm.Cond.selects "BatchRenamerModel" ({ cls := "BatchRenamerModel", name := "groups", desc := "(I)I" } : Jvm.MethodName) ({ cls := "BatchRenamerModel", name := "groups", desc := "(I)I" } : Jvm.MethodName)) ∈ lw_all := lw_g (lw_at lw_m11 113 rfl) rfl
theorem q2643 : (Jvm.Cond.code ({ cls := "BatchRenamerModel", name := "groups", desc := "(I)I" } : Jvm.MethodName) prog_17_method_86_code (6 : Nat) (Option.some Jvm.ClassFile.FieldType.int)) ∈ lw_all := lw_g (lw_at lw_m11 114 rfl) rfl
theorem q2645 : (Jvm.Cond.instanceMethod ({ cls := "BatchRenamerModel", name := "counter", desc := "(I)I" } : Jvm.MethodName)) ∈ lw_all := lw_g (lw_at lw_m11 116 rfl) rfl
theorem q2646 : (Jvm.Cond.selects "BatchRenamerModel" ({ cls := "BatchRenamerModel", name := "counter", desc := "(I)I" } : Jvm.MethodName) ({ cls := "BatchRenamerModel", name := "counter", desc := "(I)I" } : Jvm.MethodName)) ∈ lw_all := lw_g (lw_at lw_m11 117 rfl) rfl
theorem q2647 : (Jvm.Cond.code ({ cls := "BatchRenamerModel", name := "counter", desc := "(I)I" } : Jvm.MethodName) prog_17_method_87_code (2 : Nat) (Option.some Jvm.ClassFile.FieldType.int)) ∈ lw_all := lw_g (lw_at lw_m11 118 rfl) rfl
theorem q2649 : (Jvm.Cond.instanceMethod ({ cls := "BatchRenamerModel", name := "status", desc := "(I)I" } : Jvm.MethodName)) ∈ lw_all := lw_g (lw_at lw_m11 120 rfl) rfl
theorem q2650 : (Jvm.Cond.selects "BatchRenamerModel" ({ cls := "BatchRenamerModel", name := "status", desc := "(I)I" } : Jvm.MethodName) ({ cls := "BatchRenamerModel", name := "status", desc := "(I)I" } : Jvm.MethodName)) ∈ lw_all := lw_g (lw_at lw_m11 121 rfl) rfl
theorem q2651 : (Jvm.Cond.code ({ cls := "BatchRenamerModel", name := "status", desc := "(I)I" } : Jvm.MethodName) prog_17_method_88_code (2 : Nat) (Option.some Jvm.ClassFile.FieldType.int)) ∈ lw_all := lw_g (lw_at lw_m11 122 rfl) rfl
theorem q2653 : (Jvm.Cond.instanceMethod ({ cls := "BatchRenamerModel", name := "newLength", desc := "(I)I" } : Jvm.MethodName)) ∈ lw_all := lw_g (lw_at lw_m11 124 rfl) rfl
theorem q2654 : (Jvm.Cond.selects "BatchRenamerModel" ({ cls := "BatchRenamerModel", name := "newLength", desc := "(I)I" } : Jvm.MethodName) ({ cls := "BatchRenamerModel", name := "newLength", desc := "(I)I" } : Jvm.MethodName)) ∈ lw_all := lw_g (lw_at lw_m11 125 rfl) rfl
theorem q2655 : (Jvm.Cond.code ({ cls := "BatchRenamerModel", name := "newLength", desc := "(I)I" } : Jvm.MethodName) prog_17_method_89_code (2 : Nat) (Option.some Jvm.ClassFile.FieldType.int)) ∈ lw_all := lw_g (lw_at lw_m11 126 rfl) rfl
theorem q2657 : (Jvm.Cond.instanceMethod ({ cls := "BatchRenamerModel", name := "withStatus", desc := "(I)I" } : Jvm.MethodName)) ∈ lw_all := lw_g (lw_at lw_m11 128 rfl) rfl
theorem q2658 : (Jvm.Cond.selects "BatchRenamerModel" ({ cls := "BatchRenamerModel", name := "withStatus", desc := "(I)I" } : Jvm.MethodName) ({ cls := "BatchRenamerModel", name := "withStatus", desc := "(I)I" } : Jvm.MethodName)) ∈ lw_all := lw_g (lw_at lw_m11 129 rfl) rfl
theorem q2659 : (Jvm.Cond.code ({ cls := "BatchRenamerModel", name := "withStatus", desc := "(I)I" } : Jvm.MethodName) prog_17_method_90_code (4 : Nat) (Option.some Jvm.ClassFile.FieldType.int)) ∈ lw_all := lw_g (lw_at lw_m11 130 rfl) rfl
theorem q2661 : (Jvm.Cond.instanceMethod ({ cls := "BatchRenamerModel", name := "owner", desc := "(I)I" } : Jvm.MethodName)) ∈ lw_all := lw_g (lw_at lw_m11 132 rfl) rfl
theorem q2662 : (Jvm.Cond.selects "BatchRenamerModel" ({ cls := "BatchRenamerModel", name := "owner", desc := "(I)I" } : Jvm.MethodName) ({ cls := "BatchRenamerModel", name := "owner", desc := "(I)I" } : Jvm.MethodName)) ∈ lw_all := lw_g (lw_at lw_m11 133 rfl) rfl
theorem q2663 : (Jvm.Cond.code ({ cls := "BatchRenamerModel", name := "owner", desc := "(I)I" } : Jvm.MethodName) prog_17_method_91_code (3 : Nat) (Option.some Jvm.ClassFile.FieldType.int)) ∈ lw_all := lw_g (lw_at lw_m11 134 rfl) rfl
theorem q2665 : (Jvm.Cond.instanceMethod ({ cls := "BatchRenamerModel", name := "rival", desc := "(I)I" } : Jvm.MethodName)) ∈ lw_all := lw_g (lw_at lw_m11 136 rfl) rfl
theorem q2666 : (Jvm.Cond.selects "BatchRenamerModel" ({ cls := "BatchRenamerModel", name := "rival", desc := "(I)I" } : Jvm.MethodName) ({ cls := "BatchRenamerModel", name := "rival", desc := "(I)I" } : Jvm.MethodName)) ∈ lw_all := lw_g (lw_at lw_m11 137 rfl) rfl
theorem q2667 : (Jvm.Cond.code ({ cls := "BatchRenamerModel", name := "rival", desc := "(I)I" } : Jvm.MethodName) prog_17_method_92_code (3 : Nat) (Option.some Jvm.ClassFile.FieldType.int)) ∈ lw_all := lw_g (lw_at lw_m11 138 rfl) rfl
theorem q2669 : (Jvm.Cond.instanceMethod ({ cls := "BatchRenamerModel", name := "rounds", desc := "()I" } : Jvm.MethodName)) ∈ lw_all := lw_g (lw_at lw_m11 140 rfl) rfl
theorem q2670 : (Jvm.Cond.selects "BatchRenamerModel" ({ cls := "BatchRenamerModel", name := "rounds", desc := "()I" } : Jvm.MethodName) ({ cls := "BatchRenamerModel", name := "rounds", desc := "()I" } : Jvm.MethodName)) ∈ lw_all := lw_g (lw_at lw_m11 141 rfl) rfl
theorem q2671 : (Jvm.Cond.code ({ cls := "BatchRenamerModel", name := "rounds", desc := "()I" } : Jvm.MethodName) prog_17_method_93_code (1 : Nat) (Option.some Jvm.ClassFile.FieldType.int)) ∈ lw_all := lw_g (lw_at lw_m11 142 rfl) rfl
theorem q2673 : (Jvm.Cond.instanceMethod ({ cls := "BatchRenamerModel", name := "steps", desc := "()I" } : Jvm.MethodName)) ∈ lw_all := lw_g (lw_at lw_m11 144 rfl) rfl
theorem q2674 : (Jvm.Cond.selects "BatchRenamerModel" ({ cls := "BatchRenamerModel", name := "steps", desc := "()I" } : Jvm.MethodName) ({ cls := "BatchRenamerModel", name := "steps", desc := "()I" } : Jvm.MethodName)) ∈ lw_all := lw_g (lw_at lw_m11 145 rfl) rfl
theorem q2675 : (Jvm.Cond.code ({ cls := "BatchRenamerModel", name := "steps", desc := "()I" } : Jvm.MethodName) prog_17_method_101_code (1 : Nat) (Option.some Jvm.ClassFile.FieldType.int)) ∈ lw_all := lw_g (lw_at lw_m11 146 rfl) rfl
theorem q2676 : (Jvm.Cond.methodLink "BatchRenamerModel" (389 : Nat) ({ cls := "BatchRenamerModel", name := "laysPlan", desc := "()V" } : Jvm.MethodName)) ∈ lw_all := lw_g (lw_at lw_m11 147 rfl) rfl
theorem q2677 : (Jvm.Cond.privateMethod ({ cls := "BatchRenamerModel", name := "laysPlan", desc := "()V" } : Jvm.MethodName)) ∈ lw_tbl := lw_at lw_m11 148 rfl
theorem q2678 : (Jvm.Cond.instanceMethod ({ cls := "BatchRenamerModel", name := "laysPlan", desc := "()V" } : Jvm.MethodName)) ∈ lw_all := lw_g (lw_at lw_m11 149 rfl) rfl
theorem q2679 : (Jvm.Cond.code ({ cls := "BatchRenamerModel", name := "laysPlan", desc := "()V" } : Jvm.MethodName) prog_17_method_100_code (2 : Nat) (Option.none : Option Jvm.ClassFile.FieldType)) ∈ lw_all := lw_g (lw_at lw_m11 150 rfl) rfl
theorem q2680 : (Jvm.Cond.methodLink "BatchRenamerModel" (378 : Nat) ({ cls := "BatchRenamerModel", name := "nextFile", desc := "(Z)I" } : Jvm.MethodName)) ∈ lw_all := lw_g (lw_at lw_m11 151 rfl) rfl
theorem q2681 : (Jvm.Cond.privateMethod ({ cls := "BatchRenamerModel", name := "nextFile", desc := "(Z)I" } : Jvm.MethodName)) ∈ lw_tbl := lw_at lw_m11 152 rfl
theorem q2682 : (Jvm.Cond.instanceMethod ({ cls := "BatchRenamerModel", name := "nextFile", desc := "(Z)I" } : Jvm.MethodName)) ∈ lw_all := lw_g (lw_at lw_m11 153 rfl) rfl
theorem q2683 : (Jvm.Cond.code ({ cls := "BatchRenamerModel", name := "nextFile", desc := "(Z)I" } : Jvm.MethodName) prog_17_method_98_code (3 : Nat) (Option.some Jvm.ClassFile.FieldType.int)) ∈ lw_all := lw_g (lw_at lw_m11 154 rfl) rfl
theorem q2684 : (Jvm.Cond.methodLink "BatchRenamerModel" (372 : Nat) ({ cls := "BatchRenamerModel", name := "isNewHeld", desc := "(I)Z" } : Jvm.MethodName)) ∈ lw_all := lw_g (lw_at lw_m11 155 rfl) rfl
theorem q2685 : (Jvm.Cond.privateMethod ({ cls := "BatchRenamerModel", name := "isNewHeld", desc := "(I)Z" } : Jvm.MethodName)) ∈ lw_tbl := lw_at lw_m11 156 rfl
theorem q2686 : (Jvm.Cond.instanceMethod ({ cls := "BatchRenamerModel", name := "isNewHeld", desc := "(I)Z" } : Jvm.MethodName)) ∈ lw_all := lw_g (lw_at lw_m11 157 rfl) rfl
theorem q2687 : (Jvm.Cond.code ({ cls := "BatchRenamerModel", name := "isNewHeld", desc := "(I)Z" } : Jvm.MethodName) prog_17_method_95_code (3 : Nat) (Option.some Jvm.ClassFile.FieldType.boolean)) ∈ lw_all := lw_g (lw_at lw_m11 158 rfl) rfl
theorem q2688 : (Jvm.Cond.methodLink "BatchRenamerModel" (382 : Nat) ({ cls := "BatchRenamerModel", name := "goesTo", desc := "(IZ)V" } : Jvm.MethodName)) ∈ lw_all := lw_g (lw_at lw_m11 159 rfl) rfl
theorem q2689 : (Jvm.Cond.privateMethod ({ cls := "BatchRenamerModel", name := "goesTo", desc := "(IZ)V" } : Jvm.MethodName)) ∈ lw_tbl := lw_at lw_m11 160 rfl
theorem q2690 : (Jvm.Cond.instanceMethod ({ cls := "BatchRenamerModel", name := "goesTo", desc := "(IZ)V" } : Jvm.MethodName)) ∈ lw_all := lw_g (lw_at lw_m11 161 rfl) rfl
theorem q2691 : (Jvm.Cond.code ({ cls := "BatchRenamerModel", name := "goesTo", desc := "(IZ)V" } : Jvm.MethodName) prog_17_method_99_code (5 : Nat) (Option.none : Option Jvm.ClassFile.FieldType)) ∈ lw_all := lw_g (lw_at lw_m11 162 rfl) rfl
theorem q2692 : (Jvm.Cond.methodLink "BatchRenamerModel" (386 : Nat) ({ cls := "BatchRenamerModel", name := "makesSpare", desc := "()V" } : Jvm.MethodName)) ∈ lw_all := lw_g (lw_at lw_m11 163 rfl) rfl
theorem q2693 : (Jvm.Cond.privateMethod ({ cls := "BatchRenamerModel", name := "makesSpare", desc := "()V" } : Jvm.MethodName)) ∈ lw_tbl := lw_at lw_m11 164 rfl
theorem q2694 : (Jvm.Cond.instanceMethod ({ cls := "BatchRenamerModel", name := "makesSpare", desc := "()V" } : Jvm.MethodName)) ∈ lw_all := lw_g (lw_at lw_m11 165 rfl) rfl
theorem q2695 : (Jvm.Cond.code ({ cls := "BatchRenamerModel", name := "makesSpare", desc := "()V" } : Jvm.MethodName) prog_17_method_97_code (2 : Nat) (Option.none : Option Jvm.ClassFile.FieldType)) ∈ lw_all := lw_g (lw_at lw_m11 166 rfl) rfl
theorem q2696 : (Jvm.Cond.methodLink "BatchRenamerModel" (365 : Nat) ({ cls := "BatchRenamerModel", name := "isHeld", desc := "([JI)Z" } : Jvm.MethodName)) ∈ lw_all := lw_g (lw_at lw_m11 167 rfl) rfl
theorem q2697 : (Jvm.Cond.privateMethod ({ cls := "BatchRenamerModel", name := "isHeld", desc := "([JI)Z" } : Jvm.MethodName)) ∈ lw_tbl := lw_at lw_m11 168 rfl
theorem q2698 : (Jvm.Cond.instanceMethod ({ cls := "BatchRenamerModel", name := "isHeld", desc := "([JI)Z" } : Jvm.MethodName)) ∈ lw_all := lw_g (lw_at lw_m11 169 rfl) rfl
theorem q2699 : (Jvm.Cond.code ({ cls := "BatchRenamerModel", name := "isHeld", desc := "([JI)Z" } : Jvm.MethodName) prog_17_method_94_code (4 : Nat) (Option.some Jvm.ClassFile.FieldType.boolean)) ∈ lw_all := lw_g (lw_at lw_m11 170 rfl) rfl
theorem q2700 : (Jvm.Cond.methodLink "BatchRenamerModel" (369 : Nat) ({ cls := "BatchRenamerModel", name := "isNewOfAny", desc := "([JI)Z" } : Jvm.MethodName)) ∈ lw_all := lw_g (lw_at lw_m11 171 rfl) rfl
theorem q2701 : (Jvm.Cond.privateMethod ({ cls := "BatchRenamerModel", name := "isNewOfAny", desc := "([JI)Z" } : Jvm.MethodName)) ∈ lw_tbl := lw_at lw_m11 172 rfl
theorem q2702 : (Jvm.Cond.instanceMethod ({ cls := "BatchRenamerModel", name := "isNewOfAny", desc := "([JI)Z" } : Jvm.MethodName)) ∈ lw_all := lw_g (lw_at lw_m11 173 rfl) rfl
theorem q2703 : (Jvm.Cond.code ({ cls := "BatchRenamerModel", name := "isNewOfAny", desc := "([JI)Z" } : Jvm.MethodName) prog_17_method_96_code (4 : Nat) (Option.some Jvm.ClassFile.FieldType.boolean)) ∈ lw_all := lw_g (lw_at lw_m11 174 rfl) rfl
theorem q2705 : (Jvm.Cond.instanceMethod ({ cls := "BatchRenamerModel", name := "step", desc := "(II)I" } : Jvm.MethodName)) ∈ lw_all := lw_g (lw_at lw_m11 176 rfl) rfl
theorem q2706 : (Jvm.Cond.selects "BatchRenamerModel" ({ cls := "BatchRenamerModel", name := "step", desc := "(II)I" } : Jvm.MethodName) ({ cls := "BatchRenamerModel", name := "step", desc := "(II)I" } : Jvm.MethodName)) ∈ lw_all := lw_g (lw_at lw_m11 177 rfl) rfl
theorem q2707 : (Jvm.Cond.code ({ cls := "BatchRenamerModel", name := "step", desc := "(II)I" } : Jvm.MethodName) prog_17_method_102_code (3 : Nat) (Option.some Jvm.ClassFile.FieldType.int)) ∈ lw_all := lw_g (lw_at lw_m11 178 rfl) rfl
theorem q2709 : (Jvm.Cond.instanceMethod ({ cls := "BatchRenamerModel", name := "spares", desc := "()I" } : Jvm.MethodName)) ∈ lw_all := lw_g (lw_at lw_m11 180 rfl) rfl
theorem q2710 : (Jvm.Cond.selects "BatchRenamerModel" ({ cls := "BatchRenamerModel", name := "spares", desc := "()I" } : Jvm.MethodName) ({ cls := "BatchRenamerModel", name := "spares", desc := "()I" } : Jvm.MethodName)) ∈ lw_all := lw_g (lw_at lw_m11 181 rfl) rfl
theorem q2711 : (Jvm.Cond.code ({ cls := "BatchRenamerModel", name := "spares", desc := "()I" } : Jvm.MethodName) prog_17_method_103_code (3 : Nat) (Option.some Jvm.ClassFile.FieldType.int)) ∈ lw_all := lw_g (lw_at lw_m11 182 rfl) rfl
theorem q2713 : (Jvm.Cond.instanceMethod ({ cls := "BatchRenamerModel", name := "longestCycle", desc := "()I" } : Jvm.MethodName)) ∈ lw_all := lw_g (lw_at lw_m11 184 rfl) rfl
theorem q2714 : (Jvm.Cond.selects "BatchRenamerModel" ({ cls := "BatchRenamerModel", name := "longestCycle", desc := "()I" } : Jvm.MethodName) ({ cls := "BatchRenamerModel", name := "longestCycle", desc := "()I" } : Jvm.MethodName)) ∈ lw_all := lw_g (lw_at lw_m11 185 rfl) rfl
theorem q2715 : (Jvm.Cond.code ({ cls := "BatchRenamerModel", name := "longestCycle", desc := "()I" } : Jvm.MethodName) prog_17_method_106_code (4 : Nat) (Option.some Jvm.ClassFile.FieldType.int)) ∈ lw_all := lw_g (lw_at lw_m11 186 rfl) rfl
theorem q2716 : (Jvm.Cond.methodLink "BatchRenamerModel" (395 : Nat) ({ cls := "BatchRenamerModel", name := "cycleOf", desc := "(I)I" } : Jvm.MethodName)) ∈ lw_all := lw_g (lw_at lw_m11 187 rfl) rfl
theorem q2717 : (Jvm.Cond.privateMethod ({ cls := "BatchRenamerModel", name := "cycleOf", desc := "(I)I" } : Jvm.MethodName)) ∈ lw_tbl := lw_at lw_m11 188 rfl
theorem q2718 : (Jvm.Cond.instanceMethod ({ cls := "BatchRenamerModel", name := "cycleOf", desc := "(I)I" } : Jvm.MethodName)) ∈ lw_all := lw_g (lw_at lw_m11 189 rfl) rfl
theorem q2719 : (Jvm.Cond.code ({ cls := "BatchRenamerModel", name := "cycleOf", desc := "(I)I" } : Jvm.MethodName) prog_17_method_105_code (4 : Nat) (Option.some Jvm.ClassFile.FieldType.int)) ∈ lw_all := lw_g (lw_at lw_m11 190 rfl) rfl
theorem q2720 : (Jvm.Cond.methodLink "BatchRenamerModel" (392 : Nat) ({ cls := "BatchRenamerModel", name := "nextOf", desc := "(I)I" } : Jvm.MethodName)) ∈ lw_all := lw_g (lw_at lw_m11 191 rfl) rfl
theorem q2721 : (Jvm.Cond.privateMethod ({ cls := "BatchRenamerModel", name := "nextOf", desc := "(I)I" } : Jvm.MethodName)) ∈ lw_tbl := lw_at lw_m11 192 rfl
theorem q2722 : (Jvm.Cond.instanceMethod ({ cls := "BatchRenamerModel", name := "nextOf", desc := "(I)I" } : Jvm.MethodName)) ∈ lw_all := lw_g (lw_at lw_m11 193 rfl) rfl
theorem q2723 : (Jvm.Cond.code ({ cls := "BatchRenamerModel", name := "nextOf", desc := "(I)I" } : Jvm.MethodName) prog_17_method_104_code (3 : Nat) (Option.some Jvm.ClassFile.FieldType.int)) ∈ lw_all := lw_g (lw_at lw_m11 194 rfl) rfl
theorem q2725 : (Jvm.Cond.instanceMethod ({ cls := "BatchRenamerModel", name := "performed", desc := "()I" } : Jvm.MethodName)) ∈ lw_all := lw_g (lw_at lw_m11 196 rfl) rfl
theorem q2726 : (Jvm.Cond.selects "BatchRenamerModel" ({ cls := "BatchRenamerModel", name := "performed", desc := "()I" } : Jvm.MethodName) ({ cls := "BatchRenamerModel", name := "performed", desc := "()I" } : Jvm.MethodName)) ∈ lw_all := lw_g (lw_at lw_m11 197 rfl) rfl
theorem q2727 : (Jvm.Cond.code ({ cls := "BatchRenamerModel", name := "performed", desc := "()I" } : Jvm.MethodName) prog_17_method_107_code (1 : Nat) (Option.some Jvm.ClassFile.FieldType.int)) ∈ lw_all := lw_g (lw_at lw_m11 198 rfl) rfl
theorem q2729 : (Jvm.Cond.instanceMethod ({ cls := "BatchRenamerModel", name := "renamedWithout", desc := "(I)I" } : Jvm.MethodName)) ∈ lw_all := lw_g (lw_at lw_m11 200 rfl) rfl
theorem q2730 : (Jvm.Cond.selects "BatchRenamerModel" ({ cls := "BatchRenamerModel", name := "renamedWithout", desc := "(I)I" } : Jvm.MethodName) ({ cls := "BatchRenamerModel", name := "renamedWithout", desc := "(I)I" } : Jvm.MethodName)) ∈ lw_all := lw_g (lw_at lw_m11 201 rfl) rfl
theorem q2731 : (Jvm.Cond.code ({ cls := "BatchRenamerModel", name := "renamedWithout", desc := "(I)I" } : Jvm.MethodName) prog_17_method_114_code (2 : Nat) (Option.some Jvm.ClassFile.FieldType.int)) ∈ lw_all := lw_g (lw_at lw_m11 202 rfl) rfl
theorem q2732 : (Jvm.Cond.methodLink "BatchRenamerModel" (405 : Nat) ({ cls := "BatchRenamerModel", name := "beginTrial", desc := "()V" } : Jvm.MethodName)) ∈ lw_all := lw_g (lw_at lw_m11 203 rfl) rfl
theorem q2733 : (Jvm.Cond.privateMethod ({ cls := "BatchRenamerModel", name := "beginTrial", desc := "()V" } : Jvm.MethodName)) ∈ lw_tbl := lw_at lw_m11 204 rfl
theorem q2734 : (Jvm.Cond.instanceMethod ({ cls := "BatchRenamerModel", name := "beginTrial", desc := "()V" } : Jvm.MethodName)) ∈ lw_all := lw_g (lw_at lw_m11 205 rfl) rfl
theorem q2735 : (Jvm.Cond.code ({ cls := "BatchRenamerModel", name := "beginTrial", desc := "()V" } : Jvm.MethodName) prog_17_method_109_code (1 : Nat) (Option.none : Option Jvm.ClassFile.FieldType)) ∈ lw_all := lw_g (lw_at lw_m11 206 rfl) rfl
theorem q2736 : (Jvm.Cond.methodLink "BatchRenamerModel" (408 : Nat) ({ cls := "BatchRenamerModel", name := "removesRule", desc := "(I)V" } : Jvm.MethodName)) ∈ lw_all := lw_g (lw_at lw_m11 207 rfl) rfl
theorem q2737 : (Jvm.Cond.privateMethod ({ cls := "BatchRenamerModel", name := "removesRule", desc := "(I)V" } : Jvm.MethodName)) ∈ lw_tbl := lw_at lw_m11 208 rfl
theorem q2738 : (Jvm.Cond.instanceMethod ({ cls := "BatchRenamerModel", name := "removesRule", desc := "(I)V" } : Jvm.MethodName)) ∈ lw_all := lw_g (lw_at lw_m11 209 rfl) rfl
theorem q2739 : (Jvm.Cond.code ({ cls := "BatchRenamerModel", name := "removesRule", desc := "(I)V" } : Jvm.MethodName) prog_17_method_113_code (2 : Nat) (Option.none : Option Jvm.ClassFile.FieldType)) ∈ lw_all := lw_g (lw_at lw_m11 210 rfl) rfl
theorem q2740 : (Jvm.Cond.methodLink "BatchRenamerModel" (401 : Nat) ({ cls := "BatchRenamerModel", name := "moves", desc := "(IIII)V" } : Jvm.MethodName)) ∈ lw_all := lw_g (lw_at lw_m11 211 rfl) rfl
theorem q2741 : (Jvm.Cond.privateMethod ({ cls := "BatchRenamerModel", name := "moves", desc := "(IIII)V" } : Jvm.MethodName)) ∈ lw_tbl := lw_at lw_m11 212 rfl
theorem q2742 : (Jvm.Cond.instanceMethod ({ cls := "BatchRenamerModel", name := "moves", desc := "(IIII)V" } : Jvm.MethodName)) ∈ lw_all := lw_g (lw_at lw_m11 213 rfl) rfl
theorem q2743 : (Jvm.Cond.code ({ cls := "BatchRenamerModel", name := "moves", desc := "(IIII)V" } : Jvm.MethodName) prog_17_method_112_code (10 : Nat) (Option.none : Option Jvm.ClassFile.FieldType)) ∈ lw_all := lw_g (lw_at lw_m11 214 rfl) rfl
theorem q2744 : (Jvm.Cond.methodLink "BatchRenamerModel" (411 : Nat) ({ cls := "BatchRenamerModel", name := "endTrial", desc := "()I" } : Jvm.MethodName)) ∈ lw_all := lw_g (lw_at lw_m11 215 rfl) rfl
theorem q2745 : (Jvm.Cond.privateMethod ({ cls := "BatchRenamerModel", name := "endTrial", desc := "()I" } : Jvm.MethodName)) ∈ lw_tbl := lw_at lw_m11 216 rfl
theorem q2746 : (Jvm.Cond.instanceMethod ({ cls := "BatchRenamerModel", name := "endTrial", desc := "()I" } : Jvm.MethodName)) ∈ lw_all := lw_g (lw_at lw_m11 217 rfl) rfl
theorem q2747 : (Jvm.Cond.code ({ cls := "BatchRenamerModel", name := "endTrial", desc := "()I" } : Jvm.MethodName) prog_17_method_111_code (2 : Nat) (Option.some Jvm.ClassFile.FieldType.int)) ∈ lw_all := lw_g (lw_at lw_m11 218 rfl) rfl
theorem q2748 : (Jvm.Cond.methodLink "BatchRenamerModel" (398 : Nat) ({ cls := "BatchRenamerModel", name := "renamed", desc := "()I" } : Jvm.MethodName)) ∈ lw_all := lw_g (lw_at lw_m11 219 rfl) rfl
theorem q2749 : (Jvm.Cond.privateMethod ({ cls := "BatchRenamerModel", name := "renamed", desc := "()I" } : Jvm.MethodName)) ∈ lw_tbl := lw_at lw_m11 220 rfl
theorem q2750 : (Jvm.Cond.instanceMethod ({ cls := "BatchRenamerModel", name := "renamed", desc := "()I" } : Jvm.MethodName)) ∈ lw_all := lw_g (lw_at lw_m11 221 rfl) rfl
theorem q2751 : (Jvm.Cond.code ({ cls := "BatchRenamerModel", name := "renamed", desc := "()I" } : Jvm.MethodName) prog_17_method_110_code (3 : Nat) (Option.some Jvm.ClassFile.FieldType.int)) ∈ lw_all := lw_g (lw_at lw_m11 222 rfl) rfl
theorem q2753 : (Jvm.Cond.instanceMethod ({ cls := "BatchRenamerModel", name := "bestStart", desc := "(I)I" } : Jvm.MethodName)) ∈ lw_all := lw_g (lw_at lw_m11 224 rfl) rfl
theorem q2754 : (Jvm.Cond.selects "BatchRenamerModel" ({ cls := "BatchRenamerModel", name := "bestStart", desc := "(I)I" } : Jvm.MethodName) ({ cls := "BatchRenamerModel", name := "bestStart", desc := "(I)I" } : Jvm.MethodName)) ∈ lw_all := lw_g (lw_at lw_m11 225 rfl) rfl
theorem q2755 : (Jvm.Cond.code ({ cls := "BatchRenamerModel", name := "bestStart", desc := "(I)I" } : Jvm.MethodName) prog_17_method_115_code (6 : Nat) (Option.some Jvm.ClassFile.FieldType.int)) ∈ lw_all := lw_g (lw_at lw_m11 226 rfl) rfl
theorem q2757 : (Jvm.Cond.instanceMethod ({ cls := "BatchRenamerModel", name := "bestPlace", desc := "(I)I" } : Jvm.MethodName)) ∈ lw_all := lw_g (lw_at lw_m11 228 rfl) rfl
theorem q2758 : (Jvm.Cond.selects "BatchRenamerModel" ({ cls := "BatchRenamerModel", name := "bestPlace", desc := "(I)I" } : Jvm.MethodName) ({ cls := "BatchRenamerModel", name := "bestPlace", desc := "(I)I" } : Jvm.MethodName)) ∈ lw_all := lw_g (lw_at lw_m11 229 rfl) rfl
theorem q2759 : (Jvm.Cond.code ({ cls := "BatchRenamerModel", name := "bestPlace", desc := "(I)I" } : Jvm.MethodName) prog_17_method_116_code (6 : Nat) (Option.some Jvm.ClassFile.FieldType.int)) ∈ lw_all := lw_g (lw_at lw_m11 230 rfl) rfl
theorem q2761 : (Jvm.Cond.instanceMethod ({ cls := "BatchRenamerModel", name := "stepsAgain", desc := "()I" } : Jvm.MethodName)) ∈ lw_all := lw_g (lw_at lw_m11 232 rfl) rfl
theorem q2762 : (Jvm.Cond.selects "BatchRenamerModel" ({ cls := "BatchRenamerModel", name := "stepsAgain", desc := "()I" } : Jvm.MethodName) ({ cls := "BatchRenamerModel", name := "stepsAgain", desc := "()I" } : Jvm.MethodName)) ∈ lw_all := lw_g (lw_at lw_m11 233 rfl) rfl
theorem q2763 : (Jvm.Cond.code ({ cls := "BatchRenamerModel", name := "stepsAgain", desc := "()I" } : Jvm.MethodName) prog_17_method_118_code (1 : Nat) (Option.some Jvm.ClassFile.FieldType.int)) ∈ lw_all := lw_g (lw_at lw_m11 234 rfl) rfl
theorem q2764 : (Jvm.Cond.methodLink "BatchRenamerModel" (414 : Nat) ({ cls := "BatchRenamerModel", name := "takesWorking", desc := "()V" } : Jvm.MethodName)) ∈ lw_all := lw_g (lw_at lw_m11 235 rfl) rfl
theorem q2765 : (Jvm.Cond.privateMethod ({ cls := "BatchRenamerModel", name := "takesWorking", desc := "()V" } : Jvm.MethodName)) ∈ lw_tbl := lw_at lw_m11 236 rfl
theorem q2766 : (Jvm.Cond.instanceMethod ({ cls := "BatchRenamerModel", name := "takesWorking", desc := "()V" } : Jvm.MethodName)) ∈ lw_all := lw_g (lw_at lw_m11 237 rfl) rfl
theorem q2767 : (Jvm.Cond.code ({ cls := "BatchRenamerModel", name := "takesWorking", desc := "()V" } : Jvm.MethodName) prog_17_method_117_code (2 : Nat) (Option.none : Option Jvm.ClassFile.FieldType)) ∈ lw_all := lw_g (lw_at lw_m11 238 rfl) rfl
theorem q2769 : (Jvm.Cond.instanceMethod ({ cls := "BatchRenamerModel", name := "meanLength", desc := "()D" } : Jvm.MethodName)) ∈ lw_all := lw_g (lw_at lw_m12 0 rfl) rfl
theorem q2770 : (Jvm.Cond.selects "BatchRenamerModel" ({ cls := "BatchRenamerModel", name := "meanLength", desc := "()D" } : Jvm.MethodName) ({ cls := "BatchRenamerModel", name := "meanLength", desc := "()D" } : Jvm.MethodName)) ∈ lw_all := lw_g (lw_at lw_m12 1 rfl) rfl
theorem q2771 : (Jvm.Cond.code ({ cls := "BatchRenamerModel", name := "meanLength", desc := "()D" } : Jvm.MethodName) prog_17_method_119_code (3 : Nat) (Option.some Jvm.ClassFile.FieldType.double)) ∈ lw_all := lw_g (lw_at lw_m12 2 rfl) rfl
theorem q2773 : (Jvm.Cond.instanceMethod ({ cls := "BatchRenamerModel", name := "undo", desc := "()I" } : Jvm.MethodName)) ∈ lw_all := lw_g (lw_at lw_m12 4 rfl) rfl
theorem q2774 : (Jvm.Cond.selects "BatchRenamerModel" ({ cls := "BatchRenamerModel", name := "undo", desc := "()I" } : Jvm.MethodName) ({ cls := "BatchRenamerModel", name := "undo", desc := "()I" } : Jvm.MethodName)) ∈ lw_all := lw_g (lw_at lw_m12 5 rfl) rfl
theorem q2775 : (Jvm.Cond.code ({ cls := "BatchRenamerModel", name := "undo", desc := "()I" } : Jvm.MethodName) prog_17_method_122_code (1 : Nat) (Option.some Jvm.ClassFile.FieldType.int)) ∈ lw_all := lw_g (lw_at lw_m12 6 rfl) rfl
theorem q2776 : (Jvm.Cond.methodLink "BatchRenamerModel" (417 : Nat) ({ cls := "BatchRenamerModel", name := "slot", desc := "(I)I" } : Jvm.MethodName)) ∈ lw_all := lw_g (lw_at lw_m12 7 rfl) rfl
theorem q2777 : (Jvm.Cond.privateMethod ({ cls := "BatchRenamerModel", name := "slot", desc := "(I)I" } : Jvm.MethodName)) ∈ lw_tbl := lw_at lw_m12 8 rfl
theorem q2778 : (Jvm.Cond.instanceMethod ({ cls := "BatchRenamerModel", name := "slot", desc := "(I)I" } : Jvm.MethodName)) ∈ lw_all := lw_g (lw_at lw_m12 9 rfl) rfl
theorem q2779 : (Jvm.Cond.code ({ cls := "BatchRenamerModel", name := "slot", desc := "(I)I" } : Jvm.MethodName) prog_17_method_120_code (2 : Nat) (Option.some Jvm.ClassFile.FieldType.int)) ∈ lw_all := lw_g (lw_at lw_m12 10 rfl) rfl
theorem q2781 : (Jvm.Cond.instanceMethod ({ cls := "BatchRenamerModel", name := "perform", desc := "()I" } : Jvm.MethodName)) ∈ lw_all := lw_g (lw_at lw_m12 12 rfl) rfl
theorem q2782 : (Jvm.Cond.selects "BatchRenamerModel" ({ cls := "BatchRenamerModel", name := "perform", desc := "()I" } : Jvm.MethodName) ({ cls := "BatchRenamerModel", name := "perform", desc := "()I" } : Jvm.MethodName)) ∈ lw_all := lw_g (lw_at lw_m12 13 rfl) rfl
theorem q2783 : (Jvm.Cond.code ({ cls := "BatchRenamerModel", name := "perform", desc := "()I" } : Jvm.MethodName) prog_17_method_126_code (1 : Nat) (Option.some Jvm.ClassFile.FieldType.int)) ∈ lw_all := lw_g (lw_at lw_m12 14 rfl) rfl
theorem q2784 : (Jvm.Cond.methodLink "BatchRenamerModel" (428 : Nat) ({ cls := "BatchRenamerModel", name := "records", desc := "()V" } : Jvm.MethodName)) ∈ lw_all := lw_g (lw_at lw_m12 15 rfl) rfl
theorem q2785 : (Jvm.Cond.privateMethod ({ cls := "BatchRenamerModel", name := "records", desc := "()V" } : Jvm.MethodName)) ∈ lw_tbl := lw_at lw_m12 16 rfl
theorem q2786 : (Jvm.Cond.instanceMethod ({ cls := "BatchRenamerModel", name := "records", desc := "()V" } : Jvm.MethodName)) ∈ lw_all := lw_g (lw_at lw_m12 17 rfl) rfl
theorem q2787 : (Jvm.Cond.code ({ cls := "BatchRenamerModel", name := "records", desc := "()V" } : Jvm.MethodName) prog_17_method_121_code (1 : Nat) (Option.none : Option Jvm.ClassFile.FieldType)) ∈ lw_all := lw_g (lw_at lw_m12 18 rfl) rfl
theorem q2788 : (Jvm.Cond.methodLink "BatchRenamerModel" (431 : Nat) ({ cls := "BatchRenamerModel", name := "remembers", desc := "()V" } : Jvm.MethodName)) ∈ lw_all := lw_g (lw_at lw_m12 19 rfl) rfl
theorem q2789 : (Jvm.Cond.privateMethod ({ cls := "BatchRenamerModel", name := "remembers", desc := "()V" } : Jvm.MethodName)) ∈ lw_tbl := lw_at lw_m12 20 rfl
theorem q2790 : (Jvm.Cond.instanceMethod ({ cls := "BatchRenamerModel", name := "remembers", desc := "()V" } : Jvm.MethodName)) ∈ lw_all := lw_g (lw_at lw_m12 21 rfl) rfl
theorem q2791 : (Jvm.Cond.code ({ cls := "BatchRenamerModel", name := "remembers", desc := "()V" } : Jvm.MethodName) prog_17_method_125_code (3 : Nat) (Option.none : Option Jvm.ClassFile.FieldType)) ∈ lw_all := lw_g (lw_at lw_m12 22 rfl) rfl
theorem q2792 : (Jvm.Cond.constantLong "BatchRenamerModel" (423 : Nat) (4 : Int64)) ∈ lw_all := lw_g (lw_at lw_m12 23 rfl) rfl
theorem q2793 : (Jvm.Cond.methodLink "BatchRenamerModel" (420 : Nat) ({ cls := "BatchRenamerModel", name := "planAt", desc := "(I)I" } : Jvm.MethodName)) ∈ lw_all := lw_g (lw_at lw_m12 24 rfl) rfl
theorem q2794 : (Jvm.Cond.privateMethod ({ cls := "BatchRenamerModel", name := "planAt", desc := "(I)I" } : Jvm.MethodName)) ∈ lw_tbl := lw_at lw_m12 25 rfl
theorem q2795 : (Jvm.Cond.instanceMethod ({ cls := "BatchRenamerModel", name := "planAt", desc := "(I)I" } : Jvm.MethodName)) ∈ lw_all := lw_g (lw_at lw_m12 26 rfl) rfl
theorem q2796 : (Jvm.Cond.code ({ cls := "BatchRenamerModel", name := "planAt", desc := "(I)I" } : Jvm.MethodName) prog_17_method_123_code (2 : Nat) (Option.some Jvm.ClassFile.FieldType.int)) ∈ lw_all := lw_g (lw_at lw_m12 27 rfl) rfl
theorem q2797 : (Jvm.Cond.methodLink "BatchRenamerModel" (425 : Nat) ({ cls := "BatchRenamerModel", name := "stepAt", desc := "(II)I" } : Jvm.MethodName)) ∈ lw_all := lw_g (lw_at lw_m12 28 rfl) rfl
theorem q2798 : (Jvm.Cond.privateMethod ({ cls := "BatchRenamerModel", name := "stepAt", desc := "(II)I" } : Jvm.MethodName)) ∈ lw_tbl := lw_at lw_m12 29 rfl
theorem q2799 : (Jvm.Cond.instanceMethod ({ cls := "BatchRenamerModel", name := "stepAt", desc := "(II)I" } : Jvm.MethodName)) ∈ lw_all := lw_g (lw_at lw_m12 30 rfl) rfl
theorem q2800 : (Jvm.Cond.code ({ cls := "BatchRenamerModel", name := "stepAt", desc := "(II)I" } : Jvm.MethodName) prog_17_method_124_code (3 : Nat) (Option.some Jvm.ClassFile.FieldType.int)) ∈ lw_all := lw_g (lw_at lw_m12 31 rfl) rfl
theorem q2802 : (Jvm.Cond.instanceMethod ({ cls := "BatchRenamerModel", name := "takeBack", desc := "()I" } : Jvm.MethodName)) ∈ lw_all := lw_g (lw_at lw_m12 33 rfl) rfl
theorem q2803 : (Jvm.Cond.selects "BatchRenamerModel" ({ cls := "BatchRenamerModel", name := "takeBack", desc := "()I" } : Jvm.MethodName) ({ cls := "BatchRenamerModel", name := "takeBack", desc := "()I" } : Jvm.MethodName)) ∈ lw_all := lw_g (lw_at lw_m12 34 rfl) rfl
theorem q2804 : (Jvm.Cond.code ({ cls := "BatchRenamerModel", name := "takeBack", desc := "()I" } : Jvm.MethodName) prog_17_method_130_code (2 : Nat) (Option.some Jvm.ClassFile.FieldType.int)) ∈ lw_all := lw_g (lw_at lw_m12 35 rfl) rfl
theorem q2805 : (Jvm.Cond.methodLink "BatchRenamerModel" (437 : Nat) ({ cls := "BatchRenamerModel", name := "areThere", desc := "(I)Z" } : Jvm.MethodName)) ∈ lw_all := lw_g (lw_at lw_m12 36 rfl) rfl
theorem q2806 : (Jvm.Cond.privateMethod ({ cls := "BatchRenamerModel", name := "areThere", desc := "(I)Z" } : Jvm.MethodName)) ∈ lw_tbl := lw_at lw_m12 37 rfl
theorem q2807 : (Jvm.Cond.instanceMethod ({ cls := "BatchRenamerModel", name := "areThere", desc := "(I)Z" } : Jvm.MethodName)) ∈ lw_all := lw_g (lw_at lw_m12 38 rfl) rfl
theorem q2808 : (Jvm.Cond.code ({ cls := "BatchRenamerModel", name := "areThere", desc := "(I)Z" } : Jvm.MethodName) prog_17_method_128_code (4 : Nat) (Option.some Jvm.ClassFile.FieldType.boolean)) ∈ lw_all := lw_g (lw_at lw_m12 39 rfl) rfl
theorem q2809 : (Jvm.Cond.methodLink "BatchRenamerModel" (434 : Nat) ({ cls := "BatchRenamerModel", name := "isLast", desc := "(II)Z" } : Jvm.MethodName)) ∈ lw_all := lw_g (lw_at lw_m12 40 rfl) rfl
theorem q2810 : (Jvm.Cond.privateMethod ({ cls := "BatchRenamerModel", name := "isLast", desc := "(II)Z" } : Jvm.MethodName)) ∈ lw_tbl := lw_at lw_m12 41 rfl
theorem q2811 : (Jvm.Cond.instanceMethod ({ cls := "BatchRenamerModel", name := "isLast", desc := "(II)Z" } : Jvm.MethodName)) ∈ lw_all := lw_g (lw_at lw_m12 42 rfl) rfl
theorem q2812 : (Jvm.Cond.code ({ cls := "BatchRenamerModel", name := "isLast", desc := "(II)Z" } : Jvm.MethodName) prog_17_method_127_code (4 : Nat) (Option.some Jvm.ClassFile.FieldType.boolean)) ∈ lw_all := lw_g (lw_at lw_m12 43 rfl) rfl
theorem q2813 : (Jvm.Cond.methodLink "BatchRenamerModel" (440 : Nat) ({ cls := "BatchRenamerModel", name := "goesBack", desc := "(I)Z" } : Jvm.MethodName)) ∈ lw_all := lw_g (lw_at lw_m12 44 rfl) rfl
theorem q2814 : (Jvm.Cond.privateMethod ({ cls := "BatchRenamerModel", name := "goesBack", desc := "(I)Z" } : Jvm.MethodName)) ∈ lw_tbl := lw_at lw_m12 45 rfl
theorem q2815 : (Jvm.Cond.instanceMethod ({ cls := "BatchRenamerModel", name := "goesBack", desc := "(I)Z" } : Jvm.MethodName)) ∈ lw_all := lw_g (lw_at lw_m12 46 rfl) rfl
theorem q2816 : (Jvm.Cond.code ({ cls := "BatchRenamerModel", name := "goesBack", desc := "(I)Z" } : Jvm.MethodName) prog_17_method_129_code (4 : Nat) (Option.some Jvm.ClassFile.FieldType.boolean)) ∈ lw_all := lw_g (lw_at lw_m12 47 rfl) rfl
theorem q2818 : (Jvm.Cond.instanceMethod ({ cls := "BatchRenamerModel", name := "addFile", desc := "()I" } : Jvm.MethodName)) ∈ lw_all := lw_g (lw_at lw_m12 49 rfl) rfl
theorem q2819 : (Jvm.Cond.selects "BatchRenamerModel" ({ cls := "BatchRenamerModel", name := "addFile", desc := "()I" } : Jvm.MethodName) ({ cls := "BatchRenamerModel", name := "addFile", desc := "()I" } : Jvm.MethodName)) ∈ lw_all := lw_g (lw_at lw_m12 50 rfl) rfl
theorem q2820 : (Jvm.Cond.code ({ cls := "BatchRenamerModel", name := "addFile", desc := "()I" } : Jvm.MethodName) prog_17_method_132_code (1 : Nat) (Option.some Jvm.ClassFile.FieldType.int)) ∈ lw_all := lw_g (lw_at lw_m12 51 rfl) rfl
theorem q2821 : (Jvm.Cond.methodLink "BatchRenamerModel" (443 : Nat) ({ cls := "BatchRenamerModel", name := "isTypedName", desc := "()Z" } : Jvm.MethodName)) ∈ lw_all := lw_g (lw_at lw_m12 52 rfl) rfl
theorem q2822 : (Jvm.Cond.privateMethod ({ cls := "BatchRenamerModel", name := "isTypedName", desc := "()Z" } : Jvm.MethodName)) ∈ lw_tbl := lw_at lw_m12 53 rfl
theorem q2823 : (Jvm.Cond.instanceMethod ({ cls := "BatchRenamerModel", name := "isTypedName", desc := "()Z" } : Jvm.MethodName)) ∈ lw_all := lw_g (lw_at lw_m12 54 rfl) rfl
theorem q2824 : (Jvm.Cond.code ({ cls := "BatchRenamerModel", name := "isTypedName", desc := "()Z" } : Jvm.MethodName) prog_17_method_131_code (1 : Nat) (Option.some Jvm.ClassFile.FieldType.boolean)) ∈ lw_all := lw_g (lw_at lw_m12 55 rfl) rfl
theorem q2826 : (Jvm.Cond.instanceMethod ({ cls := "BatchRenamerModel", name := "removeFile", desc := "(I)I" } : Jvm.MethodName)) ∈ lw_all := lw_g (lw_at lw_m12 57 rfl) rfl
theorem q2827 : (Jvm.Cond.selects "BatchRenamerModel" ({ cls := "BatchRenamerModel", name := "removeFile", desc := "(I)I" } : Jvm.MethodName) ({ cls := "BatchRenamerModel", name := "removeFile", desc := "(I)I" } : Jvm.MethodName)) ∈ lw_all := lw_g (lw_at lw_m12 58 rfl) rfl
theorem q2828 : (Jvm.Cond.code ({ cls := "BatchRenamerModel", name := "removeFile", desc := "(I)I" } : Jvm.MethodName) prog_17_method_133_code (2 : Nat) (Option.some Jvm.ClassFile.FieldType.int)) ∈ lw_all := lw_g (lw_at lw_m12 59 rfl) rfl
theorem q2830 : (Jvm.Cond.instanceMethod ({ cls := "BatchRenamerModel", name := "moveFile", desc := "(II)I" } : Jvm.MethodName)) ∈ lw_all := lw_g (lw_at lw_m12 61 rfl) rfl
theorem q2831 : (Jvm.Cond.selects "BatchRenamerModel" ({ cls := "BatchRenamerModel", name := "moveFile", desc := "(II)I" } : Jvm.MethodName) ({ cls := "BatchRenamerModel", name := "moveFile", desc := "(II)I" } : Jvm.MethodName)) ∈ lw_all := lw_g (lw_at lw_m12 62 rfl) rfl
theorem q2832 : (Jvm.Cond.code ({ cls := "BatchRenamerModel", name := "moveFile", desc := "(II)I" } : Jvm.MethodName) prog_17_method_134_code (3 : Nat) (Option.some Jvm.ClassFile.FieldType.int)) ∈ lw_all := lw_g (lw_at lw_m12 63 rfl) rfl
theorem q2834 : (Jvm.Cond.instanceMethod ({ cls := "BatchRenamerModel", name := "rename", desc := "(I)I" } : Jvm.MethodName)) ∈ lw_all := lw_g (lw_at lw_m12 65 rfl) rfl
theorem q2835 : (Jvm.Cond.selects "BatchRenamerModel" ({ cls := "BatchRenamerModel", name := "rename", desc := "(I)I" } : Jvm.MethodName) ({ cls := "BatchRenamerModel", name := "rename", desc := "(I)I" } : Jvm.MethodName)) ∈ lw_all := lw_g (lw_at lw_m12 66 rfl) rfl
theorem q2836 : (Jvm.Cond.code ({ cls := "BatchRenamerModel", name := "rename", desc := "(I)I" } : Jvm.MethodName) prog_17_method_135_code (4 : Nat) (Option.some Jvm.ClassFile.FieldType.int)) ∈ lw_all := lw_g (lw_at lw_m12 67 rfl) rfl
theorem q2838 : (Jvm.Cond.instanceMethod ({ cls := "BatchRenamerModel", name := "keep", desc := "(IZ)Z" } : Jvm.MethodName)) ∈ lw_all := lw_g (lw_at lw_m12 69 rfl) rfl
theorem q2839 : (Jvm.Cond.selects "BatchRenamerModel" ({ cls := "BatchRenamerModel", name := "keep", desc := "(IZ)Z" } : Jvm.MethodName) ({ cls := "BatchRenamerModel", name := "keep", desc := "(IZ)Z" } : Jvm.MethodName)) ∈ lw_all := lw_g (lw_at lw_m12 70 rfl) rfl
theorem q2840 : (Jvm.Cond.code ({ cls := "BatchRenamerModel", name := "keep", desc := "(IZ)Z" } : Jvm.MethodName) prog_17_method_136_code (4 : Nat) (Option.some Jvm.ClassFile.FieldType.boolean)) ∈ lw_all := lw_g (lw_at lw_m12 71 rfl) rfl
theorem q2842 : (Jvm.Cond.instanceMethod ({ cls := "BatchRenamerModel", name := "addRule", desc := "()I" } : Jvm.MethodName)) ∈ lw_all := lw_g (lw_at lw_m12 73 rfl) rfl
theorem q2843 : (Jvm.Cond.selects "BatchRenamerModel" ({ cls := "BatchRenamerModel", name := "addRule", desc := "()I" } : Jvm.MethodName) ({ cls := "BatchRenamerModel", name := "addRule", desc := "()I" } : Jvm.MethodName)) ∈ lw_all := lw_g (lw_at lw_m12 74 rfl) rfl
theorem q2844 : (Jvm.Cond.code ({ cls := "BatchRenamerModel", name := "addRule", desc := "()I" } : Jvm.MethodName) prog_17_method_137_code (2 : Nat) (Option.some Jvm.ClassFile.FieldType.int)) ∈ lw_all := lw_g (lw_at lw_m12 75 rfl) rfl
theorem q2845 : (Jvm.Cond.constantLong "BatchRenamerModel" (446 : Nat) (7 : Int64)) ∈ lw_all := lw_g (lw_at lw_m12 76 rfl) rfl
theorem q2847 : (Jvm.Cond.instanceMethod ({ cls := "BatchRenamerModel", name := "removeRule", desc := "(I)I" } : Jvm.MethodName)) ∈ lw_all := lw_g (lw_at lw_m12 78 rfl) rfl
theorem q2848 : (Jvm.Cond.selects "BatchRenamerModel" ({ cls := "BatchRenamerModel", name := "removeRule", desc := "(I)I" } : Jvm.MethodName) ({ cls := "BatchRenamerModel", name := "removeRule", desc := "(I)I" } : Jvm.MethodName)) ∈ lw_all := lw_g (lw_at lw_m12 79 rfl) rfl
theorem q2849 : (Jvm.Cond.code ({ cls := "BatchRenamerModel", name := "removeRule", desc := "(I)I" } : Jvm.MethodName) prog_17_method_138_code (2 : Nat) (Option.some Jvm.ClassFile.FieldType.int)) ∈ lw_all := lw_g (lw_at lw_m12 80 rfl) rfl
theorem q2851 : (Jvm.Cond.instanceMethod ({ cls := "BatchRenamerModel", name := "moveRule", desc := "(II)I" } : Jvm.MethodName)) ∈ lw_all := lw_g (lw_at lw_m12 82 rfl) rfl
theorem q2852 : (Jvm.Cond.selects "BatchRenamerModel" ({ cls := "BatchRenamerModel", name := "moveRule", desc := "(II)I" } : Jvm.MethodName) ({ cls := "BatchRenamerModel", name := "moveRule", desc := "(II)I" } : Jvm.MethodName)) ∈ lw_all := lw_g (lw_at lw_m12 83 rfl) rfl
theorem q2853 : (Jvm.Cond.code ({ cls := "BatchRenamerModel", name := "moveRule", desc := "(II)I" } : Jvm.MethodName) prog_17_method_139_code (5 : Nat) (Option.some Jvm.ClassFile.FieldType.int)) ∈ lw_all := lw_g (lw_at lw_m12 84 rfl) rfl
theorem q2855 : (Jvm.Cond.instanceMethod ({ cls := "BatchRenamerModel", name := "setCount", desc := "(III)I" } : Jvm.MethodName)) ∈ lw_all := lw_g (lw_at lw_m12 86 rfl) rfl
theorem q2856 : (Jvm.Cond.selects "BatchRenamerModel" ({ cls := "BatchRenamerModel", name := "setCount", desc := "(III)I" } : Jvm.MethodName) ({ cls := "BatchRenamerModel", name := "setCount", desc := "(III)I" } : Jvm.MethodName)) ∈ lw_all := lw_g (lw_at lw_m12 87 rfl) rfl
theorem q2857 : (Jvm.Cond.code ({ cls := "BatchRenamerModel", name := "setCount", desc := "(III)I" } : Jvm.MethodName) prog_17_method_140_code (4 : Nat) (Option.some Jvm.ClassFile.FieldType.int)) ∈ lw_all := lw_g (lw_at lw_m12 88 rfl) rfl
theorem q2859 : (Jvm.Cond.instanceMethod ({ cls := "BatchRenamerModel", name := "formatName", desc := "(I)I" } : Jvm.MethodName)) ∈ lw_all := lw_g (lw_at lw_m12 90 rfl) rfl
theorem q2860 : (Jvm.Cond.selects "BatchRenamerModel" ({ cls := "BatchRenamerModel", name := "formatName", desc := "(I)I" } : Jvm.MethodName) ({ cls := "BatchRenamerModel", name := "formatName", desc := "(I)I" } : Jvm.MethodName)) ∈ lw_all := lw_g (lw_at lw_m12 91 rfl) rfl
theorem q2861 : (Jvm.Cond.code ({ cls := "BatchRenamerModel", name := "formatName", desc := "(I)I" } : Jvm.MethodName) prog_17_method_143_code (2 : Nat) (Option.some Jvm.ClassFile.FieldType.int)) ∈ lw_all := lw_g (lw_at lw_m12 92 rfl) rfl
theorem q2862 : (Jvm.Cond.methodLink "BatchRenamerModel" (454 : Nat) ({ cls := "BatchRenamerModel", name := "sayName", desc := "([JI)V" } : Jvm.MethodName)) ∈ lw_all := lw_g (lw_at lw_m12 93 rfl) rfl
theorem q2863 : (Jvm.Cond.privateMethod ({ cls := "BatchRenamerModel", name := "sayName", desc := "([JI)V" } : Jvm.MethodName)) ∈ lw_tbl := lw_at lw_m12 94 rfl
theorem q2864 : (Jvm.Cond.instanceMethod ({ cls := "BatchRenamerModel", name := "sayName", desc := "([JI)V" } : Jvm.MethodName)) ∈ lw_all := lw_g (lw_at lw_m12 95 rfl) rfl
theorem q2865 : (Jvm.Cond.code ({ cls := "BatchRenamerModel", name := "sayName", desc := "([JI)V" } : Jvm.MethodName) prog_17_method_142_code (4 : Nat) (Option.none : Option Jvm.ClassFile.FieldType)) ∈ lw_all := lw_g (lw_at lw_m12 96 rfl) rfl
theorem q2866 : (Jvm.Cond.methodLink "BatchRenamerModel" (451 : Nat) ({ cls := "BatchRenamerModel", name := "say", desc := "(I)V" } : Jvm.MethodName)) ∈ lw_all := lw_g (lw_at lw_m12 97 rfl) rfl
theorem q2867 : (Jvm.Cond.privateMethod ({ cls := "BatchRenamerModel", name := "say", desc := "(I)V" } : Jvm.MethodName)) ∈ lw_tbl := lw_at lw_m12 98 rfl
theorem q2868 : (Jvm.Cond.instanceMethod ({ cls := "BatchRenamerModel", name := "say", desc := "(I)V" } : Jvm.MethodName)) ∈ lw_all := lw_g (lw_at lw_m12 99 rfl) rfl
theorem q2869 : (Jvm.Cond.code ({ cls := "BatchRenamerModel", name := "say", desc := "(I)V" } : Jvm.MethodName) prog_17_method_141_code (2 : Nat) (Option.none : Option Jvm.ClassFile.FieldType)) ∈ lw_all := lw_g (lw_at lw_m12 100 rfl) rfl
theorem q2871 : (Jvm.Cond.instanceMethod ({ cls := "BatchRenamerModel", name := "formatNew", desc := "(I)I" } : Jvm.MethodName)) ∈ lw_all := lw_g (lw_at lw_m12 102 rfl) rfl
theorem q2872 : (Jvm.Cond.selects "BatchRenamerModel" ({ cls := "BatchRenamerModel", name := "formatNew", desc := "(I)I" } : Jvm.MethodName) ({ cls := "BatchRenamerModel", name := "formatNew", desc := "(I)I" } : Jvm.MethodName)) ∈ lw_all := lw_g (lw_at lw_m12 103 rfl) rfl
theorem q2873 : (Jvm.Cond.code ({ cls := "BatchRenamerModel", name := "formatNew", desc := "(I)I" } : Jvm.MethodName) prog_17_method_144_code (3 : Nat) (Option.some Jvm.ClassFile.FieldType.int)) ∈ lw_all := lw_g (lw_at lw_m12 104 rfl) rfl
theorem q2875 : (Jvm.Cond.instanceMethod ({ cls := "BatchRenamerModel", name := "formatStep", desc := "(I)I" } : Jvm.MethodName)) ∈ lw_all := lw_g (lw_at lw_m12 106 rfl) rfl
theorem q2876 : (Jvm.Cond.selects "BatchRenamerModel" ({ cls := "BatchRenamerModel", name := "formatStep", desc := "(I)I" } : Jvm.MethodName) ({ cls := "BatchRenamerModel", name := "formatStep", desc := "(I)I" } : Jvm.MethodName)) ∈ lw_all := lw_g (lw_at lw_m12 107 rfl) rfl
theorem q2877 : (Jvm.Cond.code ({ cls := "BatchRenamerModel", name := "formatStep", desc := "(I)I" } : Jvm.MethodName) prog_17_method_145_code (2 : Nat) (Option.some Jvm.ClassFile.FieldType.int)) ∈ lw_all := lw_g (lw_at lw_m12 108 rfl) rfl
theorem q2879 : (Jvm.Cond.instanceMethod ({ cls := "BatchRenamerModel", name := "formattedCharacter", desc := "(I)C" } : Jvm.MethodName)) ∈ lw_all := lw_g (lw_at lw_m12 110 rfl) rfl
theorem q2880 : (Jvm.Cond.selects "BatchRenamerModel" ({ cls := "BatchRenamerModel", name := "formattedCharacter", desc := "(I)C" } : Jvm.MethodName) ({ cls := "BatchRenamerModel", name := "formattedCharacter", desc := "(I)C" } : Jvm.MethodName)) ∈ lw_all := lw_g (lw_at lw_m12 111 rfl) rfl
theorem q2881 : (Jvm.Cond.code ({ cls := "BatchRenamerModel", name := "formattedCharacter", desc := "(I)C" } : Jvm.MethodName) prog_17_method_146_code (2 : Nat) (Option.some Jvm.ClassFile.FieldType.char)) ∈ lw_all := lw_g (lw_at lw_m12 112 rfl) rfl
theorem q2911 : (Jvm.Cond.castable "BatchRenamerModel" "java/lang/Object") ∈ lw_tbl := lw_at lw_m12 142 rfl
theorem in_X5 : ∀ w ∈ wsX50, w ∈ lw_all := lw_in wsX50 [2236, 2238, 2240, 2242, 2244, 2246, 2248, 2250, 2252, 2254, 2256, 2258, 2260, 2262, 2264, 2266, 2268, 2270, 2272, 2274, 2276, 2278, 2280, 2282, 2284, 2286, 2288, 2290, 2292, 2294, 2296, 2298, 2300, 2302, 2304, 2306] (by decide +kernel) (by decide +kernel)

