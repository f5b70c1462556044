set_option maxRecDepth 100000
/-! BatchRenamer$Outlook -/
def RX10 : String := "BatchRenamer$Outlook"
def TX10 : u_T := fun k => match k with
  | 0 => ("BatchRenamer$Outlook", "board", "LBatchRenamer$Board;", true)
  | 1 => ("BatchRenamer$Outlook", "many", "I", true)
  | 2 => ("BatchRenamer$Outlook", "rule", "[I", true)
  | 3 => ("BatchRenamer$Outlook", "counter", "[I", true)
  | 4 => ("BatchRenamer$Outlook", "status", "[I", true)
  | 5 => ("BatchRenamer$Outlook", "groups", "[I", true)
  | 6 => ("BatchRenamer$Outlook", "next", "[Ljava/lang/String;", true)
  | 7 => ("BatchRenamer$Outlook", "text", "Ljava/lang/StringBuilder;", true)
  | 8 => ("BatchRenamer$Outlook", "most", "I", true)
  | _ => ("BatchRenamer$Outlook", "rounds", "I", false)
def tyX10 : Nat → FieldType := fun k => match k with
  | 0 => .object "BatchRenamer$Board"
  | 1 => .int
  | 2 => .array .int
  | 3 => .array .int
  | 4 => .array .int
  | 5 => .array .int
  | 6 => .array (.object "java/lang/String")
  | 7 => .object "java/lang/StringBuilder"
  | 8 => .int
  | _ => .int
abbrev wsX100 : List Cond := u_ws RX10 TX10 10
theorem nmX10 : ∀ a, a < 10 → ∀ b, b < 10 → a ≠ b → (TX10 a).2.1 ≠ (TX10 b).2.1 := by decide +kernel
theorem tyX10_ok : ∀ k, k < 10 → parseFieldDescriptor (TX10 k).2.2.1 = some (tyX10 k) := by decide +kernel
abbrev cX10_init : ByteArray := prog_7_method_1_code
def yX10_init : MethodName := ⟨RX10, "<init>", "(LBatchRenamer$Board;)V"⟩
def dkwX10_init_0 : List UInt8 := [42, 43, 18, 5, 183, 0, 6, 177]
abbrev dktX10_init_0 : List UInt8 := dkwX10_init_0 ++ []
theorem dksX10_init_0 : cX10_init.data.toList.drop 0 = dktX10_init_0 := by decide +kernel
theorem dX10_init_0 : decode cX10_init 0 = .ok (.aload_n 0, 1) := dk_42 (dk_at dksX10_init_0 0 rfl rfl)
theorem dX10_init_1 : decode cX10_init 1 = .ok (.aload_n 1, 1) := dk_43 (dk_at dksX10_init_0 1 rfl rfl)
theorem dX10_init_2 : decode cX10_init 2 = .ok (.ldc 5, 2) := dk_18 5 (dk_at dksX10_init_0 2 rfl rfl)
theorem dX10_init_4 : decode cX10_init 4 = .ok (.invokespecial 6, 3) := dk_183 0 6 (dk_at dksX10_init_0 4 rfl rfl)
theorem dX10_init_7 : decode cX10_init 7 = .ok (.return_, 1) := dk_177 (dk_at dksX10_init_0 7 rfl rfl)
abbrev cX10_init_2 : ByteArray := prog_7_method_2_code
def yX10_init_2 : MethodName := ⟨RX10, "<init>", "(LBatchRenamer$Board;I)V"⟩
def dkwX10_init_2_7 : List UInt8 := [182, 0, 79, 153, 0, 16, 42, 89, 180, 0, 83, 4, 96, 181, 0, 83, 167, 255, 239, 177]
abbrev dktX10_init_2_7 : List UInt8 := dkwX10_init_2_7 ++ []
def dkwX10_init_2_6 : List UInt8 := [180, 0, 63, 162, 0, 20, 42, 180, 0, 24, 29, 42, 29, 182, 0, 76, 79, 132, 3, 1, 167, 255, 234, 42]
abbrev dktX10_init_2_6 : List UInt8 := dkwX10_init_2_6 ++ dktX10_init_2_7
def dkwX10_init_2_5 : List UInt8 := [162, 0, 20, 42, 180, 0, 27, 29, 42, 29, 182, 0, 73, 79, 132, 3, 1, 167, 255, 231, 3, 62, 29, 42]
abbrev dktX10_init_2_5 : List UInt8 := dkwX10_init_2_5 ++ dktX10_init_2_6
def dkwX10_init_2_4 : List UInt8 := [43, 29, 182, 0, 66, 79, 132, 3, 1, 167, 255, 234, 3, 62, 29, 43, 180, 0, 70, 182, 0, 57]
abbrev dktX10_init_2_4 : List UInt8 := dkwX10_init_2_4 ++ dktX10_init_2_5
def dkwX10_init_2_3 : List UInt8 := [180, 0, 51, 182, 0, 57, 181, 0, 63, 3, 62, 29, 42, 180, 0, 63, 162, 0, 20, 42, 180, 0, 17, 29]
abbrev dktX10_init_2_3 : List UInt8 := dkwX10_init_2_3 ++ dktX10_init_2_4
def dkwX10_init_2_2 : List UInt8 := [187, 0, 36, 89, 183, 0, 38, 181, 0, 39, 42, 43, 181, 0, 43, 42, 28, 181, 0, 47, 42, 43]
abbrev dktX10_init_2_2 : List UInt8 := dkwX10_init_2_2 ++ dktX10_init_2_3
def dkwX10_init_2_1 : List UInt8 := [188, 10, 181, 0, 24, 42, 16, 8, 188, 10, 181, 0, 27, 42, 16, 20, 189, 0, 30, 181, 0, 32, 42]
abbrev dktX10_init_2_1 : List UInt8 := dkwX10_init_2_1 ++ dktX10_init_2_2
def dkwX10_init_2_0 : List UInt8 := [42, 183, 0, 12, 42, 16, 20, 188, 10, 181, 0, 17, 42, 16, 20, 188, 10, 181, 0, 21, 42, 16, 20]
abbrev dktX10_init_2_0 : List UInt8 := dkwX10_init_2_0 ++ dktX10_init_2_1
theorem dksX10_init_2_0 : cX10_init_2.data.toList.drop 0 = dktX10_init_2_0 := by decide +kernel
theorem dksX10_init_2_1 : cX10_init_2.data.toList.drop 23 = dktX10_init_2_1 := dk_seg dksX10_init_2_0 23 rfl rfl
theorem dksX10_init_2_2 : cX10_init_2.data.toList.drop 46 = dktX10_init_2_2 := dk_seg dksX10_init_2_1 23 rfl rfl
theorem dksX10_init_2_3 : cX10_init_2.data.toList.drop 68 = dktX10_init_2_3 := dk_seg dksX10_init_2_2 22 rfl rfl
theorem dksX10_init_2_4 : cX10_init_2.data.toList.drop 92 = dktX10_init_2_4 := dk_seg dksX10_init_2_3 24 rfl rfl
theorem dksX10_init_2_5 : cX10_init_2.data.toList.drop 114 = dktX10_init_2_5 := dk_seg dksX10_init_2_4 22 rfl rfl
theorem dksX10_init_2_6 : cX10_init_2.data.toList.drop 138 = dktX10_init_2_6 := dk_seg dksX10_init_2_5 24 rfl rfl
theorem dksX10_init_2_7 : cX10_init_2.data.toList.drop 162 = dktX10_init_2_7 := dk_seg dksX10_init_2_6 24 rfl rfl
theorem dX10_init_2_0 : decode cX10_init_2 0 = .ok (.aload_n 0, 1) := dk_42 (dk_at dksX10_init_2_0 0 rfl rfl)
theorem dX10_init_2_1 : decode cX10_init_2 1 = .ok (.invokespecial 12, 3) := dk_183 0 12 (dk_at dksX10_init_2_0 1 rfl rfl)
theorem dX10_init_2_4 : decode cX10_init_2 4 = .ok (.aload_n 0, 1) := dk_42 (dk_at dksX10_init_2_0 4 rfl rfl)
theorem dX10_init_2_5 : decode cX10_init_2 5 = .ok (.bipush 20, 2) := dk_16 20 (dk_at dksX10_init_2_0 5 rfl rfl)
theorem dX10_init_2_7 : decode cX10_init_2 7 = .ok (.newarray .int, 2) := dk_188_10 (dk_at dksX10_init_2_0 7 rfl rfl)
theorem dX10_init_2_9 : decode cX10_init_2 9 = .ok (.putfield 17, 3) := dk_181 0 17 (dk_at dksX10_init_2_0 9 rfl rfl)
theorem dX10_init_2_12 : decode cX10_init_2 12 = .ok (.aload_n 0, 1) := dk_42 (dk_at dksX10_init_2_0 12 rfl rfl)
theorem dX10_init_2_13 : decode cX10_init_2 13 = .ok (.bipush 20, 2) := dk_16 20 (dk_at dksX10_init_2_0 13 rfl rfl)
theorem dX10_init_2_15 : decode cX10_init_2 15 = .ok (.newarray .int, 2) := dk_188_10 (dk_at dksX10_init_2_0 15 rfl rfl)
theorem dX10_init_2_17 : decode cX10_init_2 17 = .ok (.putfield 21, 3) := dk_181 0 21 (dk_at dksX10_init_2_0 17 rfl rfl)
theorem dX10_init_2_20 : decode cX10_init_2 20 = .ok (.aload_n 0, 1) := dk_42 (dk_at dksX10_init_2_0 20 rfl rfl)
theorem dX10_init_2_21 : decode cX10_init_2 21 = .ok (.bipush 20, 2) := dk_16 20 (dk_at dksX10_init_2_0 21 rfl rfl)
theorem dX10_init_2_23 : decode cX10_init_2 23 = .ok (.newarray .int, 2) := dk_188_10 (dk_at dksX10_init_2_1 0 rfl rfl)
theorem dX10_init_2_25 : decode cX10_init_2 25 = .ok (.putfield 24, 3) := dk_181 0 24 (dk_at dksX10_init_2_1 2 rfl rfl)
theorem dX10_init_2_28 : decode cX10_init_2 28 = .ok (.aload_n 0, 1) := dk_42 (dk_at dksX10_init_2_1 5 rfl rfl)
theorem dX10_init_2_29 : decode cX10_init_2 29 = .ok (.bipush 8, 2) := dk_16 8 (dk_at dksX10_init_2_1 6 rfl rfl)
theorem dX10_init_2_31 : decode cX10_init_2 31 = .ok (.newarray .int, 2) := dk_188_10 (dk_at dksX10_init_2_1 8 rfl rfl)
theorem dX10_init_2_33 : decode cX10_init_2 33 = .ok (.putfield 27, 3) := dk_181 0 27 (dk_at dksX10_init_2_1 10 rfl rfl)
theorem dX10_init_2_36 : decode cX10_init_2 36 = .ok (.aload_n 0, 1) := dk_42 (dk_at dksX10_init_2_1 13 rfl rfl)
theorem dX10_init_2_37 : decode cX10_init_2 37 = .ok (.bipush 20, 2) := dk_16 20 (dk_at dksX10_init_2_1 14 rfl rfl)
theorem dX10_init_2_39 : decode cX10_init_2 39 = .ok (.anewarray 30, 3) := dk_189 0 30 (dk_at dksX10_init_2_1 16 rfl rfl)
theorem dX10_init_2_42 : decode cX10_init_2 42 = .ok (.putfield 32, 3) := dk_181 0 32 (dk_at dksX10_init_2_1 19 rfl rfl)
theorem dX10_init_2_45 : decode cX10_init_2 45 = .ok (.aload_n 0, 1) := dk_42 (dk_at dksX10_init_2_1 22 rfl rfl)
theorem dX10_init_2_46 : decode cX10_init_2 46 = .ok (.new 36, 3) := dk_187 0 36 (dk_at dksX10_init_2_2 0 rfl rfl)
theorem dX10_init_2_49 : decode cX10_init_2 49 = .ok (.dup, 1) := dk_89 (dk_at dksX10_init_2_2 3 rfl rfl)
theorem dX10_init_2_50 : decode cX10_init_2 50 = .ok (.invokespecial 38, 3) := dk_183 0 38 (dk_at dksX10_init_2_2 4 rfl rfl)
theorem dX10_init_2_53 : decode cX10_init_2 53 = .ok (.putfield 39, 3) := dk_181 0 39 (dk_at dksX10_init_2_2 7 rfl rfl)
theorem dX10_init_2_56 : decode cX10_init_2 56 = .ok (.aload_n 0, 1) := dk_42 (dk_at dksX10_init_2_2 10 rfl rfl)
theorem dX10_init_2_57 : decode cX10_init_2 57 = .ok (.aload_n 1, 1) := dk_43 (dk_at dksX10_init_2_2 11 rfl rfl)
theorem dX10_init_2_58 : decode cX10_init_2 58 = .ok (.putfield 43, 3) := dk_181 0 43 (dk_at dksX10_init_2_2 12 rfl rfl)
theorem dX10_init_2_61 : decode cX10_init_2 61 = .ok (.aload_n 0, 1) := dk_42 (dk_at dksX10_init_2_2 15 rfl rfl)
theorem dX10_init_2_62 : decode cX10_init_2 62 = .ok (.iload_n 2, 1) := dk_28 (dk_at dksX10_init_2_2 16 rfl rfl)
theorem dX10_init_2_63 : decode cX10_init_2 63 = .ok (.putfield 47, 3) := dk_181 0 47 (dk_at dksX10_init_2_2 17 rfl rfl)
theorem dX10_init_2_66 : decode cX10_init_2 66 = .ok (.aload_n 0, 1) := dk_42 (dk_at dksX10_init_2_2 20 rfl rfl)
theorem dX10_init_2_67 : decode cX10_init_2 67 = .ok (.aload_n 1, 1) := dk_43 (dk_at dksX10_init_2_2 21 rfl rfl)
theorem dX10_init_2_68 : decode cX10_init_2 68 = .ok (.getfield 51, 3) := dk_180 0 51 (dk_at dksX10_init_2_3 0 rfl rfl)
theorem dX10_init_2_71 : decode cX10_init_2 71 = .ok (.invokevirtual 57, 3) := dk_182 0 57 (dk_at dksX10_init_2_3 3 rfl rfl)
theorem dX10_init_2_74 : decode cX10_init_2 74 = .ok (.putfield 63, 3) := dk_181 0 63 (dk_at dksX10_init_2_3 6 rfl rfl)
theorem dX10_init_2_77 : decode cX10_init_2 77 = .ok (.iconst 0, 1) := dk_3 (dk_at dksX10_init_2_3 9 rfl rfl)
theorem dX10_init_2_78 : decode cX10_init_2 78 = .ok (.istore_n 3, 1) := dk_62 (dk_at dksX10_init_2_3 10 rfl rfl)
theorem dX10_init_2_79 : decode cX10_init_2 79 = .ok (.iload_n 3, 1) := dk_29 (dk_at dksX10_init_2_3 11 rfl rfl)
theorem dX10_init_2_80 : decode cX10_init_2 80 = .ok (.aload_n 0, 1) := dk_42 (dk_at dksX10_init_2_3 12 rfl rfl)
theorem dX10_init_2_81 : decode cX10_init_2 81 = .ok (.getfield 63, 3) := dk_180 0 63 (dk_at dksX10_init_2_3 13 rfl rfl)
theorem dX10_init_2_84 : decode cX10_init_2 84 = .ok (.if_icmp .ge 20, 3) := dk_162 0 20 (dk_at dksX10_init_2_3 16 rfl rfl)
theorem dX10_init_2_87 : decode cX10_init_2 87 = .ok (.aload_n 0, 1) := dk_42 (dk_at dksX10_init_2_3 19 rfl rfl)
theorem dX10_init_2_88 : decode cX10_init_2 88 = .ok (.getfield 17, 3) := dk_180 0 17 (dk_at dksX10_init_2_3 20 rfl rfl)
theorem dX10_init_2_91 : decode cX10_init_2 91 = .ok (.iload_n 3, 1) := dk_29 (dk_at dksX10_init_2_3 23 rfl rfl)
theorem dX10_init_2_92 : decode cX10_init_2 92 = .ok (.aload_n 1, 1) := dk_43 (dk_at dksX10_init_2_4 0 rfl rfl)
theorem dX10_init_2_93 : decode cX10_init_2 93 = .ok (.iload_n 3, 1) := dk_29 (dk_at dksX10_init_2_4 1 rfl rfl)
theorem dX10_init_2_94 : decode cX10_init_2 94 = .ok (.invokevirtual 66, 3) := dk_182 0 66 (dk_at dksX10_init_2_4 2 rfl rfl)
theorem dX10_init_2_97 : decode cX10_init_2 97 = .ok (.iastore, 1) := dk_79 (dk_at dksX10_init_2_4 5 rfl rfl)
theorem dX10_init_2_98 : decode cX10_init_2 98 = .ok (.iinc 3 1, 3) := dk_132 3 1 (dk_at dksX10_init_2_4 6 rfl rfl)
theorem dX10_init_2_101 : decode cX10_init_2 101 = .ok (.goto (-22), 3) := dk_167 255 234 (dk_at dksX10_init_2_4 9 rfl rfl)
theorem dX10_init_2_104 : decode cX10_init_2 104 = .ok (.iconst 0, 1) := dk_3 (dk_at dksX10_init_2_4 12 rfl rfl)
theorem dX10_init_2_105 : decode cX10_init_2 105 = .ok (.istore_n 3, 1) := dk_62 (dk_at dksX10_init_2_4 13 rfl rfl)
theorem dX10_init_2_106 : decode cX10_init_2 106 = .ok (.iload_n 3, 1) := dk_29 (dk_at dksX10_init_2_4 14 rfl rfl)
theorem dX10_init_2_107 : decode cX10_init_2 107 = .ok (.aload_n 1, 1) := dk_43 (dk_at dksX10_init_2_4 15 rfl rfl)
theorem dX10_init_2_108 : decode cX10_init_2 108 = .ok (.getfield 70, 3) := dk_180 0 70 (dk_at dksX10_init_2_4 16 rfl rfl)
theorem dX10_init_2_111 : decode cX10_init_2 111 = .ok (.invokevirtual 57, 3) := dk_182 0 57 (dk_at dksX10_init_2_4 19 rfl rfl)
theorem dX10_init_2_114 : decode cX10_init_2 114 = .ok (.if_icmp .ge 20, 3) := dk_162 0 20 (dk_at dksX10_init_2_5 0 rfl rfl)
theorem dX10_init_2_117 : decode cX10_init_2 117 = .ok (.aload_n 0, 1) := dk_42 (dk_at dksX10_init_2_5 3 rfl rfl)
theorem dX10_init_2_118 : decode cX10_init_2 118 = .ok (.getfield 27, 3) := dk_180 0 27 (dk_at dksX10_init_2_5 4 rfl rfl)
theorem dX10_init_2_121 : decode cX10_init_2 121 = .ok (.iload_n 3, 1) := dk_29 (dk_at dksX10_init_2_5 7 rfl rfl)
theorem dX10_init_2_122 : decode cX10_init_2 122 = .ok (.aload_n 0, 1) := dk_42 (dk_at dksX10_init_2_5 8 rfl rfl)
theorem dX10_init_2_123 : decode cX10_init_2 123 = .ok (.iload_n 3, 1) := dk_29 (dk_at dksX10_init_2_5 9 rfl rfl)
theorem dX10_init_2_124 : decode cX10_init_2 124 = .ok (.invokevirtual 73, 3) := dk_182 0 73 (dk_at dksX10_init_2_5 10 rfl rfl)
theorem dX10_init_2_127 : decode cX10_init_2 127 = .ok (.iastore, 1) := dk_79 (dk_at dksX10_init_2_5 13 rfl rfl)
theorem dX10_init_2_128 : decode cX10_init_2 128 = .ok (.iinc 3 1, 3) := dk_132 3 1 (dk_at dksX10_init_2_5 14 rfl rfl)
theorem dX10_init_2_131 : decode cX10_init_2 131 = .ok (.goto (-25), 3) := dk_167 255 231 (dk_at dksX10_init_2_5 17 rfl rfl)
theorem dX10_init_2_134 : decode cX10_init_2 134 = .ok (.iconst 0, 1) := dk_3 (dk_at dksX10_init_2_5 20 rfl rfl)
theorem dX10_init_2_135 : decode cX10_init_2 135 = .ok (.istore_n 3, 1) := dk_62 (dk_at dksX10_init_2_5 21 rfl rfl)
theorem dX10_init_2_136 : decode cX10_init_2 136 = .ok (.iload_n 3, 1) := dk_29 (dk_at dksX10_init_2_5 22 rfl rfl)
theorem dX10_init_2_137 : decode cX10_init_2 137 = .ok (.aload_n 0, 1) := dk_42 (dk_at dksX10_init_2_5 23 rfl rfl)
theorem dX10_init_2_138 : decode cX10_init_2 138 = .ok (.getfield 63, 3) := dk_180 0 63 (dk_at dksX10_init_2_6 0 rfl rfl)
theorem dX10_init_2_141 : decode cX10_init_2 141 = .ok (.if_icmp .ge 20, 3) := dk_162 0 20 (dk_at dksX10_init_2_6 3 rfl rfl)
theorem dX10_init_2_144 : decode cX10_init_2 144 = .ok (.aload_n 0, 1) := dk_42 (dk_at dksX10_init_2_6 6 rfl rfl)
theorem dX10_init_2_145 : decode cX10_init_2 145 = .ok (.getfield 24, 3) := dk_180 0 24 (dk_at dksX10_init_2_6 7 rfl rfl)
theorem dX10_init_2_148 : decode cX10_init_2 148 = .ok (.iload_n 3, 1) := dk_29 (dk_at dksX10_init_2_6 10 rfl rfl)
theorem dX10_init_2_149 : decode cX10_init_2 149 = .ok (.aload_n 0, 1) := dk_42 (dk_at dksX10_init_2_6 11 rfl rfl)
theorem dX10_init_2_150 : decode cX10_init_2 150 = .ok (.iload_n 3, 1) := dk_29 (dk_at dksX10_init_2_6 12 rfl rfl)
theorem dX10_init_2_151 : decode cX10_init_2 151 = .ok (.invokevirtual 76, 3) := dk_182 0 76 (dk_at dksX10_init_2_6 13 rfl rfl)
theorem dX10_init_2_154 : decode cX10_init_2 154 = .ok (.iastore, 1) := dk_79 (dk_at dksX10_init_2_6 16 rfl rfl)
theorem dX10_init_2_155 : decode cX10_init_2 155 = .ok (.iinc 3 1, 3) := dk_132 3 1 (dk_at dksX10_init_2_6 17 rfl rfl)
theorem dX10_init_2_158 : decode cX10_init_2 158 = .ok (.goto (-22), 3) := dk_167 255 234 (dk_at dksX10_init_2_6 20 rfl rfl)
theorem dX10_init_2_161 : decode cX10_init_2 161 = .ok (.aload_n 0, 1) := dk_42 (dk_at dksX10_init_2_6 23 rfl rfl)
theorem dX10_init_2_162 : decode cX10_init_2 162 = .ok (.invokevirtual 79, 3) := dk_182 0 79 (dk_at dksX10_init_2_7 0 rfl rfl)
theorem dX10_init_2_165 : decode cX10_init_2 165 = .ok (.ifCond .eq 16, 3) := dk_153 0 16 (dk_at dksX10_init_2_7 3 rfl rfl)
theorem dX10_init_2_168 : decode cX10_init_2 168 = .ok (.aload_n 0, 1) := dk_42 (dk_at dksX10_init_2_7 6 rfl rfl)
theorem dX10_init_2_169 : decode cX10_init_2 169 = .ok (.dup, 1) := dk_89 (dk_at dksX10_init_2_7 7 rfl rfl)
theorem dX10_init_2_170 : decode cX10_init_2 170 = .ok (.getfield 83, 3) := dk_180 0 83 (dk_at dksX10_init_2_7 8 rfl rfl)
theorem dX10_init_2_173 : decode cX10_init_2 173 = .ok (.iconst 1, 1) := dk_4 (dk_at dksX10_init_2_7 11 rfl rfl)
theorem dX10_init_2_174 : decode cX10_init_2 174 = .ok (.iadd, 1) := dk_96 (dk_at dksX10_init_2_7 12 rfl rfl)
theorem dX10_init_2_175 : decode cX10_init_2 175 = .ok (.putfield 83, 3) := dk_181 0 83 (dk_at dksX10_init_2_7 13 rfl rfl)
theorem dX10_init_2_178 : decode cX10_init_2 178 = .ok (.goto (-17), 3) := dk_167 255 239 (dk_at dksX10_init_2_7 16 rfl rfl)
theorem dX10_init_2_181 : decode cX10_init_2 181 = .ok (.return_, 1) := dk_177 (dk_at dksX10_init_2_7 19 rfl rfl)
abbrev cX10_layNames : ByteArray := prog_7_method_3_code
def yX10_layNames : MethodName := ⟨RX10, "layNames", "(I)I"⟩
def dkwX10_layNames_7 : List UInt8 := [45, 182, 0, 129, 172]
abbrev dktX10_layNames_7 : List UInt8 := dkwX10_layNames_7 ++ []
def dkwX10_layNames_6 : List UInt8 := [180, 0, 39, 42, 180, 0, 43, 180, 0, 105, 42, 180, 0, 47, 182, 0, 125, 83, 132, 4, 1, 167, 255, 122]
abbrev dktX10_layNames_6 : List UInt8 := dkwX10_layNames_6 ++ dktX10_layNames_7
def dkwX10_layNames_5 : List UInt8 := [180, 0, 43, 180, 0, 105, 42, 180, 0, 43, 180, 0, 121, 181, 0, 124, 42, 180, 0, 32, 21, 4, 44, 42]
abbrev dktX10_layNames_5 : List UInt8 := dkwX10_layNames_5 ++ dktX10_layNames_6
def dkwX10_layNames_4 : List UInt8 := [182, 0, 113, 104, 96, 79, 42, 180, 0, 43, 180, 0, 105, 42, 180, 0, 21, 21, 4, 46, 181, 0, 117, 42]
abbrev dktX10_layNames_4 : List UInt8 := dkwX10_layNames_4 ++ dktX10_layNames_5
def dkwX10_layNames_3 : List UInt8 := [180, 0, 99, 42, 180, 0, 43, 180, 0, 102, 45, 44, 42, 180, 0, 43, 180, 0, 105, 182, 0, 109]
abbrev dktX10_layNames_3 : List UInt8 := dkwX10_layNames_3 ++ dktX10_layNames_4
def dkwX10_layNames_2 : List UInt8 := [180, 0, 43, 27, 21, 4, 182, 0, 95, 153, 0, 101, 42, 180, 0, 21, 21, 4, 42, 180, 0, 43]
abbrev dktX10_layNames_2 : List UInt8 := dkwX10_layNames_2 ++ dktX10_layNames_3
def dkwX10_layNames_1 : List UInt8 := [54, 4, 21, 4, 42, 180, 0, 63, 162, 0, 131, 42, 180, 0, 17, 21, 4, 46, 27, 160, 0, 114, 42]
abbrev dktX10_layNames_1 : List UInt8 := dkwX10_layNames_1 ++ dktX10_layNames_2
def dkwX10_layNames_0 : List UInt8 := [42, 180, 0, 43, 180, 0, 70, 27, 182, 0, 86, 192, 0, 90, 77, 187, 0, 92, 89, 183, 0, 94, 78, 3]
abbrev dktX10_layNames_0 : List UInt8 := dkwX10_layNames_0 ++ dktX10_layNames_1
theorem dksX10_layNames_0 : cX10_layNames.data.toList.drop 0 = dktX10_layNames_0 := by decide +kernel
theorem dksX10_layNames_1 : cX10_layNames.data.toList.drop 24 = dktX10_layNames_1 := dk_seg dksX10_layNames_0 24 rfl rfl
theorem dksX10_layNames_2 : cX10_layNames.data.toList.drop 47 = dktX10_layNames_2 := dk_seg dksX10_layNames_1 23 rfl rfl
theorem dksX10_layNames_3 : cX10_layNames.data.toList.drop 69 = dktX10_layNames_3 := dk_seg dksX10_layNames_2 22 rfl rfl
theorem dksX10_layNames_4 : cX10_layNames.data.toList.drop 91 = dktX10_layNames_4 := dk_seg dksX10_layNames_3 22 rfl rfl
theorem dksX10_layNames_5 : cX10_layNames.data.toList.drop 115 = dktX10_layNames_5 := dk_seg dksX10_layNames_4 24 rfl rfl
theorem dksX10_layNames_6 : cX10_layNames.data.toList.drop 139 = dktX10_layNames_6 := dk_seg dksX10_layNames_5 24 rfl rfl
theorem dksX10_layNames_7 : cX10_layNames.data.toList.drop 163 = dktX10_layNames_7 := dk_seg dksX10_layNames_6 24 rfl rfl
theorem dX10_layNames_0 : decode cX10_layNames 0 = .ok (.aload_n 0, 1) := dk_42 (dk_at dksX10_layNames_0 0 rfl rfl)
theorem dX10_layNames_1 : decode cX10_layNames 1 = .ok (.getfield 43, 3) := dk_180 0 43 (dk_at dksX10_layNames_0 1 rfl rfl)
theorem dX10_layNames_4 : decode cX10_layNames 4 = .ok (.getfield 70, 3) := dk_180 0 70 (dk_at dksX10_layNames_0 4 rfl rfl)
theorem dX10_layNames_7 : decode cX10_layNames 7 = .ok (.iload_n 1, 1) := dk_27 (dk_at dksX10_layNames_0 7 rfl rfl)
theorem dX10_layNames_8 : decode cX10_layNames 8 = .ok (.invokevirtual 86, 3) := dk_182 0 86 (dk_at dksX10_layNames_0 8 rfl rfl)
theorem dX10_layNames_11 : decode cX10_layNames 11 = .ok (.checkcast 90, 3) := dk_192 0 90 (dk_at dksX10_layNames_0 11 rfl rfl)
theorem dX10_layNames_14 : decode cX10_layNames 14 = .ok (.astore_n 2, 1) := dk_77 (dk_at dksX10_layNames_0 14 rfl rfl)
theorem dX10_layNames_15 : decode cX10_layNames 15 = .ok (.new 92, 3) := dk_187 0 92 (dk_at dksX10_layNames_0 15 rfl rfl)
theorem dX10_layNames_18 : decode cX10_layNames 18 = .ok (.dup, 1) := dk_89 (dk_at dksX10_layNames_0 18 rfl rfl)
theorem dX10_layNames_19 : decode cX10_layNames 19 = .ok (.invokespecial 94, 3) := dk_183 0 94 (dk_at dksX10_layNames_0 19 rfl rfl)
theorem dX10_layNames_22 : decode cX10_layNames 22 = .ok (.astore_n 3, 1) := dk_78 (dk_at dksX10_layNames_0 22 rfl rfl)
theorem dX10_layNames_23 : decode cX10_layNames 23 = .ok (.iconst 0, 1) := dk_3 (dk_at dksX10_layNames_0 23 rfl rfl)
theorem dX10_layNames_24 : decode cX10_layNames 24 = .ok (.istore 4, 2) := dk_54 4 (dk_at dksX10_layNames_1 0 rfl rfl)
theorem dX10_layNames_26 : decode cX10_layNames 26 = .ok (.iload 4, 2) := dk_21 4 (dk_at dksX10_layNames_1 2 rfl rfl)
theorem dX10_layNames_28 : decode cX10_layNames 28 = .ok (.aload_n 0, 1) := dk_42 (dk_at dksX10_layNames_1 4 rfl rfl)
theorem dX10_layNames_29 : decode cX10_layNames 29 = .ok (.getfield 63, 3) := dk_180 0 63 (dk_at dksX10_layNames_1 5 rfl rfl)
theorem dX10_layNames_32 : decode cX10_layNames 32 = .ok (.if_icmp .ge 131, 3) := dk_162 0 131 (dk_at dksX10_layNames_1 8 rfl rfl)
theorem dX10_layNames_35 : decode cX10_layNames 35 = .ok (.aload_n 0, 1) := dk_42 (dk_at dksX10_layNames_1 11 rfl rfl)
theorem dX10_layNames_36 : decode cX10_layNames 36 = .ok (.getfield 17, 3) := dk_180 0 17 (dk_at dksX10_layNames_1 12 rfl rfl)
theorem dX10_layNames_39 : decode cX10_layNames 39 = .ok (.iload 4, 2) := dk_21 4 (dk_at dksX10_layNames_1 15 rfl rfl)
theorem dX10_layNames_41 : decode cX10_layNames 41 = .ok (.iaload, 1) := dk_46 (dk_at dksX10_layNames_1 17 rfl rfl)
theorem dX10_layNames_42 : decode cX10_layNames 42 = .ok (.iload_n 1, 1) := dk_27 (dk_at dksX10_layNames_1 18 rfl rfl)
theorem dX10_layNames_43 : decode cX10_layNames 43 = .ok (.if_icmp .ne 114, 3) := dk_160 0 114 (dk_at dksX10_layNames_1 19 rfl rfl)
theorem dX10_layNames_46 : decode cX10_layNames 46 = .ok (.aload_n 0, 1) := dk_42 (dk_at dksX10_layNames_1 22 rfl rfl)
theorem dX10_layNames_47 : decode cX10_layNames 47 = .ok (.getfield 43, 3) := dk_180 0 43 (dk_at dksX10_layNames_2 0 rfl rfl)
theorem dX10_layNames_50 : decode cX10_layNames 50 = .ok (.iload_n 1, 1) := dk_27 (dk_at dksX10_layNames_2 3 rfl rfl)
theorem dX10_layNames_51 : decode cX10_layNames 51 = .ok (.iload 4, 2) := dk_21 4 (dk_at dksX10_layNames_2 4 rfl rfl)
theorem dX10_layNames_53 : decode cX10_layNames 53 = .ok (.invokevirtual 95, 3) := dk_182 0 95 (dk_at dksX10_layNames_2 6 rfl rfl)
theorem dX10_layNames_56 : decode cX10_layNames 56 = .ok (.ifCond .eq 101, 3) := dk_153 0 101 (dk_at dksX10_layNames_2 9 rfl rfl)
theorem dX10_layNames_59 : decode cX10_layNames 59 = .ok (.aload_n 0, 1) := dk_42 (dk_at dksX10_layNames_2 12 rfl rfl)
theorem dX10_layNames_60 : decode cX10_layNames 60 = .ok (.getfield 21, 3) := dk_180 0 21 (dk_at dksX10_layNames_2 13 rfl rfl)
theorem dX10_layNames_63 : decode cX10_layNames 63 = .ok (.iload 4, 2) := dk_21 4 (dk_at dksX10_layNames_2 16 rfl rfl)
theorem dX10_layNames_65 : decode cX10_layNames 65 = .ok (.aload_n 0, 1) := dk_42 (dk_at dksX10_layNames_2 18 rfl rfl)
theorem dX10_layNames_66 : decode cX10_layNames 66 = .ok (.getfield 43, 3) := dk_180 0 43 (dk_at dksX10_layNames_2 19 rfl rfl)
theorem dX10_layNames_69 : decode cX10_layNames 69 = .ok (.getfield 99, 3) := dk_180 0 99 (dk_at dksX10_layNames_3 0 rfl rfl)
theorem dX10_layNames_72 : decode cX10_layNames 72 = .ok (.aload_n 0, 1) := dk_42 (dk_at dksX10_layNames_3 3 rfl rfl)
theorem dX10_layNames_73 : decode cX10_layNames 73 = .ok (.getfield 43, 3) := dk_180 0 43 (dk_at dksX10_layNames_3 4 rfl rfl)
theorem dX10_layNames_76 : decode cX10_layNames 76 = .ok (.getfield 102, 3) := dk_180 0 102 (dk_at dksX10_layNames_3 7 rfl rfl)
theorem dX10_layNames_79 : decode cX10_layNames 79 = .ok (.aload_n 3, 1) := dk_45 (dk_at dksX10_layNames_3 10 rfl rfl)
theorem dX10_layNames_80 : decode cX10_layNames 80 = .ok (.aload_n 2, 1) := dk_44 (dk_at dksX10_layNames_3 11 rfl rfl)
theorem dX10_layNames_81 : decode cX10_layNames 81 = .ok (.aload_n 0, 1) := dk_42 (dk_at dksX10_layNames_3 12 rfl rfl)
theorem dX10_layNames_82 : decode cX10_layNames 82 = .ok (.getfield 43, 3) := dk_180 0 43 (dk_at dksX10_layNames_3 13 rfl rfl)
theorem dX10_layNames_85 : decode cX10_layNames 85 = .ok (.getfield 105, 3) := dk_180 0 105 (dk_at dksX10_layNames_3 16 rfl rfl)
theorem dX10_layNames_88 : decode cX10_layNames 88 = .ok (.invokevirtual 109, 3) := dk_182 0 109 (dk_at dksX10_layNames_3 19 rfl rfl)
theorem dX10_layNames_91 : decode cX10_layNames 91 = .ok (.invokevirtual 113, 3) := dk_182 0 113 (dk_at dksX10_layNames_4 0 rfl rfl)
theorem dX10_layNames_94 : decode cX10_layNames 94 = .ok (.imul, 1) := dk_104 (dk_at dksX10_layNames_4 3 rfl rfl)
theorem dX10_layNames_95 : decode cX10_layNames 95 = .ok (.iadd, 1) := dk_96 (dk_at dksX10_layNames_4 4 rfl rfl)
theorem dX10_layNames_96 : decode cX10_layNames 96 = .ok (.iastore, 1) := dk_79 (dk_at dksX10_layNames_4 5 rfl rfl)
theorem dX10_layNames_97 : decode cX10_layNames 97 = .ok (.aload_n 0, 1) := dk_42 (dk_at dksX10_layNames_4 6 rfl rfl)
theorem dX10_layNames_98 : decode cX10_layNames 98 = .ok (.getfield 43, 3) := dk_180 0 43 (dk_at dksX10_layNames_4 7 rfl rfl)
theorem dX10_layNames_101 : decode cX10_layNames 101 = .ok (.getfield 105, 3) := dk_180 0 105 (dk_at dksX10_layNames_4 10 rfl rfl)
theorem dX10_layNames_104 : decode cX10_layNames 104 = .ok (.aload_n 0, 1) := dk_42 (dk_at dksX10_layNames_4 13 rfl rfl)
theorem dX10_layNames_105 : decode cX10_layNames 105 = .ok (.getfield 21, 3) := dk_180 0 21 (dk_at dksX10_layNames_4 14 rfl rfl)
theorem dX10_layNames_108 : decode cX10_layNames 108 = .ok (.iload 4, 2) := dk_21 4 (dk_at dksX10_layNames_4 17 rfl rfl)
theorem dX10_layNames_110 : decode cX10_layNames 110 = .ok (.iaload, 1) := dk_46 (dk_at dksX10_layNames_4 19 rfl rfl)
theorem dX10_layNames_111 : decode cX10_layNames 111 = .ok (.putfield 117, 3) := dk_181 0 117 (dk_at dksX10_layNames_4 20 rfl rfl)
theorem dX10_layNames_114 : decode cX10_layNames 114 = .ok (.aload_n 0, 1) := dk_42 (dk_at dksX10_layNames_4 23 rfl rfl)
theorem dX10_layNames_115 : decode cX10_layNames 115 = .ok (.getfield 43, 3) := dk_180 0 43 (dk_at dksX10_layNames_5 0 rfl rfl)
theorem dX10_layNames_118 : decode cX10_layNames 118 = .ok (.getfield 105, 3) := dk_180 0 105 (dk_at dksX10_layNames_5 3 rfl rfl)
theorem dX10_layNames_121 : decode cX10_layNames 121 = .ok (.aload_n 0, 1) := dk_42 (dk_at dksX10_layNames_5 6 rfl rfl)
theorem dX10_layNames_122 : decode cX10_layNames 122 = .ok (.getfield 43, 3) := dk_180 0 43 (dk_at dksX10_layNames_5 7 rfl rfl)
theorem dX10_layNames_125 : decode cX10_layNames 125 = .ok (.getfield 121, 3) := dk_180 0 121 (dk_at dksX10_layNames_5 10 rfl rfl)
theorem dX10_layNames_128 : decode cX10_layNames 128 = .ok (.putfield 124, 3) := dk_181 0 124 (dk_at dksX10_layNames_5 13 rfl rfl)
theorem dX10_layNames_131 : decode cX10_layNames 131 = .ok (.aload_n 0, 1) := dk_42 (dk_at dksX10_layNames_5 16 rfl rfl)
theorem dX10_layNames_132 : decode cX10_layNames 132 = .ok (.getfield 32, 3) := dk_180 0 32 (dk_at dksX10_layNames_5 17 rfl rfl)
theorem dX10_layNames_135 : decode cX10_layNames 135 = .ok (.iload 4, 2) := dk_21 4 (dk_at dksX10_layNames_5 20 rfl rfl)
theorem dX10_layNames_137 : decode cX10_layNames 137 = .ok (.aload_n 2, 1) := dk_44 (dk_at dksX10_layNames_5 22 rfl rfl)
theorem dX10_layNames_138 : decode cX10_layNames 138 = .ok (.aload_n 0, 1) := dk_42 (dk_at dksX10_layNames_5 23 rfl rfl)
theorem dX10_layNames_139 : decode cX10_layNames 139 = .ok (.getfield 39, 3) := dk_180 0 39 (dk_at dksX10_layNames_6 0 rfl rfl)
theorem dX10_layNames_142 : decode cX10_layNames 142 = .ok (.aload_n 0, 1) := dk_42 (dk_at dksX10_layNames_6 3 rfl rfl)
theorem dX10_layNames_143 : decode cX10_layNames 143 = .ok (.getfield 43, 3) := dk_180 0 43 (dk_at dksX10_layNames_6 4 rfl rfl)
theorem dX10_layNames_146 : decode cX10_layNames 146 = .ok (.getfield 105, 3) := dk_180 0 105 (dk_at dksX10_layNames_6 7 rfl rfl)
theorem dX10_layNames_149 : decode cX10_layNames 149 = .ok (.aload_n 0, 1) := dk_42 (dk_at dksX10_layNames_6 10 rfl rfl)
theorem dX10_layNames_150 : decode cX10_layNames 150 = .ok (.getfield 47, 3) := dk_180 0 47 (dk_at dksX10_layNames_6 11 rfl rfl)
theorem dX10_layNames_153 : decode cX10_layNames 153 = .ok (.invokevirtual 125, 3) := dk_182 0 125 (dk_at dksX10_layNames_6 14 rfl rfl)
theorem dX10_layNames_156 : decode cX10_layNames 156 = .ok (.aastore, 1) := dk_83 (dk_at dksX10_layNames_6 17 rfl rfl)
theorem dX10_layNames_157 : decode cX10_layNames 157 = .ok (.iinc 4 1, 3) := dk_132 4 1 (dk_at dksX10_layNames_6 18 rfl rfl)
theorem dX10_layNames_160 : decode cX10_layNames 160 = .ok (.goto (-134), 3) := dk_167 255 122 (dk_at dksX10_layNames_6 21 rfl rfl)
theorem dX10_layNames_163 : decode cX10_layNames 163 = .ok (.aload_n 3, 1) := dk_45 (dk_at dksX10_layNames_7 0 rfl rfl)
theorem dX10_layNames_164 : decode cX10_layNames 164 = .ok (.invokevirtual 129, 3) := dk_182 0 129 (dk_at dksX10_layNames_7 1 rfl rfl)
theorem dX10_layNames_167 : decode cX10_layNames 167 = .ok (.ireturn, 1) := dk_172 (dk_at dksX10_layNames_7 4 rfl rfl)
abbrev cX10_statusAtFirst : ByteArray := prog_7_method_4_code
def yX10_statusAtFirst : MethodName := ⟨RX10, "statusAtFirst", "(I)I"⟩
def dkwX10_statusAtFirst_4 : List UInt8 := [153, 0, 7, 5, 167, 0, 4, 6, 172]
abbrev dktX10_statusAtFirst_4 : List UInt8 := dkwX10_statusAtFirst_4 ++ []
def dkwX10_statusAtFirst_3 : List UInt8 := [27, 50, 42, 180, 0, 43, 180, 0, 51, 27, 182, 0, 86, 192, 0, 130, 180, 0, 142, 182, 0, 146]
abbrev dktX10_statusAtFirst_3 : List UInt8 := dkwX10_statusAtFirst_3 ++ dktX10_statusAtFirst_4
def dkwX10_statusAtFirst_2 : List UInt8 := [16, 6, 172, 42, 180, 0, 32, 27, 50, 182, 0, 139, 16, 24, 164, 0, 6, 16, 7, 172, 42, 180, 0, 32]
abbrev dktX10_statusAtFirst_2 : List UInt8 := dkwX10_statusAtFirst_2 ++ dktX10_statusAtFirst_3
def dkwX10_statusAtFirst_1 : List UInt8 := [180, 0, 17, 27, 46, 2, 160, 0, 5, 3, 172, 42, 180, 0, 32, 27, 50, 182, 0, 136, 153, 0, 6]
abbrev dktX10_statusAtFirst_1 : List UInt8 := dkwX10_statusAtFirst_1 ++ dktX10_statusAtFirst_2
def dkwX10_statusAtFirst_0 : List UInt8 := [42, 180, 0, 43, 180, 0, 51, 27, 182, 0, 86, 192, 0, 130, 180, 0, 132, 153, 0, 5, 4, 172, 42]
abbrev dktX10_statusAtFirst_0 : List UInt8 := dkwX10_statusAtFirst_0 ++ dktX10_statusAtFirst_1
theorem dksX10_statusAtFirst_0 : cX10_statusAtFirst.data.toList.drop 0 = dktX10_statusAtFirst_0 := by decide +kernel
theorem dksX10_statusAtFirst_1 : cX10_statusAtFirst.data.toList.drop 23 = dktX10_statusAtFirst_1 := dk_seg dksX10_statusAtFirst_0 23 rfl rfl
theorem dksX10_statusAtFirst_2 : cX10_statusAtFirst.data.toList.drop 46 = dktX10_statusAtFirst_2 := dk_seg dksX10_statusAtFirst_1 23 rfl rfl
theorem dksX10_statusAtFirst_3 : cX10_statusAtFirst.data.toList.drop 70 = dktX10_statusAtFirst_3 := dk_seg dksX10_statusAtFirst_2 24 rfl rfl
theorem dksX10_statusAtFirst_4 : cX10_statusAtFirst.data.toList.drop 92 = dktX10_statusAtFirst_4 := dk_seg dksX10_statusAtFirst_3 22 rfl rfl
theorem dX10_statusAtFirst_0 : decode cX10_statusAtFirst 0 = .ok (.aload_n 0, 1) := dk_42 (dk_at dksX10_statusAtFirst_0 0 rfl rfl)
theorem dX10_statusAtFirst_1 : decode cX10_statusAtFirst 1 = .ok (.getfield 43, 3) := dk_180 0 43 (dk_at dksX10_statusAtFirst_0 1 rfl rfl)
theorem dX10_statusAtFirst_4 : decode cX10_statusAtFirst 4 = .ok (.getfield 51, 3) := dk_180 0 51 (dk_at dksX10_statusAtFirst_0 4 rfl rfl)
theorem dX10_statusAtFirst_7 : decode cX10_statusAtFirst 7 = .ok (.iload_n 1, 1) := dk_27 (dk_at dksX10_statusAtFirst_0 7 rfl rfl)
theorem dX10_statusAtFirst_8 : decode cX10_statusAtFirst 8 = .ok (.invokevirtual 86, 3) := dk_182 0 86 (dk_at dksX10_statusAtFirst_0 8 rfl rfl)
theorem dX10_statusAtFirst_11 : decode cX10_statusAtFirst 11 = .ok (.checkcast 130, 3) := dk_192 0 130 (dk_at dksX10_statusAtFirst_0 11 rfl rfl)
theorem dX10_statusAtFirst_14 : decode cX10_statusAtFirst 14 = .ok (.getfield 132, 3) := dk_180 0 132 (dk_at dksX10_statusAtFirst_0 14 rfl rfl)
theorem dX10_statusAtFirst_17 : decode cX10_statusAtFirst 17 = .ok (.ifCond .eq 5, 3) := dk_153 0 5 (dk_at dksX10_statusAtFirst_0 17 rfl rfl)
theorem dX10_statusAtFirst_20 : decode cX10_statusAtFirst 20 = .ok (.iconst 1, 1) := dk_4 (dk_at dksX10_statusAtFirst_0 20 rfl rfl)
theorem dX10_statusAtFirst_21 : decode cX10_statusAtFirst 21 = .ok (.ireturn, 1) := dk_172 (dk_at dksX10_statusAtFirst_0 21 rfl rfl)
theorem dX10_statusAtFirst_22 : decode cX10_statusAtFirst 22 = .ok (.aload_n 0, 1) := dk_42 (dk_at dksX10_statusAtFirst_0 22 rfl rfl)
theorem dX10_statusAtFirst_23 : decode cX10_statusAtFirst 23 = .ok (.getfield 17, 3) := dk_180 0 17 (dk_at dksX10_statusAtFirst_1 0 rfl rfl)
theorem dX10_statusAtFirst_26 : decode cX10_statusAtFirst 26 = .ok (.iload_n 1, 1) := dk_27 (dk_at dksX10_statusAtFirst_1 3 rfl rfl)
theorem dX10_statusAtFirst_27 : decode cX10_statusAtFirst 27 = .ok (.iaload, 1) := dk_46 (dk_at dksX10_statusAtFirst_1 4 rfl rfl)
theorem dX10_statusAtFirst_28 : decode cX10_statusAtFirst 28 = .ok (.iconst (-1), 1) := dk_2 (dk_at dksX10_statusAtFirst_1 5 rfl rfl)
theorem dX10_statusAtFirst_29 : decode cX10_statusAtFirst 29 = .ok (.if_icmp .ne 5, 3) := dk_160 0 5 (dk_at dksX10_statusAtFirst_1 6 rfl rfl)
theorem dX10_statusAtFirst_32 : decode cX10_statusAtFirst 32 = .ok (.iconst 0, 1) := dk_3 (dk_at dksX10_statusAtFirst_1 9 rfl rfl)
theorem dX10_statusAtFirst_33 : decode cX10_statusAtFirst 33 = .ok (.ireturn, 1) := dk_172 (dk_at dksX10_statusAtFirst_1 10 rfl rfl)
theorem dX10_statusAtFirst_34 : decode cX10_statusAtFirst 34 = .ok (.aload_n 0, 1) := dk_42 (dk_at dksX10_statusAtFirst_1 11 rfl rfl)
theorem dX10_statusAtFirst_35 : decode cX10_statusAtFirst 35 = .ok (.getfield 32, 3) := dk_180 0 32 (dk_at dksX10_statusAtFirst_1 12 rfl rfl)
theorem dX10_statusAtFirst_38 : decode cX10_statusAtFirst 38 = .ok (.iload_n 1, 1) := dk_27 (dk_at dksX10_statusAtFirst_1 15 rfl rfl)
theorem dX10_statusAtFirst_39 : decode cX10_statusAtFirst 39 = .ok (.aaload, 1) := dk_50 (dk_at dksX10_statusAtFirst_1 16 rfl rfl)
theorem dX10_statusAtFirst_40 : decode cX10_statusAtFirst 40 = .ok (.invokevirtual 136, 3) := dk_182 0 136 (dk_at dksX10_statusAtFirst_1 17 rfl rfl)
theorem dX10_statusAtFirst_43 : decode cX10_statusAtFirst 43 = .ok (.ifCond .eq 6, 3) := dk_153 0 6 (dk_at dksX10_statusAtFirst_1 20 rfl rfl)
theorem dX10_statusAtFirst_46 : decode cX10_statusAtFirst 46 = .ok (.bipush 6, 2) := dk_16 6 (dk_at dksX10_statusAtFirst_2 0 rfl rfl)
theorem dX10_statusAtFirst_48 : decode cX10_statusAtFirst 48 = .ok (.ireturn, 1) := dk_172 (dk_at dksX10_statusAtFirst_2 2 rfl rfl)
theorem dX10_statusAtFirst_49 : decode cX10_statusAtFirst 49 = .ok (.aload_n 0, 1) := dk_42 (dk_at dksX10_statusAtFirst_2 3 rfl rfl)
theorem dX10_statusAtFirst_50 : decode cX10_statusAtFirst 50 = .ok (.getfield 32, 3) := dk_180 0 32 (dk_at dksX10_statusAtFirst_2 4 rfl rfl)
theorem dX10_statusAtFirst_53 : decode cX10_statusAtFirst 53 = .ok (.iload_n 1, 1) := dk_27 (dk_at dksX10_statusAtFirst_2 7 rfl rfl)
theorem dX10_statusAtFirst_54 : decode cX10_statusAtFirst 54 = .ok (.aaload, 1) := dk_50 (dk_at dksX10_statusAtFirst_2 8 rfl rfl)
theorem dX10_statusAtFirst_55 : decode cX10_statusAtFirst 55 = .ok (.invokevirtual 139, 3) := dk_182 0 139 (dk_at dksX10_statusAtFirst_2 9 rfl rfl)
theorem dX10_statusAtFirst_58 : decode cX10_statusAtFirst 58 = .ok (.bipush 24, 2) := dk_16 24 (dk_at dksX10_statusAtFirst_2 12 rfl rfl)
theorem dX10_statusAtFirst_60 : decode cX10_statusAtFirst 60 = .ok (.if_icmp .le 6, 3) := dk_164 0 6 (dk_at dksX10_statusAtFirst_2 14 rfl rfl)
theorem dX10_statusAtFirst_63 : decode cX10_statusAtFirst 63 = .ok (.bipush 7, 2) := dk_16 7 (dk_at dksX10_statusAtFirst_2 17 rfl rfl)
theorem dX10_statusAtFirst_65 : decode cX10_statusAtFirst 65 = .ok (.ireturn, 1) := dk_172 (dk_at dksX10_statusAtFirst_2 19 rfl rfl)
theorem dX10_statusAtFirst_66 : decode cX10_statusAtFirst 66 = .ok (.aload_n 0, 1) := dk_42 (dk_at dksX10_statusAtFirst_2 20 rfl rfl)
theorem dX10_statusAtFirst_67 : decode cX10_statusAtFirst 67 = .ok (.getfield 32, 3) := dk_180 0 32 (dk_at dksX10_statusAtFirst_2 21 rfl rfl)
theorem dX10_statusAtFirst_70 : decode cX10_statusAtFirst 70 = .ok (.iload_n 1, 1) := dk_27 (dk_at dksX10_statusAtFirst_3 0 rfl rfl)
theorem dX10_statusAtFirst_71 : decode cX10_statusAtFirst 71 = .ok (.aaload, 1) := dk_50 (dk_at dksX10_statusAtFirst_3 1 rfl rfl)
theorem dX10_statusAtFirst_72 : decode cX10_statusAtFirst 72 = .ok (.aload_n 0, 1) := dk_42 (dk_at dksX10_statusAtFirst_3 2 rfl rfl)
theorem dX10_statusAtFirst_73 : decode cX10_statusAtFirst 73 = .ok (.getfield 43, 3) := dk_180 0 43 (dk_at dksX10_statusAtFirst_3 3 rfl rfl)
theorem dX10_statusAtFirst_76 : decode cX10_statusAtFirst 76 = .ok (.getfield 51, 3) := dk_180 0 51 (dk_at dksX10_statusAtFirst_3 6 rfl rfl)
theorem dX10_statusAtFirst_79 : decode cX10_statusAtFirst 79 = .ok (.iload_n 1, 1) := dk_27 (dk_at dksX10_statusAtFirst_3 9 rfl rfl)
theorem dX10_statusAtFirst_80 : decode cX10_statusAtFirst 80 = .ok (.invokevirtual 86, 3) := dk_182 0 86 (dk_at dksX10_statusAtFirst_3 10 rfl rfl)
theorem dX10_statusAtFirst_83 : decode cX10_statusAtFirst 83 = .ok (.checkcast 130, 3) := dk_192 0 130 (dk_at dksX10_statusAtFirst_3 13 rfl rfl)
theorem dX10_statusAtFirst_86 : decode cX10_statusAtFirst 86 = .ok (.getfield 142, 3) := dk_180 0 142 (dk_at dksX10_statusAtFirst_3 16 rfl rfl)
theorem dX10_statusAtFirst_89 : decode cX10_statusAtFirst 89 = .ok (.invokevirtual 146, 3) := dk_182 0 146 (dk_at dksX10_statusAtFirst_3 19 rfl rfl)
theorem dX10_statusAtFirst_92 : decode cX10_statusAtFirst 92 = .ok (.ifCond .eq 7, 3) := dk_153 0 7 (dk_at dksX10_statusAtFirst_4 0 rfl rfl)
theorem dX10_statusAtFirst_95 : decode cX10_statusAtFirst 95 = .ok (.iconst 2, 1) := dk_5 (dk_at dksX10_statusAtFirst_4 3 rfl rfl)
theorem dX10_statusAtFirst_96 : decode cX10_statusAtFirst 96 = .ok (.goto 4, 3) := dk_167 0 4 (dk_at dksX10_statusAtFirst_4 4 rfl rfl)
theorem dX10_statusAtFirst_99 : decode cX10_statusAtFirst 99 = .ok (.iconst 3, 1) := dk_6 (dk_at dksX10_statusAtFirst_4 7 rfl rfl)
theorem dX10_statusAtFirst_100 : decode cX10_statusAtFirst 100 = .ok (.ireturn, 1) := dk_172 (dk_at dksX10_statusAtFirst_4 8 rfl rfl)
abbrev cX10_givesUp : ByteArray := prog_7_method_7_code
def yX10_givesUp : MethodName := ⟨RX10, "givesUp", "()Z"⟩
def dkwX10_givesUp_4 : List UInt8 := [28, 172]
abbrev dktX10_givesUp_4 : List UInt8 := dkwX10_givesUp_4 ++ []
def dkwX10_givesUp_3 : List UInt8 := [167, 0, 4, 3, 128, 61, 132, 3, 1, 167, 255, 192, 43, 3, 42, 180, 0, 24, 3, 16, 20, 184, 0, 166]
abbrev dktX10_givesUp_3 : List UInt8 := dkwX10_givesUp_3 ++ dktX10_givesUp_4
def dkwX10_givesUp_2 : List UInt8 := [29, 182, 0, 163, 153, 0, 7, 8, 167, 0, 4, 6, 79, 28, 43, 29, 46, 6, 159, 0, 7, 4]
abbrev dktX10_givesUp_2 : List UInt8 := dkwX10_givesUp_2 ++ dktX10_givesUp_3
def dkwX10_givesUp_1 : List UInt8 := [180, 0, 24, 29, 46, 6, 160, 0, 46, 43, 29, 42, 29, 182, 0, 159, 153, 0, 7, 7, 167, 0, 16, 42]
abbrev dktX10_givesUp_1 : List UInt8 := dkwX10_givesUp_1 ++ dktX10_givesUp_2
def dkwX10_givesUp_0 : List UInt8 := [42, 180, 0, 24, 182, 0, 154, 192, 0, 155, 76, 3, 61, 3, 62, 29, 42, 180, 0, 63, 162, 0, 62, 42]
abbrev dktX10_givesUp_0 : List UInt8 := dkwX10_givesUp_0 ++ dktX10_givesUp_1
theorem dksX10_givesUp_0 : cX10_givesUp.data.toList.drop 0 = dktX10_givesUp_0 := by decide +kernel
theorem dksX10_givesUp_1 : cX10_givesUp.data.toList.drop 24 = dktX10_givesUp_1 := dk_seg dksX10_givesUp_0 24 rfl rfl
theorem dksX10_givesUp_2 : cX10_givesUp.data.toList.drop 48 = dktX10_givesUp_2 := dk_seg dksX10_givesUp_1 24 rfl rfl
theorem dksX10_givesUp_3 : cX10_givesUp.data.toList.drop 70 = dktX10_givesUp_3 := dk_seg dksX10_givesUp_2 22 rfl rfl
theorem dksX10_givesUp_4 : cX10_givesUp.data.toList.drop 94 = dktX10_givesUp_4 := dk_seg dksX10_givesUp_3 24 rfl rfl
theorem dX10_givesUp_0 : decode cX10_givesUp 0 = .ok (.aload_n 0, 1) := dk_42 (dk_at dksX10_givesUp_0 0 rfl rfl)
theorem dX10_givesUp_1 : decode cX10_givesUp 1 = .ok (.getfield 24, 3) := dk_180 0 24 (dk_at dksX10_givesUp_0 1 rfl rfl)
theorem dX10_givesUp_4 : decode cX10_givesUp 4 = .ok (.invokevirtual 154, 3) := dk_182 0 154 (dk_at dksX10_givesUp_0 4 rfl rfl)
theorem dX10_givesUp_7 : decode cX10_givesUp 7 = .ok (.checkcast 155, 3) := dk_192 0 155 (dk_at dksX10_givesUp_0 7 rfl rfl)
theorem dX10_givesUp_10 : decode cX10_givesUp 10 = .ok (.astore_n 1, 1) := dk_76 (dk_at dksX10_givesUp_0 10 rfl rfl)
theorem dX10_givesUp_11 : decode cX10_givesUp 11 = .ok (.iconst 0, 1) := dk_3 (dk_at dksX10_givesUp_0 11 rfl rfl)
theorem dX10_givesUp_12 : decode cX10_givesUp 12 = .ok (.istore_n 2, 1) := dk_61 (dk_at dksX10_givesUp_0 12 rfl rfl)
theorem dX10_givesUp_13 : decode cX10_givesUp 13 = .ok (.iconst 0, 1) := dk_3 (dk_at dksX10_givesUp_0 13 rfl rfl)
theorem dX10_givesUp_14 : decode cX10_givesUp 14 = .ok (.istore_n 3, 1) := dk_62 (dk_at dksX10_givesUp_0 14 rfl rfl)
theorem dX10_givesUp_15 : decode cX10_givesUp 15 = .ok (.iload_n 3, 1) := dk_29 (dk_at dksX10_givesUp_0 15 rfl rfl)
theorem dX10_givesUp_16 : decode cX10_givesUp 16 = .ok (.aload_n 0, 1) := dk_42 (dk_at dksX10_givesUp_0 16 rfl rfl)
theorem dX10_givesUp_17 : decode cX10_givesUp 17 = .ok (.getfield 63, 3) := dk_180 0 63 (dk_at dksX10_givesUp_0 17 rfl rfl)
theorem dX10_givesUp_20 : decode cX10_givesUp 20 = .ok (.if_icmp .ge 62, 3) := dk_162 0 62 (dk_at dksX10_givesUp_0 20 rfl rfl)
theorem dX10_givesUp_23 : decode cX10_givesUp 23 = .ok (.aload_n 0, 1) := dk_42 (dk_at dksX10_givesUp_0 23 rfl rfl)
theorem dX10_givesUp_24 : decode cX10_givesUp 24 = .ok (.getfield 24, 3) := dk_180 0 24 (dk_at dksX10_givesUp_1 0 rfl rfl)
theorem dX10_givesUp_27 : decode cX10_givesUp 27 = .ok (.iload_n 3, 1) := dk_29 (dk_at dksX10_givesUp_1 3 rfl rfl)
theorem dX10_givesUp_28 : decode cX10_givesUp 28 = .ok (.iaload, 1) := dk_46 (dk_at dksX10_givesUp_1 4 rfl rfl)
theorem dX10_givesUp_29 : decode cX10_givesUp 29 = .ok (.iconst 3, 1) := dk_6 (dk_at dksX10_givesUp_1 5 rfl rfl)
theorem dX10_givesUp_30 : decode cX10_givesUp 30 = .ok (.if_icmp .ne 46, 3) := dk_160 0 46 (dk_at dksX10_givesUp_1 6 rfl rfl)
theorem dX10_givesUp_33 : decode cX10_givesUp 33 = .ok (.aload_n 1, 1) := dk_43 (dk_at dksX10_givesUp_1 9 rfl rfl)
theorem dX10_givesUp_34 : decode cX10_givesUp 34 = .ok (.iload_n 3, 1) := dk_29 (dk_at dksX10_givesUp_1 10 rfl rfl)
theorem dX10_givesUp_35 : decode cX10_givesUp 35 = .ok (.aload_n 0, 1) := dk_42 (dk_at dksX10_givesUp_1 11 rfl rfl)
theorem dX10_givesUp_36 : decode cX10_givesUp 36 = .ok (.iload_n 3, 1) := dk_29 (dk_at dksX10_givesUp_1 12 rfl rfl)
theorem dX10_givesUp_37 : decode cX10_givesUp 37 = .ok (.invokevirtual 159, 3) := dk_182 0 159 (dk_at dksX10_givesUp_1 13 rfl rfl)
theorem dX10_givesUp_40 : decode cX10_givesUp 40 = .ok (.ifCond .eq 7, 3) := dk_153 0 7 (dk_at dksX10_givesUp_1 16 rfl rfl)
theorem dX10_givesUp_43 : decode cX10_givesUp 43 = .ok (.iconst 4, 1) := dk_7 (dk_at dksX10_givesUp_1 19 rfl rfl)
theorem dX10_givesUp_44 : decode cX10_givesUp 44 = .ok (.goto 16, 3) := dk_167 0 16 (dk_at dksX10_givesUp_1 20 rfl rfl)
theorem dX10_givesUp_47 : decode cX10_givesUp 47 = .ok (.aload_n 0, 1) := dk_42 (dk_at dksX10_givesUp_1 23 rfl rfl)
theorem dX10_givesUp_48 : decode cX10_givesUp 48 = .ok (.iload_n 3, 1) := dk_29 (dk_at dksX10_givesUp_2 0 rfl rfl)
theorem dX10_givesUp_49 : decode cX10_givesUp 49 = .ok (.invokevirtual 163, 3) := dk_182 0 163 (dk_at dksX10_givesUp_2 1 rfl rfl)
theorem dX10_givesUp_52 : decode cX10_givesUp 52 = .ok (.ifCond .eq 7, 3) := dk_153 0 7 (dk_at dksX10_givesUp_2 4 rfl rfl)
theorem dX10_givesUp_55 : decode cX10_givesUp 55 = .ok (.iconst 5, 1) := dk_8 (dk_at dksX10_givesUp_2 7 rfl rfl)
theorem dX10_givesUp_56 : decode cX10_givesUp 56 = .ok (.goto 4, 3) := dk_167 0 4 (dk_at dksX10_givesUp_2 8 rfl rfl)
theorem dX10_givesUp_59 : decode cX10_givesUp 59 = .ok (.iconst 3, 1) := dk_6 (dk_at dksX10_givesUp_2 11 rfl rfl)
theorem dX10_givesUp_60 : decode cX10_givesUp 60 = .ok (.iastore, 1) := dk_79 (dk_at dksX10_givesUp_2 12 rfl rfl)
theorem dX10_givesUp_61 : decode cX10_givesUp 61 = .ok (.iload_n 2, 1) := dk_28 (dk_at dksX10_givesUp_2 13 rfl rfl)
theorem dX10_givesUp_62 : decode cX10_givesUp 62 = .ok (.aload_n 1, 1) := dk_43 (dk_at dksX10_givesUp_2 14 rfl rfl)
theorem dX10_givesUp_63 : decode cX10_givesUp 63 = .ok (.iload_n 3, 1) := dk_29 (dk_at dksX10_givesUp_2 15 rfl rfl)
theorem dX10_givesUp_64 : decode cX10_givesUp 64 = .ok (.iaload, 1) := dk_46 (dk_at dksX10_givesUp_2 16 rfl rfl)
theorem dX10_givesUp_65 : decode cX10_givesUp 65 = .ok (.iconst 3, 1) := dk_6 (dk_at dksX10_givesUp_2 17 rfl rfl)
theorem dX10_givesUp_66 : decode cX10_givesUp 66 = .ok (.if_icmp .eq 7, 3) := dk_159 0 7 (dk_at dksX10_givesUp_2 18 rfl rfl)
theorem dX10_givesUp_69 : decode cX10_givesUp 69 = .ok (.iconst 1, 1) := dk_4 (dk_at dksX10_givesUp_2 21 rfl rfl)
theorem dX10_givesUp_70 : decode cX10_givesUp 70 = .ok (.goto 4, 3) := dk_167 0 4 (dk_at dksX10_givesUp_3 0 rfl rfl)
theorem dX10_givesUp_73 : decode cX10_givesUp 73 = .ok (.iconst 0, 1) := dk_3 (dk_at dksX10_givesUp_3 3 rfl rfl)
theorem dX10_givesUp_74 : decode cX10_givesUp 74 = .ok (.ior, 1) := dk_128 (dk_at dksX10_givesUp_3 4 rfl rfl)
theorem dX10_givesUp_75 : decode cX10_givesUp 75 = .ok (.istore_n 2, 1) := dk_61 (dk_at dksX10_givesUp_3 5 rfl rfl)
theorem dX10_givesUp_76 : decode cX10_givesUp 76 = .ok (.iinc 3 1, 3) := dk_132 3 1 (dk_at dksX10_givesUp_3 6 rfl rfl)
theorem dX10_givesUp_79 : decode cX10_givesUp 79 = .ok (.goto (-64), 3) := dk_167 255 192 (dk_at dksX10_givesUp_3 9 rfl rfl)
theorem dX10_givesUp_82 : decode cX10_givesUp 82 = .ok (.aload_n 1, 1) := dk_43 (dk_at dksX10_givesUp_3 12 rfl rfl)
theorem dX10_givesUp_83 : decode cX10_givesUp 83 = .ok (.iconst 0, 1) := dk_3 (dk_at dksX10_givesUp_3 13 rfl rfl)
theorem dX10_givesUp_84 : decode cX10_givesUp 84 = .ok (.aload_n 0, 1) := dk_42 (dk_at dksX10_givesUp_3 14 rfl rfl)
theorem dX10_givesUp_85 : decode cX10_givesUp 85 = .ok (.getfield 24, 3) := dk_180 0 24 (dk_at dksX10_givesUp_3 15 rfl rfl)
theorem dX10_givesUp_88 : decode cX10_givesUp 88 = .ok (.iconst 0, 1) := dk_3 (dk_at dksX10_givesUp_3 18 rfl rfl)
theorem dX10_givesUp_89 : decode cX10_givesUp 89 = .ok (.bipush 20, 2) := dk_16 20 (dk_at dksX10_givesUp_3 19 rfl rfl)
theorem dX10_givesUp_91 : decode cX10_givesUp 91 = .ok (.invokestatic 166, 3) := dk_184 0 166 (dk_at dksX10_givesUp_3 21 rfl rfl)
theorem dX10_givesUp_94 : decode cX10_givesUp 94 = .ok (.iload_n 2, 1) := dk_28 (dk_at dksX10_givesUp_4 0 rfl rfl)
theorem dX10_givesUp_95 : decode cX10_givesUp 95 = .ok (.ireturn, 1) := dk_172 (dk_at dksX10_givesUp_4 1 rfl rfl)
abbrev cX10_isShared : ByteArray := prog_7_method_5_code
def yX10_isShared : MethodName := ⟨RX10, "isShared", "(I)Z"⟩
def dkwX10_isShared_2 : List UInt8 := [167, 0, 4, 3, 128, 61, 132, 3, 1, 167, 255, 204, 28, 172]
abbrev dktX10_isShared_2 : List UInt8 := dkwX10_isShared_2 ++ []
def dkwX10_isShared_1 : List UInt8 := [6, 160, 0, 25, 42, 180, 0, 32, 29, 50, 42, 180, 0, 32, 27, 50, 182, 0, 146, 153, 0, 7, 4]
abbrev dktX10_isShared_1 : List UInt8 := dkwX10_isShared_1 ++ dktX10_isShared_2
def dkwX10_isShared_0 : List UInt8 := [3, 61, 3, 62, 29, 42, 180, 0, 63, 162, 0, 50, 28, 29, 27, 159, 0, 35, 42, 180, 0, 24, 29, 46]
abbrev dktX10_isShared_0 : List UInt8 := dkwX10_isShared_0 ++ dktX10_isShared_1
theorem dksX10_isShared_0 : cX10_isShared.data.toList.drop 0 = dktX10_isShared_0 := by decide +kernel
theorem dksX10_isShared_1 : cX10_isShared.data.toList.drop 24 = dktX10_isShared_1 := dk_seg dksX10_isShared_0 24 rfl rfl
theorem dksX10_isShared_2 : cX10_isShared.data.toList.drop 47 = dktX10_isShared_2 := dk_seg dksX10_isShared_1 23 rfl rfl
theorem dX10_isShared_0 : decode cX10_isShared 0 = .ok (.iconst 0, 1) := dk_3 (dk_at dksX10_isShared_0 0 rfl rfl)
theorem dX10_isShared_1 : decode cX10_isShared 1 = .ok (.istore_n 2, 1) := dk_61 (dk_at dksX10_isShared_0 1 rfl rfl)
theorem dX10_isShared_2 : decode cX10_isShared 2 = .ok (.iconst 0, 1) := dk_3 (dk_at dksX10_isShared_0 2 rfl rfl)
theorem dX10_isShared_3 : decode cX10_isShared 3 = .ok (.istore_n 3, 1) := dk_62 (dk_at dksX10_isShared_0 3 rfl rfl)
theorem dX10_isShared_4 : decode cX10_isShared 4 = .ok (.iload_n 3, 1) := dk_29 (dk_at dksX10_isShared_0 4 rfl rfl)
theorem dX10_isShared_5 : decode cX10_isShared 5 = .ok (.aload_n 0, 1) := dk_42 (dk_at dksX10_isShared_0 5 rfl rfl)
theorem dX10_isShared_6 : decode cX10_isShared 6 = .ok (.getfield 63, 3) := dk_180 0 63 (dk_at dksX10_isShared_0 6 rfl rfl)
theorem dX10_isShared_9 : decode cX10_isShared 9 = .ok (.if_icmp .ge 50, 3) := dk_162 0 50 (dk_at dksX10_isShared_0 9 rfl rfl)
theorem dX10_isShared_12 : decode cX10_isShared 12 = .ok (.iload_n 2, 1) := dk_28 (dk_at dksX10_isShared_0 12 rfl rfl)
theorem dX10_isShared_13 : decode cX10_isShared 13 = .ok (.iload_n 3, 1) := dk_29 (dk_at dksX10_isShared_0 13 rfl rfl)
theorem dX10_isShared_14 : decode cX10_isShared 14 = .ok (.iload_n 1, 1) := dk_27 (dk_at dksX10_isShared_0 14 rfl rfl)
theorem dX10_isShared_15 : decode cX10_isShared 15 = .ok (.if_icmp .eq 35, 3) := dk_159 0 35 (dk_at dksX10_isShared_0 15 rfl rfl)
theorem dX10_isShared_18 : decode cX10_isShared 18 = .ok (.aload_n 0, 1) := dk_42 (dk_at dksX10_isShared_0 18 rfl rfl)
theorem dX10_isShared_19 : decode cX10_isShared 19 = .ok (.getfield 24, 3) := dk_180 0 24 (dk_at dksX10_isShared_0 19 rfl rfl)
theorem dX10_isShared_22 : decode cX10_isShared 22 = .ok (.iload_n 3, 1) := dk_29 (dk_at dksX10_isShared_0 22 rfl rfl)
theorem dX10_isShared_23 : decode cX10_isShared 23 = .ok (.iaload, 1) := dk_46 (dk_at dksX10_isShared_0 23 rfl rfl)
theorem dX10_isShared_24 : decode cX10_isShared 24 = .ok (.iconst 3, 1) := dk_6 (dk_at dksX10_isShared_1 0 rfl rfl)
theorem dX10_isShared_25 : decode cX10_isShared 25 = .ok (.if_icmp .ne 25, 3) := dk_160 0 25 (dk_at dksX10_isShared_1 1 rfl rfl)
theorem dX10_isShared_28 : decode cX10_isShared 28 = .ok (.aload_n 0, 1) := dk_42 (dk_at dksX10_isShared_1 4 rfl rfl)
theorem dX10_isShared_29 : decode cX10_isShared 29 = .ok (.getfield 32, 3) := dk_180 0 32 (dk_at dksX10_isShared_1 5 rfl rfl)
theorem dX10_isShared_32 : decode cX10_isShared 32 = .ok (.iload_n 3, 1) := dk_29 (dk_at dksX10_isShared_1 8 rfl rfl)
theorem dX10_isShared_33 : decode cX10_isShared 33 = .ok (.aaload, 1) := dk_50 (dk_at dksX10_isShared_1 9 rfl rfl)
theorem dX10_isShared_34 : decode cX10_isShared 34 = .ok (.aload_n 0, 1) := dk_42 (dk_at dksX10_isShared_1 10 rfl rfl)
theorem dX10_isShared_35 : decode cX10_isShared 35 = .ok (.getfield 32, 3) := dk_180 0 32 (dk_at dksX10_isShared_1 11 rfl rfl)
theorem dX10_isShared_38 : decode cX10_isShared 38 = .ok (.iload_n 1, 1) := dk_27 (dk_at dksX10_isShared_1 14 rfl rfl)
theorem dX10_isShared_39 : decode cX10_isShared 39 = .ok (.aaload, 1) := dk_50 (dk_at dksX10_isShared_1 15 rfl rfl)
theorem dX10_isShared_40 : decode cX10_isShared 40 = .ok (.invokevirtual 146, 3) := dk_182 0 146 (dk_at dksX10_isShared_1 16 rfl rfl)
theorem dX10_isShared_43 : decode cX10_isShared 43 = .ok (.ifCond .eq 7, 3) := dk_153 0 7 (dk_at dksX10_isShared_1 19 rfl rfl)
theorem dX10_isShared_46 : decode cX10_isShared 46 = .ok (.iconst 1, 1) := dk_4 (dk_at dksX10_isShared_1 22 rfl rfl)
theorem dX10_isShared_47 : decode cX10_isShared 47 = .ok (.goto 4, 3) := dk_167 0 4 (dk_at dksX10_isShared_2 0 rfl rfl)
theorem dX10_isShared_50 : decode cX10_isShared 50 = .ok (.iconst 0, 1) := dk_3 (dk_at dksX10_isShared_2 3 rfl rfl)
theorem dX10_isShared_51 : decode cX10_isShared 51 = .ok (.ior, 1) := dk_128 (dk_at dksX10_isShared_2 4 rfl rfl)
theorem dX10_isShared_52 : decode cX10_isShared 52 = .ok (.istore_n 2, 1) := dk_61 (dk_at dksX10_isShared_2 5 rfl rfl)
theorem dX10_isShared_53 : decode cX10_isShared 53 = .ok (.iinc 3 1, 3) := dk_132 3 1 (dk_at dksX10_isShared_2 6 rfl rfl)
theorem dX10_isShared_56 : decode cX10_isShared 56 = .ok (.goto (-52), 3) := dk_167 255 204 (dk_at dksX10_isShared_2 9 rfl rfl)
theorem dX10_isShared_59 : decode cX10_isShared 59 = .ok (.iload_n 2, 1) := dk_28 (dk_at dksX10_isShared_2 12 rfl rfl)
theorem dX10_isShared_60 : decode cX10_isShared 60 = .ok (.ireturn, 1) := dk_172 (dk_at dksX10_isShared_2 13 rfl rfl)
abbrev cX10_isTaken : ByteArray := prog_7_method_6_code
def yX10_isTaken : MethodName := ⟨RX10, "isTaken", "(I)Z"⟩
def dkwX10_isTaken_1 : List UInt8 := [46, 6, 159, 0, 7, 4, 167, 0, 4, 3, 172]
abbrev dktX10_isTaken_1 : List UInt8 := dkwX10_isTaken_1 ++ []
def dkwX10_isTaken_0 : List UInt8 := [42, 180, 0, 43, 42, 180, 0, 32, 27, 50, 182, 0, 150, 61, 28, 2, 159, 0, 17, 42, 180, 0, 24, 28]
abbrev dktX10_isTaken_0 : List UInt8 := dkwX10_isTaken_0 ++ dktX10_isTaken_1
theorem dksX10_isTaken_0 : cX10_isTaken.data.toList.drop 0 = dktX10_isTaken_0 := by decide +kernel
theorem dksX10_isTaken_1 : cX10_isTaken.data.toList.drop 24 = dktX10_isTaken_1 := dk_seg dksX10_isTaken_0 24 rfl rfl
theorem dX10_isTaken_0 : decode cX10_isTaken 0 = .ok (.aload_n 0, 1) := dk_42 (dk_at dksX10_isTaken_0 0 rfl rfl)
theorem dX10_isTaken_1 : decode cX10_isTaken 1 = .ok (.getfield 43, 3) := dk_180 0 43 (dk_at dksX10_isTaken_0 1 rfl rfl)
theorem dX10_isTaken_4 : decode cX10_isTaken 4 = .ok (.aload_n 0, 1) := dk_42 (dk_at dksX10_isTaken_0 4 rfl rfl)
theorem dX10_isTaken_5 : decode cX10_isTaken 5 = .ok (.getfield 32, 3) := dk_180 0 32 (dk_at dksX10_isTaken_0 5 rfl rfl)
theorem dX10_isTaken_8 : decode cX10_isTaken 8 = .ok (.iload_n 1, 1) := dk_27 (dk_at dksX10_isTaken_0 8 rfl rfl)
theorem dX10_isTaken_9 : decode cX10_isTaken 9 = .ok (.aaload, 1) := dk_50 (dk_at dksX10_isTaken_0 9 rfl rfl)
theorem dX10_isTaken_10 : decode cX10_isTaken 10 = .ok (.invokevirtual 150, 3) := dk_182 0 150 (dk_at dksX10_isTaken_0 10 rfl rfl)
theorem dX10_isTaken_13 : decode cX10_isTaken 13 = .ok (.istore_n 2, 1) := dk_61 (dk_at dksX10_isTaken_0 13 rfl rfl)
theorem dX10_isTaken_14 : decode cX10_isTaken 14 = .ok (.iload_n 2, 1) := dk_28 (dk_at dksX10_isTaken_0 14 rfl rfl)
theorem dX10_isTaken_15 : decode cX10_isTaken 15 = .ok (.iconst (-1), 1) := dk_2 (dk_at dksX10_isTaken_0 15 rfl rfl)
theorem dX10_isTaken_16 : decode cX10_isTaken 16 = .ok (.if_icmp .eq 17, 3) := dk_159 0 17 (dk_at dksX10_isTaken_0 16 rfl rfl)
theorem dX10_isTaken_19 : decode cX10_isTaken 19 = .ok (.aload_n 0, 1) := dk_42 (dk_at dksX10_isTaken_0 19 rfl rfl)
theorem dX10_isTaken_20 : decode cX10_isTaken 20 = .ok (.getfield 24, 3) := dk_180 0 24 (dk_at dksX10_isTaken_0 20 rfl rfl)
theorem dX10_isTaken_23 : decode cX10_isTaken 23 = .ok (.iload_n 2, 1) := dk_28 (dk_at dksX10_isTaken_0 23 rfl rfl)
theorem dX10_isTaken_24 : decode cX10_isTaken 24 = .ok (.iaload, 1) := dk_46 (dk_at dksX10_isTaken_1 0 rfl rfl)
theorem dX10_isTaken_25 : decode cX10_isTaken 25 = .ok (.iconst 3, 1) := dk_6 (dk_at dksX10_isTaken_1 1 rfl rfl)
theorem dX10_isTaken_26 : decode cX10_isTaken 26 = .ok (.if_icmp .eq 7, 3) := dk_159 0 7 (dk_at dksX10_isTaken_1 2 rfl rfl)
theorem dX10_isTaken_29 : decode cX10_isTaken 29 = .ok (.iconst 1, 1) := dk_4 (dk_at dksX10_isTaken_1 5 rfl rfl)
theorem dX10_isTaken_30 : decode cX10_isTaken 30 = .ok (.goto 4, 3) := dk_167 0 4 (dk_at dksX10_isTaken_1 6 rfl rfl)
theorem dX10_isTaken_33 : decode cX10_isTaken 33 = .ok (.iconst 0, 1) := dk_3 (dk_at dksX10_isTaken_1 9 rfl rfl)
theorem dX10_isTaken_34 : decode cX10_isTaken 34 = .ok (.ireturn, 1) := dk_172 (dk_at dksX10_isTaken_1 10 rfl rfl)
abbrev cX10_cycle : ByteArray := prog_7_method_9_code
def yX10_cycle : MethodName := ⟨RX10, "cycle", "(I)I"⟩
def dkwX10_cycle_2 : List UInt8 := [160, 0, 5, 3, 172, 132, 3, 1, 167, 255, 205, 3, 172]
abbrev dktX10_cycle_2 : List UInt8 := dkwX10_cycle_2 ++ []
def dkwX10_cycle_1 : List UInt8 := [42, 180, 0, 43, 42, 180, 0, 32, 28, 50, 182, 0, 150, 61, 28, 27, 160, 0, 5, 29, 172, 28, 2]
abbrev dktX10_cycle_1 : List UInt8 := dkwX10_cycle_1 ++ dktX10_cycle_2
def dkwX10_cycle_0 : List UInt8 := [27, 61, 4, 62, 29, 42, 180, 0, 63, 163, 0, 49, 42, 180, 0, 24, 28, 46, 6, 159, 0, 5, 3, 172]
abbrev dktX10_cycle_0 : List UInt8 := dkwX10_cycle_0 ++ dktX10_cycle_1
theorem dksX10_cycle_0 : cX10_cycle.data.toList.drop 0 = dktX10_cycle_0 := by decide +kernel
theorem dksX10_cycle_1 : cX10_cycle.data.toList.drop 24 = dktX10_cycle_1 := dk_seg dksX10_cycle_0 24 rfl rfl
theorem dksX10_cycle_2 : cX10_cycle.data.toList.drop 47 = dktX10_cycle_2 := dk_seg dksX10_cycle_1 23 rfl rfl
theorem dX10_cycle_0 : decode cX10_cycle 0 = .ok (.iload_n 1, 1) := dk_27 (dk_at dksX10_cycle_0 0 rfl rfl)
theorem dX10_cycle_1 : decode cX10_cycle 1 = .ok (.istore_n 2, 1) := dk_61 (dk_at dksX10_cycle_0 1 rfl rfl)
theorem dX10_cycle_2 : decode cX10_cycle 2 = .ok (.iconst 1, 1) := dk_4 (dk_at dksX10_cycle_0 2 rfl rfl)
theorem dX10_cycle_3 : decode cX10_cycle 3 = .ok (.istore_n 3, 1) := dk_62 (dk_at dksX10_cycle_0 3 rfl rfl)
theorem dX10_cycle_4 : decode cX10_cycle 4 = .ok (.iload_n 3, 1) := dk_29 (dk_at dksX10_cycle_0 4 rfl rfl)
theorem dX10_cycle_5 : decode cX10_cycle 5 = .ok (.aload_n 0, 1) := dk_42 (dk_at dksX10_cycle_0 5 rfl rfl)
theorem dX10_cycle_6 : decode cX10_cycle 6 = .ok (.getfield 63, 3) := dk_180 0 63 (dk_at dksX10_cycle_0 6 rfl rfl)
theorem dX10_cycle_9 : decode cX10_cycle 9 = .ok (.if_icmp .gt 49, 3) := dk_163 0 49 (dk_at dksX10_cycle_0 9 rfl rfl)
theorem dX10_cycle_12 : decode cX10_cycle 12 = .ok (.aload_n 0, 1) := dk_42 (dk_at dksX10_cycle_0 12 rfl rfl)
theorem dX10_cycle_13 : decode cX10_cycle 13 = .ok (.getfield 24, 3) := dk_180 0 24 (dk_at dksX10_cycle_0 13 rfl rfl)
theorem dX10_cycle_16 : decode cX10_cycle 16 = .ok (.iload_n 2, 1) := dk_28 (dk_at dksX10_cycle_0 16 rfl rfl)
theorem dX10_cycle_17 : decode cX10_cycle 17 = .ok (.iaload, 1) := dk_46 (dk_at dksX10_cycle_0 17 rfl rfl)
theorem dX10_cycle_18 : decode cX10_cycle 18 = .ok (.iconst 3, 1) := dk_6 (dk_at dksX10_cycle_0 18 rfl rfl)
theorem dX10_cycle_19 : decode cX10_cycle 19 = .ok (.if_icmp .eq 5, 3) := dk_159 0 5 (dk_at dksX10_cycle_0 19 rfl rfl)
theorem dX10_cycle_22 : decode cX10_cycle 22 = .ok (.iconst 0, 1) := dk_3 (dk_at dksX10_cycle_0 22 rfl rfl)
theorem dX10_cycle_23 : decode cX10_cycle 23 = .ok (.ireturn, 1) := dk_172 (dk_at dksX10_cycle_0 23 rfl rfl)
theorem dX10_cycle_24 : decode cX10_cycle 24 = .ok (.aload_n 0, 1) := dk_42 (dk_at dksX10_cycle_1 0 rfl rfl)
theorem dX10_cycle_25 : decode cX10_cycle 25 = .ok (.getfield 43, 3) := dk_180 0 43 (dk_at dksX10_cycle_1 1 rfl rfl)
theorem dX10_cycle_28 : decode cX10_cycle 28 = .ok (.aload_n 0, 1) := dk_42 (dk_at dksX10_cycle_1 4 rfl rfl)
theorem dX10_cycle_29 : decode cX10_cycle 29 = .ok (.getfield 32, 3) := dk_180 0 32 (dk_at dksX10_cycle_1 5 rfl rfl)
theorem dX10_cycle_32 : decode cX10_cycle 32 = .ok (.iload_n 2, 1) := dk_28 (dk_at dksX10_cycle_1 8 rfl rfl)
theorem dX10_cycle_33 : decode cX10_cycle 33 = .ok (.aaload, 1) := dk_50 (dk_at dksX10_cycle_1 9 rfl rfl)
theorem dX10_cycle_34 : decode cX10_cycle 34 = .ok (.invokevirtual 150, 3) := dk_182 0 150 (dk_at dksX10_cycle_1 10 rfl rfl)
theorem dX10_cycle_37 : decode cX10_cycle 37 = .ok (.istore_n 2, 1) := dk_61 (dk_at dksX10_cycle_1 13 rfl rfl)
theorem dX10_cycle_38 : decode cX10_cycle 38 = .ok (.iload_n 2, 1) := dk_28 (dk_at dksX10_cycle_1 14 rfl rfl)
theorem dX10_cycle_39 : decode cX10_cycle 39 = .ok (.iload_n 1, 1) := dk_27 (dk_at dksX10_cycle_1 15 rfl rfl)
theorem dX10_cycle_40 : decode cX10_cycle 40 = .ok (.if_icmp .ne 5, 3) := dk_160 0 5 (dk_at dksX10_cycle_1 16 rfl rfl)
theorem dX10_cycle_43 : decode cX10_cycle 43 = .ok (.iload_n 3, 1) := dk_29 (dk_at dksX10_cycle_1 19 rfl rfl)
theorem dX10_cycle_44 : decode cX10_cycle 44 = .ok (.ireturn, 1) := dk_172 (dk_at dksX10_cycle_1 20 rfl rfl)
theorem dX10_cycle_45 : decode cX10_cycle 45 = .ok (.iload_n 2, 1) := dk_28 (dk_at dksX10_cycle_1 21 rfl rfl)
theorem dX10_cycle_46 : decode cX10_cycle 46 = .ok (.iconst (-1), 1) := dk_2 (dk_at dksX10_cycle_1 22 rfl rfl)
theorem dX10_cycle_47 : decode cX10_cycle 47 = .ok (.if_icmp .ne 5, 3) := dk_160 0 5 (dk_at dksX10_cycle_2 0 rfl rfl)
theorem dX10_cycle_50 : decode cX10_cycle 50 = .ok (.iconst 0, 1) := dk_3 (dk_at dksX10_cycle_2 3 rfl rfl)
theorem dX10_cycle_51 : decode cX10_cycle 51 = .ok (.ireturn, 1) := dk_172 (dk_at dksX10_cycle_2 4 rfl rfl)
theorem dX10_cycle_52 : decode cX10_cycle 52 = .ok (.iinc 3 1, 3) := dk_132 3 1 (dk_at dksX10_cycle_2 5 rfl rfl)
theorem dX10_cycle_55 : decode cX10_cycle 55 = .ok (.goto (-51), 3) := dk_167 255 205 (dk_at dksX10_cycle_2 8 rfl rfl)
theorem dX10_cycle_58 : decode cX10_cycle 58 = .ok (.iconst 0, 1) := dk_3 (dk_at dksX10_cycle_2 11 rfl rfl)
theorem dX10_cycle_59 : decode cX10_cycle 59 = .ok (.ireturn, 1) := dk_172 (dk_at dksX10_cycle_2 12 rfl rfl)
abbrev cX10_count : ByteArray := prog_7_method_8_code
def yX10_count : MethodName := ⟨RX10, "count", "(I)I"⟩
def dkwX10_count_1 : List UInt8 := [167, 0, 4, 3, 96, 61, 132, 3, 1, 167, 255, 227, 28, 172]
abbrev dktX10_count_1 : List UInt8 := dkwX10_count_1 ++ []
def dkwX10_count_0 : List UInt8 := [3, 61, 3, 62, 29, 42, 180, 0, 63, 162, 0, 27, 28, 42, 180, 0, 24, 29, 46, 27, 160, 0, 7, 4]
abbrev dktX10_count_0 : List UInt8 := dkwX10_count_0 ++ dktX10_count_1
theorem dksX10_count_0 : cX10_count.data.toList.drop 0 = dktX10_count_0 := by decide +kernel
theorem dksX10_count_1 : cX10_count.data.toList.drop 24 = dktX10_count_1 := dk_seg dksX10_count_0 24 rfl rfl
theorem dX10_count_0 : decode cX10_count 0 = .ok (.iconst 0, 1) := dk_3 (dk_at dksX10_count_0 0 rfl rfl)
theorem dX10_count_1 : decode cX10_count 1 = .ok (.istore_n 2, 1) := dk_61 (dk_at dksX10_count_0 1 rfl rfl)
theorem dX10_count_2 : decode cX10_count 2 = .ok (.iconst 0, 1) := dk_3 (dk_at dksX10_count_0 2 rfl rfl)
theorem dX10_count_3 : decode cX10_count 3 = .ok (.istore_n 3, 1) := dk_62 (dk_at dksX10_count_0 3 rfl rfl)
theorem dX10_count_4 : decode cX10_count 4 = .ok (.iload_n 3, 1) := dk_29 (dk_at dksX10_count_0 4 rfl rfl)
theorem dX10_count_5 : decode cX10_count 5 = .ok (.aload_n 0, 1) := dk_42 (dk_at dksX10_count_0 5 rfl rfl)
theorem dX10_count_6 : decode cX10_count 6 = .ok (.getfield 63, 3) := dk_180 0 63 (dk_at dksX10_count_0 6 rfl rfl)
theorem dX10_count_9 : decode cX10_count 9 = .ok (.if_icmp .ge 27, 3) := dk_162 0 27 (dk_at dksX10_count_0 9 rfl rfl)
theorem dX10_count_12 : decode cX10_count 12 = .ok (.iload_n 2, 1) := dk_28 (dk_at dksX10_count_0 12 rfl rfl)
theorem dX10_count_13 : decode cX10_count 13 = .ok (.aload_n 0, 1) := dk_42 (dk_at dksX10_count_0 13 rfl rfl)
theorem dX10_count_14 : decode cX10_count 14 = .ok (.getfield 24, 3) := dk_180 0 24 (dk_at dksX10_count_0 14 rfl rfl)
theorem dX10_count_17 : decode cX10_count 17 = .ok (.iload_n 3, 1) := dk_29 (dk_at dksX10_count_0 17 rfl rfl)
theorem dX10_count_18 : decode cX10_count 18 = .ok (.iaload, 1) := dk_46 (dk_at dksX10_count_0 18 rfl rfl)
theorem dX10_count_19 : decode cX10_count 19 = .ok (.iload_n 1, 1) := dk_27 (dk_at dksX10_count_0 19 rfl rfl)
theorem dX10_count_20 : decode cX10_count 20 = .ok (.if_icmp .ne 7, 3) := dk_160 0 7 (dk_at dksX10_count_0 20 rfl rfl)
theorem dX10_count_23 : decode cX10_count 23 = .ok (.iconst 1, 1) := dk_4 (dk_at dksX10_count_0 23 rfl rfl)
theorem dX10_count_24 : decode cX10_count 24 = .ok (.goto 4, 3) := dk_167 0 4 (dk_at dksX10_count_1 0 rfl rfl)
theorem dX10_count_27 : decode cX10_count 27 = .ok (.iconst 0, 1) := dk_3 (dk_at dksX10_count_1 3 rfl rfl)
theorem dX10_count_28 : decode cX10_count 28 = .ok (.iadd, 1) := dk_96 (dk_at dksX10_count_1 4 rfl rfl)
theorem dX10_count_29 : decode cX10_count 29 = .ok (.istore_n 2, 1) := dk_61 (dk_at dksX10_count_1 5 rfl rfl)
theorem dX10_count_30 : decode cX10_count 30 = .ok (.iinc 3 1, 3) := dk_132 3 1 (dk_at dksX10_count_1 6 rfl rfl)
theorem dX10_count_33 : decode cX10_count 33 = .ok (.goto (-29), 3) := dk_167 255 227 (dk_at dksX10_count_1 9 rfl rfl)
theorem dX10_count_36 : decode cX10_count 36 = .ok (.iload_n 2, 1) := dk_28 (dk_at dksX10_count_1 12 rfl rfl)
theorem dX10_count_37 : decode cX10_count 37 = .ok (.ireturn, 1) := dk_172 (dk_at dksX10_count_1 13 rfl rfl)
theorem q163 : (Jvm.Cond.initialized "BatchRenamer$Outlook") ∈ lw_all := lw_g (lw_at lw_m1 34 rfl) rfl
theorem q580 : (Jvm.Cond.fieldLinkNest "BatchRenamer$Outlook" (117 : Nat) "BatchRenamer$Reading" "counter" "I" "BatchRenamer") ∈ lw_tbl := lw_at lw_m2 211 rfl
theorem q582 : (Jvm.Cond.fieldLinkNest "BatchRenamer$Outlook" (124 : Nat) "BatchRenamer$Reading" "digits" "I" "BatchRenamer") ∈ lw_tbl := lw_at lw_m2 213 rfl
theorem q597 : (Jvm.Cond.fieldLinkNest "BatchRenamer$Outlook" (51 : Nat) "BatchRenamer$Board" "files" "Ljava/util/ArrayList;" "BatchRenamer") ∈ lw_tbl := lw_at lw_m2 228 rfl
theorem q602 : (Jvm.Cond.fieldLinkNest "BatchRenamer$Outlook" (70 : Nat) "BatchRenamer$Board" "rules" "Ljava/util/ArrayList;" "BatchRenamer") ∈ lw_tbl := lw_at lw_m2 233 rfl
theorem q608 : (Jvm.Cond.fieldLinkNest "BatchRenamer$Outlook" (105 : Nat) "BatchRenamer$Board" "reading" "LBatchRenamer$Reading;" "BatchRenamer") ∈ lw_tbl := lw_at lw_m2 239 rfl
theorem q611 : (Jvm.Cond.fieldLinkNest "BatchRenamer$Outlook" (99 : Nat) "BatchRenamer$Board" "start" "I" "BatchRenamer") ∈ lw_tbl := lw_at lw_m3 2 rfl
theorem q615 : (Jvm.Cond.fieldLinkNest "BatchRenamer$Outlook" (102 : Nat) "BatchRenamer$Board" "step" "I" "BatchRenamer") ∈ lw_tbl := lw_at lw_m3 6 rfl
theorem q619 : (Jvm.Cond.fieldLinkNest "BatchRenamer$Outlook" (121 : Nat) "BatchRenamer$Board" "digits" "I" "BatchRenamer") ∈ lw_tbl := lw_at lw_m3 10 rfl
theorem q685 : (Jvm.Cond.instantiable "BatchRenamer$Outlook" (10 : Nat)) ∈ lw_all := lw_g (lw_at lw_m3 76 rfl) rfl
theorem q687 : (Jvm.Cond.instanceMethod ({ cls := "BatchRenamer$Outlook", name := "<init>", desc := "(LBatchRenamer$Board;)V" } : Jvm.MethodName)) ∈ lw_all := lw_g (lw_at lw_m3 78 rfl) rfl
theorem q688 : (Jvm.Cond.code ({ cls := "BatchRenamer$Outlook", name := "<init>", desc := "(LBatchRenamer$Board;)V" } : Jvm.MethodName) prog_7_method_1_code (2 : Nat) (Option.none : Option Jvm.ClassFile.FieldType)) ∈ lw_all := lw_g (lw_at lw_m3 79 rfl) rfl
theorem q689 : (Jvm.Cond.constant "BatchRenamer$Outlook" (5 : Nat) (2147483647 : Int32)) ∈ lw_all := lw_g (lw_at lw_m3 80 rfl) rfl
theorem q690 : (Jvm.Cond.methodLink "BatchRenamer$Outlook" (6 : Nat) ({ cls := "BatchRenamer$Outlook", name := "<init>", desc := "(LBatchRenamer$Board;I)V" } : Jvm.MethodName)) ∈ lw_all := lw_g (lw_at lw_m3 81 rfl) rfl
theorem q691 : (Jvm.Cond.instanceMethod ({ cls := "BatchRenamer$Outlook", name := "<init>", desc := "(LBatchRenamer$Board;I)V" } : Jvm.MethodName)) ∈ lw_all := lw_g (lw_at lw_m3 82 rfl) rfl
theorem q692 : (Jvm.Cond.code ({ cls := "BatchRenamer$Outlook", name := "<init>", desc := "(LBatchRenamer$Board;I)V" } : Jvm.MethodName) prog_7_method_2_code (4 : Nat) (Option.none : Option Jvm.ClassFile.FieldType)) ∈ lw_all := lw_g (lw_at lw_m3 83 rfl) rfl
theorem q693 : (Jvm.Cond.methodLink "BatchRenamer$Outlook" (12 : Nat) ({ cls := "java/lang/Object", name := "<init>", desc := "()V" } : Jvm.MethodName)) ∈ lw_all := lw_g (lw_at lw_m3 84 rfl) rfl
theorem q694 : (Jvm.Cond.classLink "BatchRenamer$Outlook" (30 : Nat) "java/lang/String") ∈ lw_all := lw_g (lw_at lw_m3 85 rfl) rfl
theorem q696 : (Jvm.Cond.classLink "BatchRenamer$Outlook" (36 : Nat) "java/lang/StringBuilder") ∈ lw_all := lw_g (lw_at lw_m3 87 rfl) rfl
theorem q697 : (Jvm.Cond.methodLink "BatchRenamer$Outlook" (38 : Nat) ({ cls := "java/lang/StringBuilder", name := "<init>", desc := "()V" } : Jvm.MethodName)) ∈ lw_all := lw_g (lw_at lw_m3 88 rfl) rfl
theorem q698 : (Jvm.Cond.methodLink "BatchRenamer$Outlook" (57 : Nat) ({ cls := "java/util/ArrayList", name := "size", desc := "()I" } : Jvm.MethodName)) ∈ lw_all := lw_g (lw_at lw_m3 89 rfl) rfl
theorem q699 : (Jvm.Cond.methodLink "BatchRenamer$Outlook" (66 : Nat) ({ cls := "BatchRenamer$Board", name := "ruleOf", desc := "(I)I" } : Jvm.MethodName)) ∈ lw_all := lw_g (lw_at lw_m3 90 rfl) rfl
theorem q756 : (Jvm.Cond.methodLink "BatchRenamer$Outlook" (73 : Nat) ({ cls := "BatchRenamer$Outlook", name := "layNames", desc := "(I)I" } : Jvm.MethodName)) ∈ lw_all := lw_g (lw_at lw_m3 147 rfl) rfl
theorem q757 : (Jvm.Cond.privateMethod ({ cls := "BatchRenamer$Outlook", name := "layNames", desc := "(I)I" } : Jvm.MethodName)) ∈ lw_tbl := lw_at lw_m3 148 rfl
theorem q758 : (Jvm.Cond.instanceMethod ({ cls := "BatchRenamer$Outlook", name := "layNames", desc := "(I)I" } : Jvm.MethodName)) ∈ lw_all := lw_g (lw_at lw_m3 149 rfl) rfl
theorem q759 : (Jvm.Cond.code ({ cls := "BatchRenamer$Outlook", name := "layNames", desc := "(I)I" } : Jvm.MethodName) prog_7_method_3_code (5 : Nat) (Option.some Jvm.ClassFile.FieldType.int)) ∈ lw_all := lw_g (lw_at lw_m3 150 rfl) rfl
theorem q760 : (Jvm.Cond.methodLink "BatchRenamer$Outlook" (86 : Nat) ({ cls := "java/util/ArrayList", name := "get", desc := "(I)Ljava/lang/Object;" } : Jvm.MethodName)) ∈ lw_all := lw_g (lw_at lw_m3 151 rfl) rfl
theorem q761 : (Jvm.Cond.classLink "BatchRenamer$Outlook" (90 : Nat) "BatchRenamer$Rule") ∈ lw_all := lw_g (lw_at lw_m3 152 rfl) rfl
theorem q762 : (Jvm.Cond.classLink "BatchRenamer$Outlook" (92 : Nat) "BatchRenamer$Tally") ∈ lw_all := lw_g (lw_at lw_m3 153 rfl) rfl
theorem q764 : (Jvm.Cond.methodLinkNest "BatchRenamer$Outlook" (94 : Nat) ({ cls := "BatchRenamer$Tally", name := "<init>", desc := "()V" } : Jvm.MethodName) "BatchRenamer") ∈ lw_tbl := lw_at lw_m3 155 rfl
theorem q781 : (Jvm.Cond.methodLink "BatchRenamer$Outlook" (95 : Nat) ({ cls := "BatchRenamer$Board", name := "reads", desc := "(II)Z" } : Jvm.MethodName)) ∈ lw_all := lw_g (lw_at lw_m3 172 rfl) rfl
theorem q782 : (Jvm.Cond.methodLink "BatchRenamer$Outlook" (109 : Nat) ({ cls := "BatchRenamer$Rule", name := "group", desc := "(LBatchRenamer$Reading;)Ljava/lang/String;" } : Jvm.MethodName)) ∈ lw_all := lw_g (lw_at lw_m3 173 rfl) rfl
theorem q815 : (Jvm.Cond.methodLink "BatchRenamer$Outlook" (113 : Nat) ({ cls := "BatchRenamer$Tally", name := "meet", desc := "(Ljava/lang/Object;)I" } : Jvm.MethodName)) ∈ lw_all := lw_g (lw_at lw_m3 206 rfl) rfl
theorem q829 : (Jvm.Cond.selects "BatchRenamer$Outlook" ({ cls := "java/lang/Object", name := "equals", desc := "(Ljava/lang/Object;)Z" } : Jvm.MethodName) ({ cls := "java/lang/Object", name := "equals", desc := "(Ljava/lang/Object;)Z" } : Jvm.MethodName)) ∈ lw_all := lw_g (lw_at lw_m3 220 rfl) rfl
theorem q865 : (Jvm.Cond.selects "BatchRenamer$Outlook" ({ cls := "java/lang/Object", name := "getClass", desc := "()Ljava/lang/Class;" } : Jvm.MethodName) ({ cls := "java/lang/Object", name := "getClass", desc := "()Ljava/lang/Class;" } : Jvm.MethodName)) ∈ lw_all := lw_g (lw_at lw_m4 16 rfl) rfl
theorem q1002 : (Jvm.Cond.methodLink "BatchRenamer$Outlook" (125 : Nat) ({ cls := "BatchRenamer$Rule", name := "written", desc := "(Ljava/lang/StringBuilder;LBatchRenamer$Reading;I)Ljava/lang/String;" } : Jvm.MethodName)) ∈ lw_all := lw_g (lw_at lw_m4 153 rfl) rfl
theorem q1080 : (Jvm.Cond.methodLink "BatchRenamer$Outlook" (129 : Nat) ({ cls := "BatchRenamer$Tally", name := "size", desc := "()I" } : Jvm.MethodName)) ∈ lw_all := lw_g (lw_at lw_m4 231 rfl) rfl
theorem q1084 : (Jvm.Cond.methodLink "BatchRenamer$Outlook" (76 : Nat) ({ cls := "BatchRenamer$Outlook", name := "statusAtFirst", desc := "(I)I" } : Jvm.MethodName)) ∈ lw_all := lw_g (lw_at lw_m4 235 rfl) rfl
theorem q1085 : (Jvm.Cond.privateMethod ({ cls := "BatchRenamer$Outlook", name := "statusAtFirst", desc := "(I)I" } : Jvm.MethodName)) ∈ lw_tbl := lw_at lw_m4 236 rfl
theorem q1086 : (Jvm.Cond.instanceMethod ({ cls := "BatchRenamer$Outlook", name := "statusAtFirst", desc := "(I)I" } : Jvm.MethodName)) ∈ lw_all := lw_g (lw_at lw_m4 237 rfl) rfl
theorem q1087 : (Jvm.Cond.code ({ cls := "BatchRenamer$Outlook", name := "statusAtFirst", desc := "(I)I" } : Jvm.MethodName) prog_7_method_4_code (2 : Nat) (Option.some Jvm.ClassFile.FieldType.int)) ∈ lw_all := lw_g (lw_at lw_m4 238 rfl) rfl
theorem q1088 : (Jvm.Cond.classLink "BatchRenamer$Outlook" (130 : Nat) "BatchRenamer$Entry") ∈ lw_all := lw_g (lw_at lw_m4 239 rfl) rfl
theorem q1089 : (Jvm.Cond.methodLink "BatchRenamer$Outlook" (136 : Nat) ({ cls := "java/lang/String", name := "isEmpty", desc := "()Z" } : Jvm.MethodName)) ∈ lw_all := lw_g (lw_at lw_m5 0 rfl) rfl
theorem q1093 : (Jvm.Cond.methodLink "BatchRenamer$Outlook" (139 : Nat) ({ cls := "java/lang/String", name := "length", desc := "()I" } : Jvm.MethodName)) ∈ lw_all := lw_g (lw_at lw_m5 4 rfl) rfl
theorem q1094 : (Jvm.Cond.methodLink "BatchRenamer$Outlook" (146 : Nat) ({ cls := "java/lang/String", name := "equals", desc := "(Ljava/lang/Object;)Z" } : Jvm.MethodName)) ∈ lw_all := lw_g (lw_at lw_m5 5 rfl) rfl
theorem q1095 : (Jvm.Cond.methodLink "BatchRenamer$Outlook" (79 : Nat) ({ cls := "BatchRenamer$Outlook", name := "givesUp", desc := "()Z" } : Jvm.MethodName)) ∈ lw_all := lw_g (lw_at lw_m5 6 rfl) rfl
theorem q1096 : (Jvm.Cond.privateMethod ({ cls := "BatchRenamer$Outlook", name := "givesUp", desc := "()Z" } : Jvm.MethodName)) ∈ lw_tbl := lw_at lw_m5 7 rfl
theorem q1097 : (Jvm.Cond.instanceMethod ({ cls := "BatchRenamer$Outlook", name := "givesUp", desc := "()Z" } : Jvm.MethodName)) ∈ lw_all := lw_g (lw_at lw_m5 8 rfl) rfl
theorem q1098 : (Jvm.Cond.code ({ cls := "BatchRenamer$Outlook", name := "givesUp", desc := "()Z" } : Jvm.MethodName) prog_7_method_7_code (4 : Nat) (Option.some Jvm.ClassFile.FieldType.boolean)) ∈ lw_all := lw_g (lw_at lw_m5 9 rfl) rfl
theorem q1099 : (Jvm.Cond.methodLink "BatchRenamer$Outlook" (154 : Nat) ({ cls := "[I", name := "clone", desc := "()Ljava/lang/Object;" } : Jvm.MethodName)) ∈ lw_all := lw_g (lw_at lw_m5 10 rfl) rfl
theorem q1103 : (Jvm.Cond.classLink "BatchRenamer$Outlook" (155 : Nat) "[I") ∈ lw_all := lw_g (lw_at lw_m5 14 rfl) rfl
theorem q1104 : (Jvm.Cond.methodLink "BatchRenamer$Outlook" (159 : Nat) ({ cls := "BatchRenamer$Outlook", name := "isShared", desc := "(I)Z" } : Jvm.MethodName)) ∈ lw_all := lw_g (lw_at lw_m5 15 rfl) rfl
theorem q1105 : (Jvm.Cond.privateMethod ({ cls := "BatchRenamer$Outlook", name := "isShared", desc := "(I)Z" } : Jvm.MethodName)) ∈ lw_tbl := lw_at lw_m5 16 rfl
theorem q1106 : (Jvm.Cond.instanceMethod ({ cls := "BatchRenamer$Outlook", name := "isShared", desc := "(I)Z" } : Jvm.MethodName)) ∈ lw_all := lw_g (lw_at lw_m5 17 rfl) rfl
theorem q1107 : (Jvm.Cond.code ({ cls := "BatchRenamer$Outlook", name := "isShared", desc := "(I)Z" } : Jvm.MethodName) prog_7_method_5_code (4 : Nat) (Option.some Jvm.ClassFile.FieldType.boolean)) ∈ lw_all := lw_g (lw_at lw_m5 18 rfl) rfl
theorem q1108 : (Jvm.Cond.methodLink "BatchRenamer$Outlook" (163 : Nat) ({ cls := "BatchRenamer$Outlook", name := "isTaken", desc := "(I)Z" } : Jvm.MethodName)) ∈ lw_all := lw_g (lw_at lw_m5 19 rfl) rfl
theorem q1109 : (Jvm.Cond.privateMethod ({ cls := "BatchRenamer$Outlook", name := "isTaken", desc := "(I)Z" } : Jvm.MethodName)) ∈ lw_tbl := lw_at lw_m5 20 rfl
theorem q1110 : (Jvm.Cond.instanceMethod ({ cls := "BatchRenamer$Outlook", name := "isTaken", desc := "(I)Z" } : Jvm.MethodName)) ∈ lw_all := lw_g (lw_at lw_m5 21 rfl) rfl
theorem q1111 : (Jvm.Cond.code ({ cls := "BatchRenamer$Outlook", name := "isTaken", desc := "(I)Z" } : Jvm.MethodName) prog_7_method_6_code (3 : Nat) (Option.some Jvm.ClassFile.FieldType.boolean)) ∈ lw_all := lw_g (lw_at lw_m5 22 rfl) rfl
theorem q1112 : (Jvm.Cond.methodLink "BatchRenamer$Outlook" (150 : Nat) ({ cls := "BatchRenamer$Board", name := "find", desc := "(Ljava/lang/String;)I" } : Jvm.MethodName)) ∈ lw_all := lw_g (lw_at lw_m5 23 rfl) rfl
theorem q1117 : (Jvm.Cond.methodLink "BatchRenamer$Outlook" (166 : Nat) ({ cls := "java/lang/System", name := "arraycopy", desc := "(Ljava/lang/Object;ILjava/lang/Object;II)V" } : Jvm.MethodName)) ∈ lw_all := lw_g (lw_at lw_m5 28 rfl) rfl
theorem q1118 : (Jvm.Cond.fieldLink "BatchRenamer$Outlook" (43 : Nat) "BatchRenamer$Outlook" "board" "LBatchRenamer$Board;") ∈ lw_all := lw_g (lw_at lw_m5 29 rfl) rfl
theorem q1120 : (Jvm.Cond.fieldLink "BatchRenamer$Outlook" (63 : Nat) "BatchRenamer$Outlook" "many" "I") ∈ lw_all := lw_g (lw_at lw_m5 31 rfl) rfl
theorem q1122 : (Jvm.Cond.fieldLink "BatchRenamer$Outlook" (17 : Nat) "BatchRenamer$Outlook" "rule" "[I") ∈ lw_all := lw_g (lw_at lw_m5 33 rfl) rfl
theorem q1124 : (Jvm.Cond.fieldLink "BatchRenamer$Outlook" (21 : Nat) "BatchRenamer$Outlook" "counter" "[I") ∈ lw_all := lw_g (lw_at lw_m5 35 rfl) rfl
theorem q1127 : (Jvm.Cond.fieldLink "BatchRenamer$Outlook" (24 : Nat) "BatchRenamer$Outlook" "status" "[I") ∈ lw_all := lw_g (lw_at lw_m5 38 rfl) rfl
theorem q1129 : (Jvm.Cond.fieldLink "BatchRenamer$Outlook" (27 : Nat) "BatchRenamer$Outlook" "groups" "[I") ∈ lw_all := lw_g (lw_at lw_m5 40 rfl) rfl
theorem q1131 : (Jvm.Cond.fieldLink "BatchRenamer$Outlook" (32 : Nat) "BatchRenamer$Outlook" "next" "[Ljava/lang/String;") ∈ lw_all := lw_g (lw_at lw_m5 42 rfl) rfl
theorem q1134 : (Jvm.Cond.fieldLink "BatchRenamer$Outlook" (39 : Nat) "BatchRenamer$Outlook" "text" "Ljava/lang/StringBuilder;") ∈ lw_all := lw_g (lw_at lw_m5 45 rfl) rfl
theorem q1135 : (Jvm.Cond.fieldLink "BatchRenamer$Outlook" (47 : Nat) "BatchRenamer$Outlook" "most" "I") ∈ lw_all := lw_g (lw_at lw_m5 46 rfl) rfl
theorem q1136 : (Jvm.Cond.fieldLink "BatchRenamer$Outlook" (83 : Nat) "BatchRenamer$Outlook" "rounds" "I") ∈ lw_all := lw_g (lw_at lw_m5 47 rfl) rfl
theorem q1138 : (Jvm.Cond.laysFinal "BatchRenamer$Outlook" "BatchRenamer$Outlook" "board" "LBatchRenamer$Board;") ∈ lw_all := lw_g (lw_at lw_m5 49 rfl) rfl
theorem q1139 : (Jvm.Cond.soleField "BatchRenamer$Outlook" "board") ∈ lw_all := lw_g (lw_at lw_m5 50 rfl) rfl
theorem q1140 : (Jvm.Cond.laysFinal "BatchRenamer$Outlook" "BatchRenamer$Outlook" "many" "I") ∈ lw_all := lw_g (lw_at lw_m5 51 rfl) rfl
theorem q1141 : (Jvm.Cond.soleField "BatchRenamer$Outlook" "many") ∈ lw_all := lw_g (lw_at lw_m5 52 rfl) rfl
theorem q1142 : (Jvm.Cond.laysFinal "BatchRenamer$Outlook" "BatchRenamer$Outlook" "rule" "[I") ∈ lw_all := lw_g (lw_at lw_m5 53 rfl) rfl
theorem q1143 : (Jvm.Cond.soleField "BatchRenamer$Outlook" "rule") ∈ lw_all := lw_g (lw_at lw_m5 54 rfl) rfl
theorem q1144 : (Jvm.Cond.laysFinal "BatchRenamer$Outlook" "BatchRenamer$Outlook" "counter" "[I") ∈ lw_all := lw_g (lw_at lw_m5 55 rfl) rfl
theorem q1145 : (Jvm.Cond.soleField "BatchRenamer$Outlook" "counter") ∈ lw_all := lw_g (lw_at lw_m5 56 rfl) rfl
theorem q1146 : (Jvm.Cond.laysFinal "BatchRenamer$Outlook" "BatchRenamer$Outlook" "status" "[I") ∈ lw_all := lw_g (lw_at lw_m5 57 rfl) rfl
theorem q1147 : (Jvm.Cond.soleField "BatchRenamer$Outlook" "status") ∈ lw_all := lw_g (lw_at lw_m5 58 rfl) rfl
theorem q1148 : (Jvm.Cond.laysFinal "BatchRenamer$Outlook" "BatchRenamer$Outlook" "groups" "[I") ∈ lw_all := lw_g (lw_at lw_m5 59 rfl) rfl
theorem q1149 : (Jvm.Cond.soleField "BatchRenamer$Outlook" "groups") ∈ lw_all := lw_g (lw_at lw_m5 60 rfl) rfl
theorem q1150 : (Jvm.Cond.laysFinal "BatchRenamer$Outlook" "BatchRenamer$Outlook" "next" "[Ljava/lang/String;") ∈ lw_all := lw_g (lw_at lw_m5 61 rfl) rfl
theorem q1151 : (Jvm.Cond.soleField "BatchRenamer$Outlook" "next") ∈ lw_all := lw_g (lw_at lw_m5 62 rfl) rfl
theorem q1152 : (Jvm.Cond.laysFinal "BatchRenamer$Outlook" "BatchRenamer$Outlook" "text" "Ljava/lang/StringBuilder;") ∈ lw_all := lw_g (lw_at lw_m5 63 rfl) rfl
theorem q1153 : (Jvm.Cond.soleField "BatchRenamer$Outlook" "text") ∈ lw_all := lw_g (lw_at lw_m5 64 rfl) rfl
theorem q1154 : (Jvm.Cond.laysFinal "BatchRenamer$Outlook" "BatchRenamer$Outlook" "most" "I") ∈ lw_all := lw_g (lw_at lw_m5 65 rfl) rfl
theorem q1155 : (Jvm.Cond.soleField "BatchRenamer$Outlook" "most") ∈ lw_all := lw_g (lw_at lw_m5 66 rfl) rfl
theorem q1156 : (Jvm.Cond.lays "BatchRenamer$Outlook" "BatchRenamer$Outlook" "rounds" "I") ∈ lw_all := lw_g (lw_at lw_m5 67 rfl) rfl
theorem q1157 : (Jvm.Cond.soleField "BatchRenamer$Outlook" "rounds") ∈ lw_all := lw_g (lw_at lw_m5 68 rfl) rfl
theorem q1158 : (Jvm.Cond.superclass "BatchRenamer$Outlook" "java/lang/Object") ∈ lw_all := lw_g (lw_at lw_m5 69 rfl) rfl
theorem q1210 : (Jvm.Cond.fieldLinkNest "BatchRenamer$Outlook" (142 : Nat) "BatchRenamer$Entry" "name" "Ljava/lang/String;" "BatchRenamer") ∈ lw_tbl := lw_at lw_m5 121 rfl
theorem q1213 : (Jvm.Cond.fieldLinkNest "BatchRenamer$Outlook" (132 : Nat) "BatchRenamer$Entry" "isKept" "Z" "BatchRenamer") ∈ lw_tbl := lw_at lw_m5 124 rfl
theorem q1406 : (Jvm.Cond.instanceMethod ({ cls := "BatchRenamer$Outlook", name := "cycle", desc := "(I)I" } : Jvm.MethodName)) ∈ lw_all := lw_g (lw_at lw_m6 77 rfl) rfl
theorem q1407 : (Jvm.Cond.selects "BatchRenamer$Outlook" ({ cls := "BatchRenamer$Outlook", name := "cycle", desc := "(I)I" } : Jvm.MethodName) ({ cls := "BatchRenamer$Outlook", name := "cycle", desc := "(I)I" } : Jvm.MethodName)) ∈ lw_all := lw_g (lw_at lw_m6 78 rfl) rfl
theorem q1408 : (Jvm.Cond.code ({ cls := "BatchRenamer$Outlook", name := "cycle", desc := "(I)I" } : Jvm.MethodName) prog_7_method_9_code (4 : Nat) (Option.some Jvm.ClassFile.FieldType.int)) ∈ lw_all := lw_g (lw_at lw_m6 79 rfl) rfl
theorem q1981 : (Jvm.Cond.instanceMethod ({ cls := "BatchRenamer$Outlook", name := "count", desc := "(I)I" } : Jvm.MethodName)) ∈ lw_all := lw_g (lw_at lw_m8 172 rfl) rfl
theorem q1982 : (Jvm.Cond.selects "BatchRenamer$Outlook" ({ cls := "BatchRenamer$Outlook", name := "count", desc := "(I)I" } : Jvm.MethodName) ({ cls := "BatchRenamer$Outlook", name := "count", desc := "(I)I" } : Jvm.MethodName)) ∈ lw_all := lw_g (lw_at lw_m8 173 rfl) rfl
theorem q1983 : (Jvm.Cond.code ({ cls := "BatchRenamer$Outlook", name := "count", desc := "(I)I" } : Jvm.MethodName) prog_7_method_8_code (4 : Nat) (Option.some Jvm.ClassFile.FieldType.int)) ∈ lw_all := lw_g (lw_at lw_m8 174 rfl) rfl
theorem q2920 : (Jvm.Cond.castable "BatchRenamer$Outlook" "java/lang/Object") ∈ lw_tbl := lw_at lw_m12 151 rfl
theorem in_X10 : ∀ w ∈ wsX100, w ∈ lw_all := lw_in wsX100 [1138, 1140, 1142, 1144, 1146, 1148, 1150, 1152, 1154, 1156] (by decide +kernel) (by decide +kernel)

/-! BatchRenamer$Tally -/
def RX11 : String := "BatchRenamer$Tally"
def TX11 : u_T := fun k => match k with
  | 0 => ("BatchRenamer$Tally", "keys", "Ljava/util/ArrayList;", true)
  | _ => ("BatchRenamer$Tally", "many", "[I", true)
def tyX11 : Nat → FieldType := fun k => match k with
  | 0 => .object "java/util/ArrayList"
  | _ => .array .int
abbrev wsX110 : List Cond := u_ws RX11 TX11 2
theorem nmX11 : ∀ a, a < 2 → ∀ b, b < 2 → a ≠ b → (TX11 a).2.1 ≠ (TX11 b).2.1 := by decide +kernel
theorem tyX11_ok : ∀ k, k < 2 → parseFieldDescriptor (TX11 k).2.2.1 = some (tyX11 k) := by decide +kernel
abbrev cX11_init : ByteArray := prog_14_method_1_code
def yX11_init : MethodName := ⟨RX11, "<init>", "()V"⟩
def dkwX11_init_0 : List UInt8 := [42, 183, 0, 3, 42, 187, 0, 9, 89, 183, 0, 11, 181, 0, 12, 42, 16, 20, 188, 10, 181, 0, 18, 177]
abbrev dktX11_init_0 : List UInt8 := dkwX11_init_0 ++ []
theorem dksX11_init_0 : cX11_init.data.toList.drop 0 = dktX11_init_0 := by decide +kernel
theorem dX11_init_0 : decode cX11_init 0 = .ok (.aload_n 0, 1) := dk_42 (dk_at dksX11_init_0 0 rfl rfl)
theorem dX11_init_1 : decode cX11_init 1 = .ok (.invokespecial 3, 3) := dk_183 0 3 (dk_at dksX11_init_0 1 rfl rfl)
theorem dX11_init_4 : decode cX11_init 4 = .ok (.aload_n 0, 1) := dk_42 (dk_at dksX11_init_0 4 rfl rfl)
theorem dX11_init_5 : decode cX11_init 5 = .ok (.new 9, 3) := dk_187 0 9 (dk_at dksX11_init_0 5 rfl rfl)
theorem dX11_init_8 : decode cX11_init 8 = .ok (.dup, 1) := dk_89 (dk_at dksX11_init_0 8 rfl rfl)
theorem dX11_init_9 : decode cX11_init 9 = .ok (.invokespecial 11, 3) := dk_183 0 11 (dk_at dksX11_init_0 9 rfl rfl)
theorem dX11_init_12 : decode cX11_init 12 = .ok (.putfield 12, 3) := dk_181 0 12 (dk_at dksX11_init_0 12 rfl rfl)
theorem dX11_init_15 : decode cX11_init 15 = .ok (.aload_n 0, 1) := dk_42 (dk_at dksX11_init_0 15 rfl rfl)
theorem dX11_init_16 : decode cX11_init 16 = .ok (.bipush 20, 2) := dk_16 20 (dk_at dksX11_init_0 16 rfl rfl)
theorem dX11_init_18 : decode cX11_init 18 = .ok (.newarray .int, 2) := dk_188_10 (dk_at dksX11_init_0 18 rfl rfl)
theorem dX11_init_20 : decode cX11_init 20 = .ok (.putfield 18, 3) := dk_181 0 18 (dk_at dksX11_init_0 20 rfl rfl)
theorem dX11_init_23 : decode cX11_init 23 = .ok (.return_, 1) := dk_177 (dk_at dksX11_init_0 23 rfl rfl)
abbrev cX11_meet : ByteArray := prog_14_method_2_code
def yX11_meet : MethodName := ⟨RX11, "meet", "(Ljava/lang/Object;)I"⟩
def dkwX11_meet_3 : List UInt8 := [4, 100, 172]
abbrev dktX11_meet_3 : List UInt8 := dkwX11_meet_3 ++ []
def dkwX11_meet_2 : List UInt8 := [180, 0, 12, 43, 182, 0, 34, 87, 42, 180, 0, 18, 28, 92, 46, 4, 96, 79, 42, 180, 0, 18, 28, 46]
abbrev dktX11_meet_2 : List UInt8 := dkwX11_meet_2 ++ dktX11_meet_3
def dkwX11_meet_1 : List UInt8 := [182, 0, 30, 154, 0, 9, 132, 2, 1, 167, 255, 227, 28, 42, 180, 0, 12, 182, 0, 22, 160, 0, 12, 42]
abbrev dktX11_meet_1 : List UInt8 := dkwX11_meet_1 ++ dktX11_meet_2
def dkwX11_meet_0 : List UInt8 := [3, 61, 28, 42, 180, 0, 12, 182, 0, 22, 162, 0, 24, 42, 180, 0, 12, 28, 182, 0, 26, 43]
abbrev dktX11_meet_0 : List UInt8 := dkwX11_meet_0 ++ dktX11_meet_1
theorem dksX11_meet_0 : cX11_meet.data.toList.drop 0 = dktX11_meet_0 := by decide +kernel
theorem dksX11_meet_1 : cX11_meet.data.toList.drop 22 = dktX11_meet_1 := dk_seg dksX11_meet_0 22 rfl rfl
theorem dksX11_meet_2 : cX11_meet.data.toList.drop 46 = dktX11_meet_2 := dk_seg dksX11_meet_1 24 rfl rfl
theorem dksX11_meet_3 : cX11_meet.data.toList.drop 70 = dktX11_meet_3 := dk_seg dksX11_meet_2 24 rfl rfl
theorem dX11_meet_0 : decode cX11_meet 0 = .ok (.iconst 0, 1) := dk_3 (dk_at dksX11_meet_0 0 rfl rfl)
theorem dX11_meet_1 : decode cX11_meet 1 = .ok (.istore_n 2, 1) := dk_61 (dk_at dksX11_meet_0 1 rfl rfl)
theorem dX11_meet_2 : decode cX11_meet 2 = .ok (.iload_n 2, 1) := dk_28 (dk_at dksX11_meet_0 2 rfl rfl)
theorem dX11_meet_3 : decode cX11_meet 3 = .ok (.aload_n 0, 1) := dk_42 (dk_at dksX11_meet_0 3 rfl rfl)
theorem dX11_meet_4 : decode cX11_meet 4 = .ok (.getfield 12, 3) := dk_180 0 12 (dk_at dksX11_meet_0 4 rfl rfl)
theorem dX11_meet_7 : decode cX11_meet 7 = .ok (.invokevirtual 22, 3) := dk_182 0 22 (dk_at dksX11_meet_0 7 rfl rfl)
theorem dX11_meet_10 : decode cX11_meet 10 = .ok (.if_icmp .ge 24, 3) := dk_162 0 24 (dk_at dksX11_meet_0 10 rfl rfl)
theorem dX11_meet_13 : decode cX11_meet 13 = .ok (.aload_n 0, 1) := dk_42 (dk_at dksX11_meet_0 13 rfl rfl)
theorem dX11_meet_14 : decode cX11_meet 14 = .ok (.getfield 12, 3) := dk_180 0 12 (dk_at dksX11_meet_0 14 rfl rfl)
theorem dX11_meet_17 : decode cX11_meet 17 = .ok (.iload_n 2, 1) := dk_28 (dk_at dksX11_meet_0 17 rfl rfl)
theorem dX11_meet_18 : decode cX11_meet 18 = .ok (.invokevirtual 26, 3) := dk_182 0 26 (dk_at dksX11_meet_0 18 rfl rfl)
theorem dX11_meet_21 : decode cX11_meet 21 = .ok (.aload_n 1, 1) := dk_43 (dk_at dksX11_meet_0 21 rfl rfl)
theorem dX11_meet_22 : decode cX11_meet 22 = .ok (.invokevirtual 30, 3) := dk_182 0 30 (dk_at dksX11_meet_1 0 rfl rfl)
theorem dX11_meet_25 : decode cX11_meet 25 = .ok (.ifCond .ne 9, 3) := dk_154 0 9 (dk_at dksX11_meet_1 3 rfl rfl)
theorem dX11_meet_28 : decode cX11_meet 28 = .ok (.iinc 2 1, 3) := dk_132 2 1 (dk_at dksX11_meet_1 6 rfl rfl)
theorem dX11_meet_31 : decode cX11_meet 31 = .ok (.goto (-29), 3) := dk_167 255 227 (dk_at dksX11_meet_1 9 rfl rfl)
theorem dX11_meet_34 : decode cX11_meet 34 = .ok (.iload_n 2, 1) := dk_28 (dk_at dksX11_meet_1 12 rfl rfl)
theorem dX11_meet_35 : decode cX11_meet 35 = .ok (.aload_n 0, 1) := dk_42 (dk_at dksX11_meet_1 13 rfl rfl)
theorem dX11_meet_36 : decode cX11_meet 36 = .ok (.getfield 12, 3) := dk_180 0 12 (dk_at dksX11_meet_1 14 rfl rfl)
theorem dX11_meet_39 : decode cX11_meet 39 = .ok (.invokevirtual 22, 3) := dk_182 0 22 (dk_at dksX11_meet_1 17 rfl rfl)
theorem dX11_meet_42 : decode cX11_meet 42 = .ok (.if_icmp .ne 12, 3) := dk_160 0 12 (dk_at dksX11_meet_1 20 rfl rfl)
theorem dX11_meet_45 : decode cX11_meet 45 = .ok (.aload_n 0, 1) := dk_42 (dk_at dksX11_meet_1 23 rfl rfl)
theorem dX11_meet_46 : decode cX11_meet 46 = .ok (.getfield 12, 3) := dk_180 0 12 (dk_at dksX11_meet_2 0 rfl rfl)
theorem dX11_meet_49 : decode cX11_meet 49 = .ok (.aload_n 1, 1) := dk_43 (dk_at dksX11_meet_2 3 rfl rfl)
theorem dX11_meet_50 : decode cX11_meet 50 = .ok (.invokevirtual 34, 3) := dk_182 0 34 (dk_at dksX11_meet_2 4 rfl rfl)
theorem dX11_meet_53 : decode cX11_meet 53 = .ok (.pop, 1) := dk_87 (dk_at dksX11_meet_2 7 rfl rfl)
theorem dX11_meet_54 : decode cX11_meet 54 = .ok (.aload_n 0, 1) := dk_42 (dk_at dksX11_meet_2 8 rfl rfl)
theorem dX11_meet_55 : decode cX11_meet 55 = .ok (.getfield 18, 3) := dk_180 0 18 (dk_at dksX11_meet_2 9 rfl rfl)
theorem dX11_meet_58 : decode cX11_meet 58 = .ok (.iload_n 2, 1) := dk_28 (dk_at dksX11_meet_2 12 rfl rfl)
theorem dX11_meet_59 : decode cX11_meet 59 = .ok (.dup2, 1) := dk_92 (dk_at dksX11_meet_2 13 rfl rfl)
theorem dX11_meet_60 : decode cX11_meet 60 = .ok (.iaload, 1) := dk_46 (dk_at dksX11_meet_2 14 rfl rfl)
theorem dX11_meet_61 : decode cX11_meet 61 = .ok (.iconst 1, 1) := dk_4 (dk_at dksX11_meet_2 15 rfl rfl)
theorem dX11_meet_62 : decode cX11_meet 62 = .ok (.iadd, 1) := dk_96 (dk_at dksX11_meet_2 16 rfl rfl)
theorem dX11_meet_63 : decode cX11_meet 63 = .ok (.iastore, 1) := dk_79 (dk_at dksX11_meet_2 17 rfl rfl)
theorem dX11_meet_64 : decode cX11_meet 64 = .ok (.aload_n 0, 1) := dk_42 (dk_at dksX11_meet_2 18 rfl rfl)
theorem dX11_meet_65 : decode cX11_meet 65 = .ok (.getfield 18, 3) := dk_180 0 18 (dk_at dksX11_meet_2 19 rfl rfl)
theorem dX11_meet_68 : decode cX11_meet 68 = .ok (.iload_n 2, 1) := dk_28 (dk_at dksX11_meet_2 22 rfl rfl)
theorem dX11_meet_69 : decode cX11_meet 69 = .ok (.iaload, 1) := dk_46 (dk_at dksX11_meet_2 23 rfl rfl)
theorem dX11_meet_70 : decode cX11_meet 70 = .ok (.iconst 1, 1) := dk_4 (dk_at dksX11_meet_3 0 rfl rfl)
theorem dX11_meet_71 : decode cX11_meet 71 = .ok (.isub, 1) := dk_100 (dk_at dksX11_meet_3 1 rfl rfl)
theorem dX11_meet_72 : decode cX11_meet 72 = .ok (.ireturn, 1) := dk_172 (dk_at dksX11_meet_3 2 rfl rfl)
abbrev cX11_size : ByteArray := prog_14_method_3_code
def yX11_size : MethodName := ⟨RX11, "size", "()I"⟩
def dkwX11_size_0 : List UInt8 := [42, 180, 0, 12, 182, 0, 22, 172]
abbrev dktX11_size_0 : List UInt8 := dkwX11_size_0 ++ []
theorem dksX11_size_0 : cX11_size.data.toList.drop 0 = dktX11_size_0 := by decide +kernel
theorem dX11_size_0 : decode cX11_size 0 = .ok (.aload_n 0, 1) := dk_42 (dk_at dksX11_size_0 0 rfl rfl)
theorem dX11_size_1 : decode cX11_size 1 = .ok (.getfield 12, 3) := dk_180 0 12 (dk_at dksX11_size_0 1 rfl rfl)
theorem dX11_size_4 : decode cX11_size 4 = .ok (.invokevirtual 22, 3) := dk_182 0 22 (dk_at dksX11_size_0 4 rfl rfl)
theorem dX11_size_7 : decode cX11_size 7 = .ok (.ireturn, 1) := dk_172 (dk_at dksX11_size_0 7 rfl rfl)
theorem q164 : (Jvm.Cond.initialized "BatchRenamer$Tally") ∈ lw_all := lw_g (lw_at lw_m1 35 rfl) rfl
theorem q763 : (Jvm.Cond.instantiable "BatchRenamer$Tally" (2 : Nat)) ∈ lw_all := lw_g (lw_at lw_m3 154 rfl) rfl
theorem q765 : (Jvm.Cond.instanceMethod ({ cls := "BatchRenamer$Tally", name := "<init>", desc := "()V" } : Jvm.MethodName)) ∈ lw_all := lw_g (lw_at lw_m3 156 rfl) rfl
theorem q766 : (Jvm.Cond.code ({ cls := "BatchRenamer$Tally", name := "<init>", desc := "()V" } : Jvm.MethodName) prog_14_method_1_code (1 : Nat) (Option.none : Option Jvm.ClassFile.FieldType)) ∈ lw_all := lw_g (lw_at lw_m3 157 rfl) rfl
theorem q767 : (Jvm.Cond.methodLink "BatchRenamer$Tally" (3 : Nat) ({ cls := "java/lang/Object", name := "<init>", desc := "()V" } : Jvm.MethodName)) ∈ lw_all := lw_g (lw_at lw_m3 158 rfl) rfl
theorem q768 : (Jvm.Cond.classLink "BatchRenamer$Tally" (9 : Nat) "java/util/ArrayList") ∈ lw_all := lw_g (lw_at lw_m3 159 rfl) rfl
theorem q769 : (Jvm.Cond.methodLink "BatchRenamer$Tally" (11 : Nat) ({ cls := "java/util/ArrayList", name := "<init>", desc := "()V" } : Jvm.MethodName)) ∈ lw_all := lw_g (lw_at lw_m3 160 rfl) rfl
theorem q774 : (Jvm.Cond.fieldLink "BatchRenamer$Tally" (12 : Nat) "BatchRenamer$Tally" "keys" "Ljava/util/ArrayList;") ∈ lw_all := lw_g (lw_at lw_m3 165 rfl) rfl
theorem q775 : (Jvm.Cond.fieldLink "BatchRenamer$Tally" (18 : Nat) "BatchRenamer$Tally" "many" "[I") ∈ lw_all := lw_g (lw_at lw_m3 166 rfl) rfl
theorem q776 : (Jvm.Cond.laysFinal "BatchRenamer$Tally" "BatchRenamer$Tally" "keys" "Ljava/util/ArrayList;") ∈ lw_all := lw_g (lw_at lw_m3 167 rfl) rfl
theorem q777 : (Jvm.Cond.soleField "BatchRenamer$Tally" "keys") ∈ lw_all := lw_g (lw_at lw_m3 168 rfl) rfl
theorem q778 : (Jvm.Cond.laysFinal "BatchRenamer$Tally" "BatchRenamer$Tally" "many" "[I") ∈ lw_all := lw_g (lw_at lw_m3 169 rfl) rfl
theorem q779 : (Jvm.Cond.soleField "BatchRenamer$Tally" "many") ∈ lw_all := lw_g (lw_at lw_m3 170 rfl) rfl
theorem q780 : (Jvm.Cond.superclass "BatchRenamer$Tally" "java/lang/Object") ∈ lw_all := lw_g (lw_at lw_m3 171 rfl) rfl
theorem q816 : (Jvm.Cond.instanceMethod ({ cls := "BatchRenamer$Tally", name := "meet", desc := "(Ljava/lang/Object;)I" } : Jvm.MethodName)) ∈ lw_all := lw_g (lw_at lw_m3 207 rfl) rfl
theorem q817 : (Jvm.Cond.selects "BatchRenamer$Tally" ({ cls := "BatchRenamer$Tally", name := "meet", desc := "(Ljava/lang/Object;)I" } : Jvm.MethodName) ({ cls := "BatchRenamer$Tally", name := "meet", desc := "(Ljava/lang/Object;)I" } : Jvm.MethodName)) ∈ lw_all := lw_g (lw_at lw_m3 208 rfl) rfl
theorem q818 : (Jvm.Cond.code ({ cls := "BatchRenamer$Tally", name := "meet", desc := "(Ljava/lang/Object;)I" } : Jvm.MethodName) prog_14_method_2_code (3 : Nat) (Option.some Jvm.ClassFile.FieldType.int)) ∈ lw_all := lw_g (lw_at lw_m3 209 rfl) rfl
theorem q819 : (Jvm.Cond.methodLink "BatchRenamer$Tally" (22 : Nat) ({ cls := "java/util/ArrayList", name := "size", desc := "()I" } : Jvm.MethodName)) ∈ lw_all := lw_g (lw_at lw_m3 210 rfl) rfl
theorem q820 : (Jvm.Cond.methodLink "BatchRenamer$Tally" (26 : Nat) ({ cls := "java/util/ArrayList", name := "get", desc := "(I)Ljava/lang/Object;" } : Jvm.MethodName)) ∈ lw_all := lw_g (lw_at lw_m3 211 rfl) rfl
theorem q821 : (Jvm.Cond.methodLink "BatchRenamer$Tally" (30 : Nat) ({ cls := "java/lang/Object", name := "equals", desc := "(Ljava/lang/Object;)Z" } : Jvm.MethodName)) ∈ lw_all := lw_g (lw_at lw_m3 212 rfl) rfl
theorem q834 : (Jvm.Cond.selects "BatchRenamer$Tally" ({ cls := "java/lang/Object", name := "equals", desc := "(Ljava/lang/Object;)Z" } : Jvm.MethodName) ({ cls := "java/lang/Object", name := "equals", desc := "(Ljava/lang/Object;)Z" } : Jvm.MethodName)) ∈ lw_all := lw_g (lw_at lw_m3 225 rfl) rfl
theorem q870 : (Jvm.Cond.selects "BatchRenamer$Tally" ({ cls := "java/lang/Object", name := "getClass", desc := "()Ljava/lang/Class;" } : Jvm.MethodName) ({ cls := "java/lang/Object", name := "getClass", desc := "()Ljava/lang/Class;" } : Jvm.MethodName)) ∈ lw_all := lw_g (lw_at lw_m4 21 rfl) rfl
theorem q975 : (Jvm.Cond.methodLink "BatchRenamer$Tally" (34 : Nat) ({ cls := "java/util/ArrayList", name := "add", desc := "(Ljava/lang/Object;)Z" } : Jvm.MethodName)) ∈ lw_all := lw_g (lw_at lw_m4 126 rfl) rfl
theorem q1081 : (Jvm.Cond.instanceMethod ({ cls := "BatchRenamer$Tally", name := "size", desc := "()I" } : Jvm.MethodName)) ∈ lw_all := lw_g (lw_at lw_m4 232 rfl) rfl
theorem q1082 : (Jvm.Cond.selects "BatchRenamer$Tally" ({ cls := "BatchRenamer$Tally", name := "size", desc := "()I" } : Jvm.MethodName) ({ cls := "BatchRenamer$Tally", name := "size", desc := "()I" } : Jvm.MethodName)) ∈ lw_all := lw_g (lw_at lw_m4 233 rfl) rfl
theorem q1083 : (Jvm.Cond.code ({ cls := "BatchRenamer$Tally", name := "size", desc := "()I" } : Jvm.MethodName) prog_14_method_3_code (1 : Nat) (Option.some Jvm.ClassFile.FieldType.int)) ∈ lw_all := lw_g (lw_at lw_m4 234 rfl) rfl
theorem q2921 : (Jvm.Cond.castable "BatchRenamer$Tally" "java/lang/Object") ∈ lw_tbl := lw_at lw_m12 152 rfl
theorem in_X11 : ∀ w ∈ wsX110, w ∈ lw_all := lw_in wsX110 [776, 778] (by decide +kernel) (by decide +kernel)

/-! BatchRenamer$Planner -/
def RX12 : String := "BatchRenamer$Planner"
def TX12 : u_T := fun k => match k with
  | 0 => ("BatchRenamer$Planner", "outlook", "LBatchRenamer$Outlook;", true)
  | 1 => ("BatchRenamer$Planner", "trial", "LBatchRenamer$Board;", true)
  | 2 => ("BatchRenamer$Planner", "moves", "Ljava/util/ArrayList;", true)
  | 3 => ("BatchRenamer$Planner", "isDone", "[Z", true)
  | _ => ("BatchRenamer$Planner", "isSpare", "[Z", true)
def tyX12 : Nat → FieldType := fun k => match k with
  | 0 => .object "BatchRenamer$Outlook"
  | 1 => .object "BatchRenamer$Board"
  | 2 => .object "java/util/ArrayList"
  | 3 => .array .boolean
  | _ => .array .boolean
abbrev wsX120 : List Cond := u_ws RX12 TX12 5
theorem nmX12 : ∀ a, a < 5 → ∀ b, b < 5 → a ≠ b → (TX12 a).2.1 ≠ (TX12 b).2.1 := by decide +kernel
theorem tyX12_ok : ∀ k, k < 5 → parseFieldDescriptor (TX12 k).2.2.1 = some (tyX12 k) := by decide +kernel
abbrev cX12_init : ByteArray := prog_10_method_1_code
def yX12_init : MethodName := ⟨RX12, "<init>", "(LBatchRenamer$Board;)V"⟩
def dkwX12_init_3 : List UInt8 := [61, 167, 255, 240, 177]
abbrev dktX12_init_3 : List UInt8 := dkwX12_init_3 ++ []
def dkwX12_init_2 : List UInt8 := [181, 0, 40, 42, 4, 182, 0, 44, 61, 28, 2, 159, 0, 17, 42, 28, 182, 0, 48, 42, 4, 182, 0, 44]
abbrev dktX12_init_2 : List UInt8 := dkwX12_init_2 ++ dktX12_init_3
def dkwX12_init_1 : List UInt8 := [16, 20, 188, 4, 181, 0, 22, 42, 187, 0, 25, 89, 43, 183, 0, 27, 181, 0, 30, 42, 43, 182, 0, 34]
abbrev dktX12_init_1 : List UInt8 := dkwX12_init_1 ++ dktX12_init_2
def dkwX12_init_0 : List UInt8 := [42, 183, 0, 3, 42, 187, 0, 9, 89, 183, 0, 11, 181, 0, 12, 42, 16, 20, 188, 4, 181, 0, 18, 42]
abbrev dktX12_init_0 : List UInt8 := dkwX12_init_0 ++ dktX12_init_1
theorem dksX12_init_0 : cX12_init.data.toList.drop 0 = dktX12_init_0 := by decide +kernel
theorem dksX12_init_1 : cX12_init.data.toList.drop 24 = dktX12_init_1 := dk_seg dksX12_init_0 24 rfl rfl
theorem dksX12_init_2 : cX12_init.data.toList.drop 48 = dktX12_init_2 := dk_seg dksX12_init_1 24 rfl rfl
theorem dksX12_init_3 : cX12_init.data.toList.drop 72 = dktX12_init_3 := dk_seg dksX12_init_2 24 rfl rfl
theorem dX12_init_0 : decode cX12_init 0 = .ok (.aload_n 0, 1) := dk_42 (dk_at dksX12_init_0 0 rfl rfl)
theorem dX12_init_1 : decode cX12_init 1 = .ok (.invokespecial 3, 3) := dk_183 0 3 (dk_at dksX12_init_0 1 rfl rfl)
theorem dX12_init_4 : decode cX12_init 4 = .ok (.aload_n 0, 1) := dk_42 (dk_at dksX12_init_0 4 rfl rfl)
theorem dX12_init_5 : decode cX12_init 5 = .ok (.new 9, 3) := dk_187 0 9 (dk_at dksX12_init_0 5 rfl rfl)
theorem dX12_init_8 : decode cX12_init 8 = .ok (.dup, 1) := dk_89 (dk_at dksX12_init_0 8 rfl rfl)
theorem dX12_init_9 : decode cX12_init 9 = .ok (.invokespecial 11, 3) := dk_183 0 11 (dk_at dksX12_init_0 9 rfl rfl)
theorem dX12_init_12 : decode cX12_init 12 = .ok (.putfield 12, 3) := dk_181 0 12 (dk_at dksX12_init_0 12 rfl rfl)
theorem dX12_init_15 : decode cX12_init 15 = .ok (.aload_n 0, 1) := dk_42 (dk_at dksX12_init_0 15 rfl rfl)
theorem dX12_init_16 : decode cX12_init 16 = .ok (.bipush 20, 2) := dk_16 20 (dk_at dksX12_init_0 16 rfl rfl)
theorem dX12_init_18 : decode cX12_init 18 = .ok (.newarray .boolean, 2) := dk_188_4 (dk_at dksX12_init_0 18 rfl rfl)
theorem dX12_init_20 : decode cX12_init 20 = .ok (.putfield 18, 3) := dk_181 0 18 (dk_at dksX12_init_0 20 rfl rfl)
theorem dX12_init_23 : decode cX12_init 23 = .ok (.aload_n 0, 1) := dk_42 (dk_at dksX12_init_0 23 rfl rfl)
theorem dX12_init_24 : decode cX12_init 24 = .ok (.bipush 20, 2) := dk_16 20 (dk_at dksX12_init_1 0 rfl rfl)
theorem dX12_init_26 : decode cX12_init 26 = .ok (.newarray .boolean, 2) := dk_188_4 (dk_at dksX12_init_1 2 rfl rfl)
theorem dX12_init_28 : decode cX12_init 28 = .ok (.putfield 22, 3) := dk_181 0 22 (dk_at dksX12_init_1 4 rfl rfl)
theorem dX12_init_31 : decode cX12_init 31 = .ok (.aload_n 0, 1) := dk_42 (dk_at dksX12_init_1 7 rfl rfl)
theorem dX12_init_32 : decode cX12_init 32 = .ok (.new 25, 3) := dk_187 0 25 (dk_at dksX12_init_1 8 rfl rfl)
theorem dX12_init_35 : decode cX12_init 35 = .ok (.dup, 1) := dk_89 (dk_at dksX12_init_1 11 rfl rfl)
theorem dX12_init_36 : decode cX12_init 36 = .ok (.aload_n 1, 1) := dk_43 (dk_at dksX12_init_1 12 rfl rfl)
theorem dX12_init_37 : decode cX12_init 37 = .ok (.invokespecial 27, 3) := dk_183 0 27 (dk_at dksX12_init_1 13 rfl rfl)
theorem dX12_init_40 : decode cX12_init 40 = .ok (.putfield 30, 3) := dk_181 0 30 (dk_at dksX12_init_1 16 rfl rfl)
theorem dX12_init_43 : decode cX12_init 43 = .ok (.aload_n 0, 1) := dk_42 (dk_at dksX12_init_1 19 rfl rfl)
theorem dX12_init_44 : decode cX12_init 44 = .ok (.aload_n 1, 1) := dk_43 (dk_at dksX12_init_1 20 rfl rfl)
theorem dX12_init_45 : decode cX12_init 45 = .ok (.invokevirtual 34, 3) := dk_182 0 34 (dk_at dksX12_init_1 21 rfl rfl)
theorem dX12_init_48 : decode cX12_init 48 = .ok (.putfield 40, 3) := dk_181 0 40 (dk_at dksX12_init_2 0 rfl rfl)
theorem dX12_init_51 : decode cX12_init 51 = .ok (.aload_n 0, 1) := dk_42 (dk_at dksX12_init_2 3 rfl rfl)
theorem dX12_init_52 : decode cX12_init 52 = .ok (.iconst 1, 1) := dk_4 (dk_at dksX12_init_2 4 rfl rfl)
theorem dX12_init_53 : decode cX12_init 53 = .ok (.invokevirtual 44, 3) := dk_182 0 44 (dk_at dksX12_init_2 5 rfl rfl)
theorem dX12_init_56 : decode cX12_init 56 = .ok (.istore_n 2, 1) := dk_61 (dk_at dksX12_init_2 8 rfl rfl)
theorem dX12_init_57 : decode cX12_init 57 = .ok (.iload_n 2, 1) := dk_28 (dk_at dksX12_init_2 9 rfl rfl)
theorem dX12_init_58 : decode cX12_init 58 = .ok (.iconst (-1), 1) := dk_2 (dk_at dksX12_init_2 10 rfl rfl)
theorem dX12_init_59 : decode cX12_init 59 = .ok (.if_icmp .eq 17, 3) := dk_159 0 17 (dk_at dksX12_init_2 11 rfl rfl)
theorem dX12_init_62 : decode cX12_init 62 = .ok (.aload_n 0, 1) := dk_42 (dk_at dksX12_init_2 14 rfl rfl)
theorem dX12_init_63 : decode cX12_init 63 = .ok (.iload_n 2, 1) := dk_28 (dk_at dksX12_init_2 15 rfl rfl)
theorem dX12_init_64 : decode cX12_init 64 = .ok (.invokevirtual 48, 3) := dk_182 0 48 (dk_at dksX12_init_2 16 rfl rfl)
theorem dX12_init_67 : decode cX12_init 67 = .ok (.aload_n 0, 1) := dk_42 (dk_at dksX12_init_2 19 rfl rfl)
theorem dX12_init_68 : decode cX12_init 68 = .ok (.iconst 1, 1) := dk_4 (dk_at dksX12_init_2 20 rfl rfl)
theorem dX12_init_69 : decode cX12_init 69 = .ok (.invokevirtual 44, 3) := dk_182 0 44 (dk_at dksX12_init_2 21 rfl rfl)
theorem dX12_init_72 : decode cX12_init 72 = .ok (.istore_n 2, 1) := dk_61 (dk_at dksX12_init_3 0 rfl rfl)
theorem dX12_init_73 : decode cX12_init 73 = .ok (.goto (-16), 3) := dk_167 255 240 (dk_at dksX12_init_3 1 rfl rfl)
theorem dX12_init_76 : decode cX12_init 76 = .ok (.return_, 1) := dk_177 (dk_at dksX12_init_3 4 rfl rfl)
abbrev cX12_pending : ByteArray := prog_10_method_2_code
def yX12_pending : MethodName := ⟨RX12, "pending", "(Z)I"⟩
def dkwX12_pending_3 : List UInt8 := [42, 3, 182, 0, 44, 167, 0, 4, 2, 172]
abbrev dktX12_pending_3 : List UInt8 := dkwX12_pending_3 ++ []
def dkwX12_pending_2 : List UInt8 := [180, 0, 60, 28, 50, 182, 0, 64, 2, 160, 0, 5, 28, 172, 132, 2, 1, 167, 255, 194, 27, 153, 0, 11]
abbrev dktX12_pending_2 : List UInt8 := dkwX12_pending_2 ++ dktX12_pending_3
def dkwX12_pending_1 : List UInt8 := [160, 0, 38, 42, 180, 0, 18, 28, 51, 154, 0, 29, 27, 153, 0, 23, 42, 180, 0, 40, 42, 180, 0, 30]
abbrev dktX12_pending_1 : List UInt8 := dkwX12_pending_1 ++ dktX12_pending_2
def dkwX12_pending_0 : List UInt8 := [3, 61, 28, 42, 180, 0, 30, 180, 0, 52, 162, 0, 57, 42, 180, 0, 30, 180, 0, 56, 28, 46, 6]
abbrev dktX12_pending_0 : List UInt8 := dkwX12_pending_0 ++ dktX12_pending_1
theorem dksX12_pending_0 : cX12_pending.data.toList.drop 0 = dktX12_pending_0 := by decide +kernel
theorem dksX12_pending_1 : cX12_pending.data.toList.drop 23 = dktX12_pending_1 := dk_seg dksX12_pending_0 23 rfl rfl
theorem dksX12_pending_2 : cX12_pending.data.toList.drop 47 = dktX12_pending_2 := dk_seg dksX12_pending_1 24 rfl rfl
theorem dksX12_pending_3 : cX12_pending.data.toList.drop 71 = dktX12_pending_3 := dk_seg dksX12_pending_2 24 rfl rfl
theorem dX12_pending_0 : decode cX12_pending 0 = .ok (.iconst 0, 1) := dk_3 (dk_at dksX12_pending_0 0 rfl rfl)
theorem dX12_pending_1 : decode cX12_pending 1 = .ok (.istore_n 2, 1) := dk_61 (dk_at dksX12_pending_0 1 rfl rfl)
theorem dX12_pending_2 : decode cX12_pending 2 = .ok (.iload_n 2, 1) := dk_28 (dk_at dksX12_pending_0 2 rfl rfl)
theorem dX12_pending_3 : decode cX12_pending 3 = .ok (.aload_n 0, 1) := dk_42 (dk_at dksX12_pending_0 3 rfl rfl)
theorem dX12_pending_4 : decode cX12_pending 4 = .ok (.getfield 30, 3) := dk_180 0 30 (dk_at dksX12_pending_0 4 rfl rfl)
theorem dX12_pending_7 : decode cX12_pending 7 = .ok (.getfield 52, 3) := dk_180 0 52 (dk_at dksX12_pending_0 7 rfl rfl)
theorem dX12_pending_10 : decode cX12_pending 10 = .ok (.if_icmp .ge 57, 3) := dk_162 0 57 (dk_at dksX12_pending_0 10 rfl rfl)
theorem dX12_pending_13 : decode cX12_pending 13 = .ok (.aload_n 0, 1) := dk_42 (dk_at dksX12_pending_0 13 rfl rfl)
theorem dX12_pending_14 : decode cX12_pending 14 = .ok (.getfield 30, 3) := dk_180 0 30 (dk_at dksX12_pending_0 14 rfl rfl)
theorem dX12_pending_17 : decode cX12_pending 17 = .ok (.getfield 56, 3) := dk_180 0 56 (dk_at dksX12_pending_0 17 rfl rfl)
theorem dX12_pending_20 : decode cX12_pending 20 = .ok (.iload_n 2, 1) := dk_28 (dk_at dksX12_pending_0 20 rfl rfl)
theorem dX12_pending_21 : decode cX12_pending 21 = .ok (.iaload, 1) := dk_46 (dk_at dksX12_pending_0 21 rfl rfl)
theorem dX12_pending_22 : decode cX12_pending 22 = .ok (.iconst 3, 1) := dk_6 (dk_at dksX12_pending_0 22 rfl rfl)
theorem dX12_pending_23 : decode cX12_pending 23 = .ok (.if_icmp .ne 38, 3) := dk_160 0 38 (dk_at dksX12_pending_1 0 rfl rfl)
theorem dX12_pending_26 : decode cX12_pending 26 = .ok (.aload_n 0, 1) := dk_42 (dk_at dksX12_pending_1 3 rfl rfl)
theorem dX12_pending_27 : decode cX12_pending 27 = .ok (.getfield 18, 3) := dk_180 0 18 (dk_at dksX12_pending_1 4 rfl rfl)
theorem dX12_pending_30 : decode cX12_pending 30 = .ok (.iload_n 2, 1) := dk_28 (dk_at dksX12_pending_1 7 rfl rfl)
theorem dX12_pending_31 : decode cX12_pending 31 = .ok (.baload, 1) := dk_51 (dk_at dksX12_pending_1 8 rfl rfl)
theorem dX12_pending_32 : decode cX12_pending 32 = .ok (.ifCond .ne 29, 3) := dk_154 0 29 (dk_at dksX12_pending_1 9 rfl rfl)
theorem dX12_pending_35 : decode cX12_pending 35 = .ok (.iload_n 1, 1) := dk_27 (dk_at dksX12_pending_1 12 rfl rfl)
theorem dX12_pending_36 : decode cX12_pending 36 = .ok (.ifCond .eq 23, 3) := dk_153 0 23 (dk_at dksX12_pending_1 13 rfl rfl)
theorem dX12_pending_39 : decode cX12_pending 39 = .ok (.aload_n 0, 1) := dk_42 (dk_at dksX12_pending_1 16 rfl rfl)
theorem dX12_pending_40 : decode cX12_pending 40 = .ok (.getfield 40, 3) := dk_180 0 40 (dk_at dksX12_pending_1 17 rfl rfl)
theorem dX12_pending_43 : decode cX12_pending 43 = .ok (.aload_n 0, 1) := dk_42 (dk_at dksX12_pending_1 20 rfl rfl)
theorem dX12_pending_44 : decode cX12_pending 44 = .ok (.getfield 30, 3) := dk_180 0 30 (dk_at dksX12_pending_1 21 rfl rfl)
theorem dX12_pending_47 : decode cX12_pending 47 = .ok (.getfield 60, 3) := dk_180 0 60 (dk_at dksX12_pending_2 0 rfl rfl)
theorem dX12_pending_50 : decode cX12_pending 50 = .ok (.iload_n 2, 1) := dk_28 (dk_at dksX12_pending_2 3 rfl rfl)
theorem dX12_pending_51 : decode cX12_pending 51 = .ok (.aaload, 1) := dk_50 (dk_at dksX12_pending_2 4 rfl rfl)
theorem dX12_pending_52 : decode cX12_pending 52 = .ok (.invokevirtual 64, 3) := dk_182 0 64 (dk_at dksX12_pending_2 5 rfl rfl)
theorem dX12_pending_55 : decode cX12_pending 55 = .ok (.iconst (-1), 1) := dk_2 (dk_at dksX12_pending_2 8 rfl rfl)
theorem dX12_pending_56 : decode cX12_pending 56 = .ok (.if_icmp .ne 5, 3) := dk_160 0 5 (dk_at dksX12_pending_2 9 rfl rfl)
theorem dX12_pending_59 : decode cX12_pending 59 = .ok (.iload_n 2, 1) := dk_28 (dk_at dksX12_pending_2 12 rfl rfl)
theorem dX12_pending_60 : decode cX12_pending 60 = .ok (.ireturn, 1) := dk_172 (dk_at dksX12_pending_2 13 rfl rfl)
theorem dX12_pending_61 : decode cX12_pending 61 = .ok (.iinc 2 1, 3) := dk_132 2 1 (dk_at dksX12_pending_2 14 rfl rfl)
theorem dX12_pending_64 : decode cX12_pending 64 = .ok (.goto (-62), 3) := dk_167 255 194 (dk_at dksX12_pending_2 17 rfl rfl)
theorem dX12_pending_67 : decode cX12_pending 67 = .ok (.iload_n 1, 1) := dk_27 (dk_at dksX12_pending_2 20 rfl rfl)
theorem dX12_pending_68 : decode cX12_pending 68 = .ok (.ifCond .eq 11, 3) := dk_153 0 11 (dk_at dksX12_pending_2 21 rfl rfl)
theorem dX12_pending_71 : decode cX12_pending 71 = .ok (.aload_n 0, 1) := dk_42 (dk_at dksX12_pending_3 0 rfl rfl)
theorem dX12_pending_72 : decode cX12_pending 72 = .ok (.iconst 0, 1) := dk_3 (dk_at dksX12_pending_3 1 rfl rfl)
theorem dX12_pending_73 : decode cX12_pending 73 = .ok (.invokevirtual 44, 3) := dk_182 0 44 (dk_at dksX12_pending_3 2 rfl rfl)
theorem dX12_pending_76 : decode cX12_pending 76 = .ok (.goto 4, 3) := dk_167 0 4 (dk_at dksX12_pending_3 5 rfl rfl)
theorem dX12_pending_79 : decode cX12_pending 79 = .ok (.iconst (-1), 1) := dk_2 (dk_at dksX12_pending_3 8 rfl rfl)
theorem dX12_pending_80 : decode cX12_pending 80 = .ok (.ireturn, 1) := dk_172 (dk_at dksX12_pending_3 9 rfl rfl)
abbrev cX12_step : ByteArray := prog_10_method_3_code
def yX12_step : MethodName := ⟨RX12, "step", "(I)V"⟩
def dkwX12_step_6 : List UInt8 := [180, 0, 98, 182, 0, 101, 177]
abbrev dktX12_step_6 : List UInt8 := dkwX12_step_6 ++ []
def dkwX12_step_5 : List UInt8 := [180, 0, 40, 27, 42, 180, 0, 12, 42, 180, 0, 12, 182, 0, 94, 4, 100, 182, 0, 71, 192, 0, 81]
abbrev dktX12_step_5 : List UInt8 := dkwX12_step_5 ++ dktX12_step_6
def dkwX12_step_4 : List UInt8 := [89, 27, 4, 44, 42, 182, 0, 90, 183, 0, 83, 182, 0, 86, 87, 42, 180, 0, 22, 27, 4, 84, 42]
abbrev dktX12_step_4 : List UInt8 := dkwX12_step_4 ++ dktX12_step_5
def dkwX12_step_3 : List UInt8 := [183, 0, 83, 182, 0, 86, 87, 42, 180, 0, 18, 27, 4, 84, 167, 0, 32, 42, 180, 0, 12, 187, 0, 81]
abbrev dktX12_step_3 : List UInt8 := dkwX12_step_3 ++ dktX12_step_4
def dkwX12_step_2 : List UInt8 := [42, 180, 0, 22, 27, 51, 153, 0, 7, 5, 167, 0, 4, 3, 44, 42, 180, 0, 30, 180, 0, 60, 27, 50]
abbrev dktX12_step_2 : List UInt8 := dkwX12_step_2 ++ dktX12_step_3
def dkwX12_step_1 : List UInt8 := [180, 0, 30, 180, 0, 60, 27, 50, 182, 0, 64, 2, 160, 0, 53, 42, 180, 0, 12, 187, 0, 81, 89, 27]
abbrev dktX12_step_1 : List UInt8 := dkwX12_step_1 ++ dktX12_step_2
def dkwX12_step_0 : List UInt8 := [42, 180, 0, 40, 180, 0, 68, 27, 182, 0, 71, 192, 0, 75, 180, 0, 77, 77, 42, 180, 0, 40, 42]
abbrev dktX12_step_0 : List UInt8 := dkwX12_step_0 ++ dktX12_step_1
theorem dksX12_step_0 : cX12_step.data.toList.drop 0 = dktX12_step_0 := by decide +kernel
theorem dksX12_step_1 : cX12_step.data.toList.drop 23 = dktX12_step_1 := dk_seg dksX12_step_0 23 rfl rfl
theorem dksX12_step_2 : cX12_step.data.toList.drop 47 = dktX12_step_2 := dk_seg dksX12_step_1 24 rfl rfl
theorem dksX12_step_3 : cX12_step.data.toList.drop 71 = dktX12_step_3 := dk_seg dksX12_step_2 24 rfl rfl
theorem dksX12_step_4 : cX12_step.data.toList.drop 95 = dktX12_step_4 := dk_seg dksX12_step_3 24 rfl rfl
theorem dksX12_step_5 : cX12_step.data.toList.drop 118 = dktX12_step_5 := dk_seg dksX12_step_4 23 rfl rfl
theorem dksX12_step_6 : cX12_step.data.toList.drop 141 = dktX12_step_6 := dk_seg dksX12_step_5 23 rfl rfl
theorem dX12_step_0 : decode cX12_step 0 = .ok (.aload_n 0, 1) := dk_42 (dk_at dksX12_step_0 0 rfl rfl)
theorem dX12_step_1 : decode cX12_step 1 = .ok (.getfield 40, 3) := dk_180 0 40 (dk_at dksX12_step_0 1 rfl rfl)
theorem dX12_step_4 : decode cX12_step 4 = .ok (.getfield 68, 3) := dk_180 0 68 (dk_at dksX12_step_0 4 rfl rfl)
theorem dX12_step_7 : decode cX12_step 7 = .ok (.iload_n 1, 1) := dk_27 (dk_at dksX12_step_0 7 rfl rfl)
theorem dX12_step_8 : decode cX12_step 8 = .ok (.invokevirtual 71, 3) := dk_182 0 71 (dk_at dksX12_step_0 8 rfl rfl)
theorem dX12_step_11 : decode cX12_step 11 = .ok (.checkcast 75, 3) := dk_192 0 75 (dk_at dksX12_step_0 11 rfl rfl)
theorem dX12_step_14 : decode cX12_step 14 = .ok (.getfield 77, 3) := dk_180 0 77 (dk_at dksX12_step_0 14 rfl rfl)
theorem dX12_step_17 : decode cX12_step 17 = .ok (.astore_n 2, 1) := dk_77 (dk_at dksX12_step_0 17 rfl rfl)
theorem dX12_step_18 : decode cX12_step 18 = .ok (.aload_n 0, 1) := dk_42 (dk_at dksX12_step_0 18 rfl rfl)
theorem dX12_step_19 : decode cX12_step 19 = .ok (.getfield 40, 3) := dk_180 0 40 (dk_at dksX12_step_0 19 rfl rfl)
theorem dX12_step_22 : decode cX12_step 22 = .ok (.aload_n 0, 1) := dk_42 (dk_at dksX12_step_0 22 rfl rfl)
theorem dX12_step_23 : decode cX12_step 23 = .ok (.getfield 30, 3) := dk_180 0 30 (dk_at dksX12_step_1 0 rfl rfl)
theorem dX12_step_26 : decode cX12_step 26 = .ok (.getfield 60, 3) := dk_180 0 60 (dk_at dksX12_step_1 3 rfl rfl)
theorem dX12_step_29 : decode cX12_step 29 = .ok (.iload_n 1, 1) := dk_27 (dk_at dksX12_step_1 6 rfl rfl)
theorem dX12_step_30 : decode cX12_step 30 = .ok (.aaload, 1) := dk_50 (dk_at dksX12_step_1 7 rfl rfl)
theorem dX12_step_31 : decode cX12_step 31 = .ok (.invokevirtual 64, 3) := dk_182 0 64 (dk_at dksX12_step_1 8 rfl rfl)
theorem dX12_step_34 : decode cX12_step 34 = .ok (.iconst (-1), 1) := dk_2 (dk_at dksX12_step_1 11 rfl rfl)
theorem dX12_step_35 : decode cX12_step 35 = .ok (.if_icmp .ne 53, 3) := dk_160 0 53 (dk_at dksX12_step_1 12 rfl rfl)
theorem dX12_step_38 : decode cX12_step 38 = .ok (.aload_n 0, 1) := dk_42 (dk_at dksX12_step_1 15 rfl rfl)
theorem dX12_step_39 : decode cX12_step 39 = .ok (.getfield 12, 3) := dk_180 0 12 (dk_at dksX12_step_1 16 rfl rfl)
theorem dX12_step_42 : decode cX12_step 42 = .ok (.new 81, 3) := dk_187 0 81 (dk_at dksX12_step_1 19 rfl rfl)
theorem dX12_step_45 : decode cX12_step 45 = .ok (.dup, 1) := dk_89 (dk_at dksX12_step_1 22 rfl rfl)
theorem dX12_step_46 : decode cX12_step 46 = .ok (.iload_n 1, 1) := dk_27 (dk_at dksX12_step_1 23 rfl rfl)
theorem dX12_step_47 : decode cX12_step 47 = .ok (.aload_n 0, 1) := dk_42 (dk_at dksX12_step_2 0 rfl rfl)
theorem dX12_step_48 : decode cX12_step 48 = .ok (.getfield 22, 3) := dk_180 0 22 (dk_at dksX12_step_2 1 rfl rfl)
theorem dX12_step_51 : decode cX12_step 51 = .ok (.iload_n 1, 1) := dk_27 (dk_at dksX12_step_2 4 rfl rfl)
theorem dX12_step_52 : decode cX12_step 52 = .ok (.baload, 1) := dk_51 (dk_at dksX12_step_2 5 rfl rfl)
theorem dX12_step_53 : decode cX12_step 53 = .ok (.ifCond .eq 7, 3) := dk_153 0 7 (dk_at dksX12_step_2 6 rfl rfl)
theorem dX12_step_56 : decode cX12_step 56 = .ok (.iconst 2, 1) := dk_5 (dk_at dksX12_step_2 9 rfl rfl)
theorem dX12_step_57 : decode cX12_step 57 = .ok (.goto 4, 3) := dk_167 0 4 (dk_at dksX12_step_2 10 rfl rfl)
theorem dX12_step_60 : decode cX12_step 60 = .ok (.iconst 0, 1) := dk_3 (dk_at dksX12_step_2 13 rfl rfl)
theorem dX12_step_61 : decode cX12_step 61 = .ok (.aload_n 2, 1) := dk_44 (dk_at dksX12_step_2 14 rfl rfl)
theorem dX12_step_62 : decode cX12_step 62 = .ok (.aload_n 0, 1) := dk_42 (dk_at dksX12_step_2 15 rfl rfl)
theorem dX12_step_63 : decode cX12_step 63 = .ok (.getfield 30, 3) := dk_180 0 30 (dk_at dksX12_step_2 16 rfl rfl)
theorem dX12_step_66 : decode cX12_step 66 = .ok (.getfield 60, 3) := dk_180 0 60 (dk_at dksX12_step_2 19 rfl rfl)
theorem dX12_step_69 : decode cX12_step 69 = .ok (.iload_n 1, 1) := dk_27 (dk_at dksX12_step_2 22 rfl rfl)
theorem dX12_step_70 : decode cX12_step 70 = .ok (.aaload, 1) := dk_50 (dk_at dksX12_step_2 23 rfl rfl)
theorem dX12_step_71 : decode cX12_step 71 = .ok (.invokespecial 83, 3) := dk_183 0 83 (dk_at dksX12_step_3 0 rfl rfl)
theorem dX12_step_74 : decode cX12_step 74 = .ok (.invokevirtual 86, 3) := dk_182 0 86 (dk_at dksX12_step_3 3 rfl rfl)
theorem dX12_step_77 : decode cX12_step 77 = .ok (.pop, 1) := dk_87 (dk_at dksX12_step_3 6 rfl rfl)
theorem dX12_step_78 : decode cX12_step 78 = .ok (.aload_n 0, 1) := dk_42 (dk_at dksX12_step_3 7 rfl rfl)
theorem dX12_step_79 : decode cX12_step 79 = .ok (.getfield 18, 3) := dk_180 0 18 (dk_at dksX12_step_3 8 rfl rfl)
theorem dX12_step_82 : decode cX12_step 82 = .ok (.iload_n 1, 1) := dk_27 (dk_at dksX12_step_3 11 rfl rfl)
theorem dX12_step_83 : decode cX12_step 83 = .ok (.iconst 1, 1) := dk_4 (dk_at dksX12_step_3 12 rfl rfl)
theorem dX12_step_84 : decode cX12_step 84 = .ok (.bastore, 1) := dk_84 (dk_at dksX12_step_3 13 rfl rfl)
theorem dX12_step_85 : decode cX12_step 85 = .ok (.goto 32, 3) := dk_167 0 32 (dk_at dksX12_step_3 14 rfl rfl)
theorem dX12_step_88 : decode cX12_step 88 = .ok (.aload_n 0, 1) := dk_42 (dk_at dksX12_step_3 17 rfl rfl)
theorem dX12_step_89 : decode cX12_step 89 = .ok (.getfield 12, 3) := dk_180 0 12 (dk_at dksX12_step_3 18 rfl rfl)
theorem dX12_step_92 : decode cX12_step 92 = .ok (.new 81, 3) := dk_187 0 81 (dk_at dksX12_step_3 21 rfl rfl)
theorem dX12_step_95 : decode cX12_step 95 = .ok (.dup, 1) := dk_89 (dk_at dksX12_step_4 0 rfl rfl)
theorem dX12_step_96 : decode cX12_step 96 = .ok (.iload_n 1, 1) := dk_27 (dk_at dksX12_step_4 1 rfl rfl)
theorem dX12_step_97 : decode cX12_step 97 = .ok (.iconst 1, 1) := dk_4 (dk_at dksX12_step_4 2 rfl rfl)
theorem dX12_step_98 : decode cX12_step 98 = .ok (.aload_n 2, 1) := dk_44 (dk_at dksX12_step_4 3 rfl rfl)
theorem dX12_step_99 : decode cX12_step 99 = .ok (.aload_n 0, 1) := dk_42 (dk_at dksX12_step_4 4 rfl rfl)
theorem dX12_step_100 : decode cX12_step 100 = .ok (.invokevirtual 90, 3) := dk_182 0 90 (dk_at dksX12_step_4 5 rfl rfl)
theorem dX12_step_103 : decode cX12_step 103 = .ok (.invokespecial 83, 3) := dk_183 0 83 (dk_at dksX12_step_4 8 rfl rfl)
theorem dX12_step_106 : decode cX12_step 106 = .ok (.invokevirtual 86, 3) := dk_182 0 86 (dk_at dksX12_step_4 11 rfl rfl)
theorem dX12_step_109 : decode cX12_step 109 = .ok (.pop, 1) := dk_87 (dk_at dksX12_step_4 14 rfl rfl)
theorem dX12_step_110 : decode cX12_step 110 = .ok (.aload_n 0, 1) := dk_42 (dk_at dksX12_step_4 15 rfl rfl)
theorem dX12_step_111 : decode cX12_step 111 = .ok (.getfield 22, 3) := dk_180 0 22 (dk_at dksX12_step_4 16 rfl rfl)
theorem dX12_step_114 : decode cX12_step 114 = .ok (.iload_n 1, 1) := dk_27 (dk_at dksX12_step_4 19 rfl rfl)
theorem dX12_step_115 : decode cX12_step 115 = .ok (.iconst 1, 1) := dk_4 (dk_at dksX12_step_4 20 rfl rfl)
theorem dX12_step_116 : decode cX12_step 116 = .ok (.bastore, 1) := dk_84 (dk_at dksX12_step_4 21 rfl rfl)
theorem dX12_step_117 : decode cX12_step 117 = .ok (.aload_n 0, 1) := dk_42 (dk_at dksX12_step_4 22 rfl rfl)
theorem dX12_step_118 : decode cX12_step 118 = .ok (.getfield 40, 3) := dk_180 0 40 (dk_at dksX12_step_5 0 rfl rfl)
theorem dX12_step_121 : decode cX12_step 121 = .ok (.iload_n 1, 1) := dk_27 (dk_at dksX12_step_5 3 rfl rfl)
theorem dX12_step_122 : decode cX12_step 122 = .ok (.aload_n 0, 1) := dk_42 (dk_at dksX12_step_5 4 rfl rfl)
theorem dX12_step_123 : decode cX12_step 123 = .ok (.getfield 12, 3) := dk_180 0 12 (dk_at dksX12_step_5 5 rfl rfl)
theorem dX12_step_126 : decode cX12_step 126 = .ok (.aload_n 0, 1) := dk_42 (dk_at dksX12_step_5 8 rfl rfl)
theorem dX12_step_127 : decode cX12_step 127 = .ok (.getfield 12, 3) := dk_180 0 12 (dk_at dksX12_step_5 9 rfl rfl)
theorem dX12_step_130 : decode cX12_step 130 = .ok (.invokevirtual 94, 3) := dk_182 0 94 (dk_at dksX12_step_5 12 rfl rfl)
theorem dX12_step_133 : decode cX12_step 133 = .ok (.iconst 1, 1) := dk_4 (dk_at dksX12_step_5 15 rfl rfl)
theorem dX12_step_134 : decode cX12_step 134 = .ok (.isub, 1) := dk_100 (dk_at dksX12_step_5 16 rfl rfl)
theorem dX12_step_135 : decode cX12_step 135 = .ok (.invokevirtual 71, 3) := dk_182 0 71 (dk_at dksX12_step_5 17 rfl rfl)
theorem dX12_step_138 : decode cX12_step 138 = .ok (.checkcast 81, 3) := dk_192 0 81 (dk_at dksX12_step_5 20 rfl rfl)
theorem dX12_step_141 : decode cX12_step 141 = .ok (.getfield 98, 3) := dk_180 0 98 (dk_at dksX12_step_6 0 rfl rfl)
theorem dX12_step_144 : decode cX12_step 144 = .ok (.invokevirtual 101, 3) := dk_182 0 101 (dk_at dksX12_step_6 3 rfl rfl)
theorem dX12_step_147 : decode cX12_step 147 = .ok (.return_, 1) := dk_177 (dk_at dksX12_step_6 6 rfl rfl)
abbrev cX12_spare : ByteArray := prog_10_method_4_code
def yX12_spare : MethodName := ⟨RX12, "spare", "()Ljava/lang/String;"⟩
def dkwX12_spare_0 : List UInt8 := [3, 60, 42, 27, 184, 0, 105, 182, 0, 109, 153, 0, 9, 132, 1, 1, 167, 255, 242, 27, 184, 0, 105, 176]
abbrev dktX12_spare_0 : List UInt8 := dkwX12_spare_0 ++ []
theorem dksX12_spare_0 : cX12_spare.data.toList.drop 0 = dktX12_spare_0 := by decide +kernel
theorem dX12_spare_0 : decode cX12_spare 0 = .ok (.iconst 0, 1) := dk_3 (dk_at dksX12_spare_0 0 rfl rfl)
theorem dX12_spare_1 : decode cX12_spare 1 = .ok (.istore_n 1, 1) := dk_60 (dk_at dksX12_spare_0 1 rfl rfl)
theorem dX12_spare_2 : decode cX12_spare 2 = .ok (.aload_n 0, 1) := dk_42 (dk_at dksX12_spare_0 2 rfl rfl)
theorem dX12_spare_3 : decode cX12_spare 3 = .ok (.iload_n 1, 1) := dk_27 (dk_at dksX12_spare_0 3 rfl rfl)
theorem dX12_spare_4 : decode cX12_spare 4 = .ok (.invokestatic 105, 3) := dk_184 0 105 (dk_at dksX12_spare_0 4 rfl rfl)
theorem dX12_spare_7 : decode cX12_spare 7 = .ok (.invokevirtual 109, 3) := dk_182 0 109 (dk_at dksX12_spare_0 7 rfl rfl)
theorem dX12_spare_10 : decode cX12_spare 10 = .ok (.ifCond .eq 9, 3) := dk_153 0 9 (dk_at dksX12_spare_0 10 rfl rfl)
theorem dX12_spare_13 : decode cX12_spare 13 = .ok (.iinc 1 1, 3) := dk_132 1 1 (dk_at dksX12_spare_0 13 rfl rfl)
theorem dX12_spare_16 : decode cX12_spare 16 = .ok (.goto (-14), 3) := dk_167 255 242 (dk_at dksX12_spare_0 16 rfl rfl)
theorem dX12_spare_19 : decode cX12_spare 19 = .ok (.iload_n 1, 1) := dk_27 (dk_at dksX12_spare_0 19 rfl rfl)
theorem dX12_spare_20 : decode cX12_spare 20 = .ok (.invokestatic 105, 3) := dk_184 0 105 (dk_at dksX12_spare_0 20 rfl rfl)
theorem dX12_spare_23 : decode cX12_spare 23 = .ok (.areturn, 1) := dk_176 (dk_at dksX12_spare_0 23 rfl rfl)
abbrev cX12_numbered : ByteArray := prog_10_method_5_code
def yX12_numbered : MethodName := ⟨RX12, "numbered", "(I)Ljava/lang/String;"⟩
def dkwX12_numbered_0 : List UInt8 := [187, 0, 113, 89, 18, 115, 183, 0, 117, 76, 43, 26, 182, 0, 120, 182, 0, 124, 176]
abbrev dktX12_numbered_0 : List UInt8 := dkwX12_numbered_0 ++ []
theorem dksX12_numbered_0 : cX12_numbered.data.toList.drop 0 = dktX12_numbered_0 := by decide +kernel
theorem dX12_numbered_0 : decode cX12_numbered 0 = .ok (.new 113, 3) := dk_187 0 113 (dk_at dksX12_numbered_0 0 rfl rfl)
theorem dX12_numbered_3 : decode cX12_numbered 3 = .ok (.dup, 1) := dk_89 (dk_at dksX12_numbered_0 3 rfl rfl)
theorem dX12_numbered_4 : decode cX12_numbered 4 = .ok (.ldc 115, 2) := dk_18 115 (dk_at dksX12_numbered_0 4 rfl rfl)
theorem dX12_numbered_6 : decode cX12_numbered 6 = .ok (.invokespecial 117, 3) := dk_183 0 117 (dk_at dksX12_numbered_0 6 rfl rfl)
theorem dX12_numbered_9 : decode cX12_numbered 9 = .ok (.astore_n 1, 1) := dk_76 (dk_at dksX12_numbered_0 9 rfl rfl)
theorem dX12_numbered_10 : decode cX12_numbered 10 = .ok (.aload_n 1, 1) := dk_43 (dk_at dksX12_numbered_0 10 rfl rfl)
theorem dX12_numbered_11 : decode cX12_numbered 11 = .ok (.iload_n 0, 1) := dk_26 (dk_at dksX12_numbered_0 11 rfl rfl)
theorem dX12_numbered_12 : decode cX12_numbered 12 = .ok (.invokevirtual 120, 3) := dk_182 0 120 (dk_at dksX12_numbered_0 12 rfl rfl)
theorem dX12_numbered_15 : decode cX12_numbered 15 = .ok (.invokevirtual 124, 3) := dk_182 0 124 (dk_at dksX12_numbered_0 15 rfl rfl)
theorem dX12_numbered_18 : decode cX12_numbered 18 = .ok (.areturn, 1) := dk_176 (dk_at dksX12_numbered_0 18 rfl rfl)
abbrev cX12_isUsed : ByteArray := prog_10_method_6_code
def yX12_isUsed : MethodName := ⟨RX12, "isUsed", "(Ljava/lang/String;)Z"⟩
def dkwX12_isUsed_3 : List UInt8 := [132, 3, 1, 167, 255, 205, 28, 172]
abbrev dktX12_isUsed_3 : List UInt8 := dkwX12_isUsed_3 ++ []
def dkwX12_isUsed_2 : List UInt8 := [180, 0, 30, 180, 0, 60, 29, 50, 43, 182, 0, 127, 153, 0, 7, 4, 167, 0, 4, 3, 128, 61]
abbrev dktX12_isUsed_2 : List UInt8 := dkwX12_isUsed_2 ++ dktX12_isUsed_3
def dkwX12_isUsed_1 : List UInt8 := [180, 0, 30, 180, 0, 52, 162, 0, 46, 28, 42, 180, 0, 30, 180, 0, 56, 29, 46, 6, 160, 0, 23, 42]
abbrev dktX12_isUsed_1 : List UInt8 := dkwX12_isUsed_1 ++ dktX12_isUsed_2
def dkwX12_isUsed_0 : List UInt8 := [42, 180, 0, 40, 43, 182, 0, 64, 2, 159, 0, 7, 4, 167, 0, 4, 3, 61, 3, 62, 29, 42]
abbrev dktX12_isUsed_0 : List UInt8 := dkwX12_isUsed_0 ++ dktX12_isUsed_1
theorem dksX12_isUsed_0 : cX12_isUsed.data.toList.drop 0 = dktX12_isUsed_0 := by decide +kernel
theorem dksX12_isUsed_1 : cX12_isUsed.data.toList.drop 22 = dktX12_isUsed_1 := dk_seg dksX12_isUsed_0 22 rfl rfl
theorem dksX12_isUsed_2 : cX12_isUsed.data.toList.drop 46 = dktX12_isUsed_2 := dk_seg dksX12_isUsed_1 24 rfl rfl
theorem dksX12_isUsed_3 : cX12_isUsed.data.toList.drop 68 = dktX12_isUsed_3 := dk_seg dksX12_isUsed_2 22 rfl rfl
theorem dX12_isUsed_0 : decode cX12_isUsed 0 = .ok (.aload_n 0, 1) := dk_42 (dk_at dksX12_isUsed_0 0 rfl rfl)
theorem dX12_isUsed_1 : decode cX12_isUsed 1 = .ok (.getfield 40, 3) := dk_180 0 40 (dk_at dksX12_isUsed_0 1 rfl rfl)
theorem dX12_isUsed_4 : decode cX12_isUsed 4 = .ok (.aload_n 1, 1) := dk_43 (dk_at dksX12_isUsed_0 4 rfl rfl)
theorem dX12_isUsed_5 : decode cX12_isUsed 5 = .ok (.invokevirtual 64, 3) := dk_182 0 64 (dk_at dksX12_isUsed_0 5 rfl rfl)
theorem dX12_isUsed_8 : decode cX12_isUsed 8 = .ok (.iconst (-1), 1) := dk_2 (dk_at dksX12_isUsed_0 8 rfl rfl)
theorem dX12_isUsed_9 : decode cX12_isUsed 9 = .ok (.if_icmp .eq 7, 3) := dk_159 0 7 (dk_at dksX12_isUsed_0 9 rfl rfl)
theorem dX12_isUsed_12 : decode cX12_isUsed 12 = .ok (.iconst 1, 1) := dk_4 (dk_at dksX12_isUsed_0 12 rfl rfl)
theorem dX12_isUsed_13 : decode cX12_isUsed 13 = .ok (.goto 4, 3) := dk_167 0 4 (dk_at dksX12_isUsed_0 13 rfl rfl)
theorem dX12_isUsed_16 : decode cX12_isUsed 16 = .ok (.iconst 0, 1) := dk_3 (dk_at dksX12_isUsed_0 16 rfl rfl)
theorem dX12_isUsed_17 : decode cX12_isUsed 17 = .ok (.istore_n 2, 1) := dk_61 (dk_at dksX12_isUsed_0 17 rfl rfl)
theorem dX12_isUsed_18 : decode cX12_isUsed 18 = .ok (.iconst 0, 1) := dk_3 (dk_at dksX12_isUsed_0 18 rfl rfl)
theorem dX12_isUsed_19 : decode cX12_isUsed 19 = .ok (.istore_n 3, 1) := dk_62 (dk_at dksX12_isUsed_0 19 rfl rfl)
theorem dX12_isUsed_20 : decode cX12_isUsed 20 = .ok (.iload_n 3, 1) := dk_29 (dk_at dksX12_isUsed_0 20 rfl rfl)
theorem dX12_isUsed_21 : decode cX12_isUsed 21 = .ok (.aload_n 0, 1) := dk_42 (dk_at dksX12_isUsed_0 21 rfl rfl)
theorem dX12_isUsed_22 : decode cX12_isUsed 22 = .ok (.getfield 30, 3) := dk_180 0 30 (dk_at dksX12_isUsed_1 0 rfl rfl)
theorem dX12_isUsed_25 : decode cX12_isUsed 25 = .ok (.getfield 52, 3) := dk_180 0 52 (dk_at dksX12_isUsed_1 3 rfl rfl)
theorem dX12_isUsed_28 : decode cX12_isUsed 28 = .ok (.if_icmp .ge 46, 3) := dk_162 0 46 (dk_at dksX12_isUsed_1 6 rfl rfl)
theorem dX12_isUsed_31 : decode cX12_isUsed 31 = .ok (.iload_n 2, 1) := dk_28 (dk_at dksX12_isUsed_1 9 rfl rfl)
theorem dX12_isUsed_32 : decode cX12_isUsed 32 = .ok (.aload_n 0, 1) := dk_42 (dk_at dksX12_isUsed_1 10 rfl rfl)
theorem dX12_isUsed_33 : decode cX12_isUsed 33 = .ok (.getfield 30, 3) := dk_180 0 30 (dk_at dksX12_isUsed_1 11 rfl rfl)
theorem dX12_isUsed_36 : decode cX12_isUsed 36 = .ok (.getfield 56, 3) := dk_180 0 56 (dk_at dksX12_isUsed_1 14 rfl rfl)
theorem dX12_isUsed_39 : decode cX12_isUsed 39 = .ok (.iload_n 3, 1) := dk_29 (dk_at dksX12_isUsed_1 17 rfl rfl)
theorem dX12_isUsed_40 : decode cX12_isUsed 40 = .ok (.iaload, 1) := dk_46 (dk_at dksX12_isUsed_1 18 rfl rfl)
theorem dX12_isUsed_41 : decode cX12_isUsed 41 = .ok (.iconst 3, 1) := dk_6 (dk_at dksX12_isUsed_1 19 rfl rfl)
theorem dX12_isUsed_42 : decode cX12_isUsed 42 = .ok (.if_icmp .ne 23, 3) := dk_160 0 23 (dk_at dksX12_isUsed_1 20 rfl rfl)
theorem dX12_isUsed_45 : decode cX12_isUsed 45 = .ok (.aload_n 0, 1) := dk_42 (dk_at dksX12_isUsed_1 23 rfl rfl)
theorem dX12_isUsed_46 : decode cX12_isUsed 46 = .ok (.getfield 30, 3) := dk_180 0 30 (dk_at dksX12_isUsed_2 0 rfl rfl)
theorem dX12_isUsed_49 : decode cX12_isUsed 49 = .ok (.getfield 60, 3) := dk_180 0 60 (dk_at dksX12_isUsed_2 3 rfl rfl)
theorem dX12_isUsed_52 : decode cX12_isUsed 52 = .ok (.iload_n 3, 1) := dk_29 (dk_at dksX12_isUsed_2 6 rfl rfl)
theorem dX12_isUsed_53 : decode cX12_isUsed 53 = .ok (.aaload, 1) := dk_50 (dk_at dksX12_isUsed_2 7 rfl rfl)
theorem dX12_isUsed_54 : decode cX12_isUsed 54 = .ok (.aload_n 1, 1) := dk_43 (dk_at dksX12_isUsed_2 8 rfl rfl)
theorem dX12_isUsed_55 : decode cX12_isUsed 55 = .ok (.invokevirtual 127, 3) := dk_182 0 127 (dk_at dksX12_isUsed_2 9 rfl rfl)
theorem dX12_isUsed_58 : decode cX12_isUsed 58 = .ok (.ifCond .eq 7, 3) := dk_153 0 7 (dk_at dksX12_isUsed_2 12 rfl rfl)
theorem dX12_isUsed_61 : decode cX12_isUsed 61 = .ok (.iconst 1, 1) := dk_4 (dk_at dksX12_isUsed_2 15 rfl rfl)
theorem dX12_isUsed_62 : decode cX12_isUsed 62 = .ok (.goto 4, 3) := dk_167 0 4 (dk_at dksX12_isUsed_2 16 rfl rfl)
theorem dX12_isUsed_65 : decode cX12_isUsed 65 = .ok (.iconst 0, 1) := dk_3 (dk_at dksX12_isUsed_2 19 rfl rfl)
theorem dX12_isUsed_66 : decode cX12_isUsed 66 = .ok (.ior, 1) := dk_128 (dk_at dksX12_isUsed_2 20 rfl rfl)
theorem dX12_isUsed_67 : decode cX12_isUsed 67 = .ok (.istore_n 2, 1) := dk_61 (dk_at dksX12_isUsed_2 21 rfl rfl)
theorem dX12_isUsed_68 : decode cX12_isUsed 68 = .ok (.iinc 3 1, 3) := dk_132 3 1 (dk_at dksX12_isUsed_3 0 rfl rfl)
theorem dX12_isUsed_71 : decode cX12_isUsed 71 = .ok (.goto (-51), 3) := dk_167 255 205 (dk_at dksX12_isUsed_3 3 rfl rfl)
theorem dX12_isUsed_74 : decode cX12_isUsed 74 = .ok (.iload_n 2, 1) := dk_28 (dk_at dksX12_isUsed_3 6 rfl rfl)
theorem dX12_isUsed_75 : decode cX12_isUsed 75 = .ok (.ireturn, 1) := dk_172 (dk_at dksX12_isUsed_3 7 rfl rfl)
theorem q167 : (Jvm.Cond.initialized "BatchRenamer$Planner") ∈ lw_all := lw_g (lw_at lw_m1 38 rfl) rfl
theorem q598 : (Jvm.Cond.fieldLinkNest "BatchRenamer$Planner" (68 : Nat) "BatchRenamer$Board" "files" "Ljava/util/ArrayList;" "BatchRenamer") ∈ lw_tbl := lw_at lw_m2 229 rfl
theorem q831 : (Jvm.Cond.selects "BatchRenamer$Planner" ({ cls := "java/lang/Object", name := "equals", desc := "(Ljava/lang/Object;)Z" } : Jvm.MethodName) ({ cls := "java/lang/Object", name := "equals", desc := "(Ljava/lang/Object;)Z" } : Jvm.MethodName)) ∈ lw_all := lw_g (lw_at lw_m3 222 rfl) rfl
theorem q867 : (Jvm.Cond.selects "BatchRenamer$Planner" ({ cls := "java/lang/Object", name := "getClass", desc := "()Ljava/lang/Class;" } : Jvm.MethodName) ({ cls := "java/lang/Object", name := "getClass", desc := "()Ljava/lang/Class;" } : Jvm.MethodName)) ∈ lw_all := lw_g (lw_at lw_m4 18 rfl) rfl
theorem q1119 : (Jvm.Cond.fieldLinkNest "BatchRenamer$Planner" (52 : Nat) "BatchRenamer$Outlook" "many" "I" "BatchRenamer") ∈ lw_tbl := lw_at lw_m5 30 rfl
theorem q1126 : (Jvm.Cond.fieldLinkNest "BatchRenamer$Planner" (56 : Nat) "BatchRenamer$Outlook" "status" "[I" "BatchRenamer") ∈ lw_tbl := lw_at lw_m5 37 rfl
theorem q1132 : (Jvm.Cond.fieldLinkNest "BatchRenamer$Planner" (60 : Nat) "BatchRenamer$Outlook" "next" "[Ljava/lang/String;" "BatchRenamer") ∈ lw_tbl := lw_at lw_m5 43 rfl
theorem q1182 : (Jvm.Cond.instantiable "BatchRenamer$Planner" (5 : Nat)) ∈ lw_all := lw_g (lw_at lw_m5 93 rfl) rfl
theorem q1184 : (Jvm.Cond.instanceMethod ({ cls := "BatchRenamer$Planner", name := "<init>", desc := "(LBatchRenamer$Board;)V" } : Jvm.MethodName)) ∈ lw_all := lw_g (lw_at lw_m5 95 rfl) rfl
theorem q1185 : (Jvm.Cond.code ({ cls := "BatchRenamer$Planner", name := "<init>", desc := "(LBatchRenamer$Board;)V" } : Jvm.MethodName) prog_10_method_1_code (3 : Nat) (Option.none : Option Jvm.ClassFile.FieldType)) ∈ lw_all := lw_g (lw_at lw_m5 96 rfl) rfl
theorem q1186 : (Jvm.Cond.methodLink "BatchRenamer$Planner" (3 : Nat) ({ cls := "java/lang/Object", name := "<init>", desc := "()V" } : Jvm.MethodName)) ∈ lw_all := lw_g (lw_at lw_m5 97 rfl) rfl
theorem q1187 : (Jvm.Cond.classLink "BatchRenamer$Planner" (9 : Nat) "java/util/ArrayList") ∈ lw_all := lw_g (lw_at lw_m5 98 rfl) rfl
theorem q1188 : (Jvm.Cond.methodLink "BatchRenamer$Planner" (11 : Nat) ({ cls := "java/util/ArrayList", name := "<init>", desc := "()V" } : Jvm.MethodName)) ∈ lw_all := lw_g (lw_at lw_m5 99 rfl) rfl
theorem q1189 : (Jvm.Cond.classLink "BatchRenamer$Planner" (25 : Nat) "BatchRenamer$Outlook") ∈ lw_all := lw_g (lw_at lw_m5 100 rfl) rfl
theorem q1190 : (Jvm.Cond.methodLink "BatchRenamer$Planner" (27 : Nat) ({ cls := "BatchRenamer$Outlook", name := "<init>", desc := "(LBatchRenamer$Board;)V" } : Jvm.MethodName)) ∈ lw_all := lw_g (lw_at lw_m5 101 rfl) rfl
theorem q1191 : (Jvm.Cond.methodLink "BatchRenamer$Planner" (34 : Nat) ({ cls := "BatchRenamer$Board", name := "copy", desc := "()LBatchRenamer$Board;" } : Jvm.MethodName)) ∈ lw_all := lw_g (lw_at lw_m5 102 rfl) rfl
theorem q1209 : (Jvm.Cond.fieldLinkNest "BatchRenamer$Planner" (77 : Nat) "BatchRenamer$Entry" "name" "Ljava/lang/String;" "BatchRenamer") ∈ lw_tbl := lw_at lw_m5 120 rfl
theorem q1305 : (Jvm.Cond.methodLink "BatchRenamer$Planner" (44 : Nat) ({ cls := "BatchRenamer$Planner", name := "pending", desc := "(Z)I" } : Jvm.MethodName)) ∈ lw_all := lw_g (lw_at lw_m5 216 rfl) rfl
theorem q1306 : (Jvm.Cond.privateMethod ({ cls := "BatchRenamer$Planner", name := "pending", desc := "(Z)I" } : Jvm.MethodName)) ∈ lw_tbl := lw_at lw_m5 217 rfl
theorem q1307 : (Jvm.Cond.instanceMethod ({ cls := "BatchRenamer$Planner", name := "pending", desc := "(Z)I" } : Jvm.MethodName)) ∈ lw_all := lw_g (lw_at lw_m5 218 rfl) rfl
theorem q1308 : (Jvm.Cond.code ({ cls := "BatchRenamer$Planner", name := "pending", desc := "(Z)I" } : Jvm.MethodName) prog_10_method_2_code (3 : Nat) (Option.some Jvm.ClassFile.FieldType.int)) ∈ lw_all := lw_g (lw_at lw_m5 219 rfl) rfl
theorem q1309 : (Jvm.Cond.methodLink "BatchRenamer$Planner" (64 : Nat) ({ cls := "BatchRenamer$Board", name := "find", desc := "(Ljava/lang/String;)I" } : Jvm.MethodName)) ∈ lw_all := lw_g (lw_at lw_m5 220 rfl) rfl
theorem q1310 : (Jvm.Cond.methodLink "BatchRenamer$Planner" (48 : Nat) ({ cls := "BatchRenamer$Planner", name := "step", desc := "(I)V" } : Jvm.MethodName)) ∈ lw_all := lw_g (lw_at lw_m5 221 rfl) rfl
theorem q1311 : (Jvm.Cond.privateMethod ({ cls := "BatchRenamer$Planner", name := "step", desc := "(I)V" } : Jvm.MethodName)) ∈ lw_tbl := lw_at lw_m5 222 rfl
theorem q1312 : (Jvm.Cond.instanceMethod ({ cls := "BatchRenamer$Planner", name := "step", desc := "(I)V" } : Jvm.MethodName)) ∈ lw_all := lw_g (lw_at lw_m5 223 rfl) rfl
theorem q1313 : (Jvm.Cond.code ({ cls := "BatchRenamer$Planner", name := "step", desc := "(I)V" } : Jvm.MethodName) prog_10_method_3_code (3 : Nat) (Option.none : Option Jvm.ClassFile.FieldType)) ∈ lw_all := lw_g (lw_at lw_m5 224 rfl) rfl
theorem q1314 : (Jvm.Cond.methodLink "BatchRenamer$Planner" (71 : Nat) ({ cls := "java/util/ArrayList", name := "get", desc := "(I)Ljava/lang/Object;" } : Jvm.MethodName)) ∈ lw_all := lw_g (lw_at lw_m5 225 rfl) rfl
theorem q1315 : (Jvm.Cond.classLink "BatchRenamer$Planner" (75 : Nat) "BatchRenamer$Entry") ∈ lw_all := lw_g (lw_at lw_m5 226 rfl) rfl
theorem q1316 : (Jvm.Cond.classLink "BatchRenamer$Planner" (81 : Nat) "BatchRenamer$Move") ∈ lw_all := lw_g (lw_at lw_m5 227 rfl) rfl
theorem q1318 : (Jvm.Cond.methodLink "BatchRenamer$Planner" (83 : Nat) ({ cls := "BatchRenamer$Move", name := "<init>", desc := "(IILjava/lang/String;Ljava/lang/String;)V" } : Jvm.MethodName)) ∈ lw_all := lw_g (lw_at lw_m5 229 rfl) rfl
theorem q1329 : (Jvm.Cond.fieldLinkNest "BatchRenamer$Planner" (98 : Nat) "BatchRenamer$Move" "to" "Ljava/lang/String;" "BatchRenamer") ∈ lw_tbl := lw_at lw_m6 0 rfl
theorem q1340 : (Jvm.Cond.methodLink "BatchRenamer$Planner" (86 : Nat) ({ cls := "java/util/ArrayList", name := "add", desc := "(Ljava/lang/Object;)Z" } : Jvm.MethodName)) ∈ lw_all := lw_g (lw_at lw_m6 11 rfl) rfl
theorem q1341 : (Jvm.Cond.methodLink "BatchRenamer$Planner" (90 : Nat) ({ cls := "BatchRenamer$Planner", name := "spare", desc := "()Ljava/lang/String;" } : Jvm.MethodName)) ∈ lw_all := lw_g (lw_at lw_m6 12 rfl) rfl
theorem q1342 : (Jvm.Cond.privateMethod ({ cls := "BatchRenamer$Planner", name := "spare", desc := "()Ljava/lang/String;" } : Jvm.MethodName)) ∈ lw_tbl := lw_at lw_m6 13 rfl
theorem q1343 : (Jvm.Cond.instanceMethod ({ cls := "BatchRenamer$Planner", name := "spare", desc := "()Ljava/lang/String;" } : Jvm.MethodName)) ∈ lw_all := lw_g (lw_at lw_m6 14 rfl) rfl
theorem q1344 : (Jvm.Cond.code ({ cls := "BatchRenamer$Planner", name := "spare", desc := "()Ljava/lang/String;" } : Jvm.MethodName) prog_10_method_4_code (2 : Nat) (Option.some (Jvm.ClassFile.FieldType.object "java/lang/String"))) ∈ lw_all := lw_g (lw_at lw_m6 15 rfl) rfl
theorem q1345 : (Jvm.Cond.methodLink "BatchRenamer$Planner" (105 : Nat) ({ cls := "BatchRenamer$Planner", name := "numbered", desc := "(I)Ljava/lang/String;" } : Jvm.MethodName)) ∈ lw_all := lw_g (lw_at lw_m6 16 rfl) rfl
theorem q1346 : (Jvm.Cond.static ({ cls := "BatchRenamer$Planner", name := "numbered", desc := "(I)Ljava/lang/String;" } : Jvm.MethodName)) ∈ lw_all := lw_g (lw_at lw_m6 17 rfl) rfl
theorem q1347 : (Jvm.Cond.code ({ cls := "BatchRenamer$Planner", name := "numbered", desc := "(I)Ljava/lang/String;" } : Jvm.MethodName) prog_10_method_5_code (2 : Nat) (Option.some (Jvm.ClassFile.FieldType.object "java/lang/String"))) ∈ lw_all := lw_g (lw_at lw_m6 18 rfl) rfl
theorem q1348 : (Jvm.Cond.classLink "BatchRenamer$Planner" (113 : Nat) "java/lang/StringBuilder") ∈ lw_all := lw_g (lw_at lw_m6 19 rfl) rfl
theorem q1349 : (Jvm.Cond.stringRef "BatchRenamer$Planner" (115 : Nat) "tmp") ∈ lw_tbl := lw_at lw_m6 20 rfl
theorem q1350 : (Jvm.Cond.methodLink "BatchRenamer$Planner" (117 : Nat) ({ cls := "java/lang/StringBuilder", name := "<init>", desc := "(Ljava/lang/String;)V" } : Jvm.MethodName)) ∈ lw_all := lw_g (lw_at lw_m6 21 rfl) rfl
theorem q1361 : (Jvm.Cond.methodLink "BatchRenamer$Planner" (120 : Nat) ({ cls := "java/lang/StringBuilder", name := "append", desc := "(I)Ljava/lang/StringBuilder;" } : Jvm.MethodName)) ∈ lw_all := lw_g (lw_at lw_m6 32 rfl) rfl
theorem q1362 : (Jvm.Cond.methodLink "BatchRenamer$Planner" (124 : Nat) ({ cls := "java/lang/StringBuilder", name := "toString", desc := "()Ljava/lang/String;" } : Jvm.MethodName)) ∈ lw_all := lw_g (lw_at lw_m6 33 rfl) rfl
theorem q1363 : (Jvm.Cond.methodLink "BatchRenamer$Planner" (109 : Nat) ({ cls := "BatchRenamer$Planner", name := "isUsed", desc := "(Ljava/lang/String;)Z" } : Jvm.MethodName)) ∈ lw_all := lw_g (lw_at lw_m6 34 rfl) rfl
theorem q1364 : (Jvm.Cond.privateMethod ({ cls := "BatchRenamer$Planner", name := "isUsed", desc := "(Ljava/lang/String;)Z" } : Jvm.MethodName)) ∈ lw_tbl := lw_at lw_m6 35 rfl
theorem q1365 : (Jvm.Cond.instanceMethod ({ cls := "BatchRenamer$Planner", name := "isUsed", desc := "(Ljava/lang/String;)Z" } : Jvm.MethodName)) ∈ lw_all := lw_g (lw_at lw_m6 36 rfl) rfl
theorem q1366 : (Jvm.Cond.code ({ cls := "BatchRenamer$Planner", name := "isUsed", desc := "(Ljava/lang/String;)Z" } : Jvm.MethodName) prog_10_method_6_code (4 : Nat) (Option.some Jvm.ClassFile.FieldType.boolean)) ∈ lw_all := lw_g (lw_at lw_m6 37 rfl) rfl
theorem q1367 : (Jvm.Cond.methodLink "BatchRenamer$Planner" (127 : Nat) ({ cls := "java/lang/String", name := "equals", desc := "(Ljava/lang/Object;)Z" } : Jvm.MethodName)) ∈ lw_all := lw_g (lw_at lw_m6 38 rfl) rfl
theorem q1368 : (Jvm.Cond.methodLink "BatchRenamer$Planner" (94 : Nat) ({ cls := "java/util/ArrayList", name := "size", desc := "()I" } : Jvm.MethodName)) ∈ lw_all := lw_g (lw_at lw_m6 39 rfl) rfl
theorem q1369 : (Jvm.Cond.methodLink "BatchRenamer$Planner" (101 : Nat) ({ cls := "BatchRenamer$Board", name := "set", desc := "(ILjava/lang/String;)V" } : Jvm.MethodName)) ∈ lw_all := lw_g (lw_at lw_m6 40 rfl) rfl
theorem q1373 : (Jvm.Cond.fieldLink "BatchRenamer$Planner" (30 : Nat) "BatchRenamer$Planner" "outlook" "LBatchRenamer$Outlook;") ∈ lw_all := lw_g (lw_at lw_m6 44 rfl) rfl
theorem q1374 : (Jvm.Cond.fieldLink "BatchRenamer$Planner" (40 : Nat) "BatchRenamer$Planner" "trial" "LBatchRenamer$Board;") ∈ lw_all := lw_g (lw_at lw_m6 45 rfl) rfl
theorem q1376 : (Jvm.Cond.fieldLink "BatchRenamer$Planner" (12 : Nat) "BatchRenamer$Planner" "moves" "Ljava/util/ArrayList;") ∈ lw_all := lw_g (lw_at lw_m6 47 rfl) rfl
theorem q1378 : (Jvm.Cond.fieldLink "BatchRenamer$Planner" (18 : Nat) "BatchRenamer$Planner" "isDone" "[Z") ∈ lw_all := lw_g (lw_at lw_m6 49 rfl) rfl
theorem q1379 : (Jvm.Cond.fieldLink "BatchRenamer$Planner" (22 : Nat) "BatchRenamer$Planner" "isSpare" "[Z") ∈ lw_all := lw_g (lw_at lw_m6 50 rfl) rfl
theorem q1380 : (Jvm.Cond.laysFinal "BatchRenamer$Planner" "BatchRenamer$Planner" "outlook" "LBatchRenamer$Outlook;") ∈ lw_all := lw_g (lw_at lw_m6 51 rfl) rfl
theorem q1381 : (Jvm.Cond.soleField "BatchRenamer$Planner" "outlook") ∈ lw_all := lw_g (lw_at lw_m6 52 rfl) rfl
theorem q1382 : (Jvm.Cond.laysFinal "BatchRenamer$Planner" "BatchRenamer$Planner" "trial" "LBatchRenamer$Board;") ∈ lw_all := lw_g (lw_at lw_m6 53 rfl) rfl
theorem q1383 : (Jvm.Cond.soleField "BatchRenamer$Planner" "trial") ∈ lw_all := lw_g (lw_at lw_m6 54 rfl) rfl
theorem q1384 : (Jvm.Cond.laysFinal "BatchRenamer$Planner" "BatchRenamer$Planner" "moves" "Ljava/util/ArrayList;") ∈ lw_all := lw_g (lw_at lw_m6 55 rfl) rfl
theorem q1385 : (Jvm.Cond.soleField "BatchRenamer$Planner" "moves") ∈ lw_all := lw_g (lw_at lw_m6 56 rfl) rfl
theorem q1386 : (Jvm.Cond.laysFinal "BatchRenamer$Planner" "BatchRenamer$Planner" "isDone" "[Z") ∈ lw_all := lw_g (lw_at lw_m6 57 rfl) rfl
theorem q1387 : (Jvm.Cond.soleField "BatchRenamer$Planner" "isDone") ∈ lw_all := lw_g (lw_at lw_m6 58 rfl) rfl
theorem q1388 : (Jvm.Cond.laysFinal "BatchRenamer$Planner" "BatchRenamer$Planner" "isSpare" "[Z") ∈ lw_all := lw_g (lw_at lw_m6 59 rfl) rfl
theorem q1389 : (Jvm.Cond.soleField "BatchRenamer$Planner" "isSpare") ∈ lw_all := lw_g (lw_at lw_m6 60 rfl) rfl
theorem q1390 : (Jvm.Cond.superclass "BatchRenamer$Planner" "java/lang/Object") ∈ lw_all := lw_g (lw_at lw_m6 61 rfl) rfl
theorem q2924 : (Jvm.Cond.castable "BatchRenamer$Planner" "java/lang/Object") ∈ lw_tbl := lw_at lw_m12 155 rfl
theorem in_X12 : ∀ w ∈ wsX120, w ∈ lw_all := lw_in wsX120 [1380, 1382, 1384, 1386, 1388] (by decide +kernel) (by decide +kernel)

/-! BatchRenamer$Move -/
def RX13 : String := "BatchRenamer$Move"
def TX13 : u_T := fun k => match k with
  | 0 => ("BatchRenamer$Move", "file", "I", true)
  | 1 => ("BatchRenamer$Move", "kind", "I", true)
  | 2 => ("BatchRenamer$Move", "from", "Ljava/lang/String;", true)
  | _ => ("BatchRenamer$Move", "to", "Ljava/lang/String;", true)
def tyX13 : Nat → FieldType := fun k => match k with
  | 0 => .int
  | 1 => .int
  | 2 => .object "java/lang/String"
  | _ => .object "java/lang/String"
abbrev wsX130 : List Cond := u_ws RX13 TX13 4
theorem nmX13 : ∀ a, a < 4 → ∀ b, b < 4 → a ≠ b → (TX13 a).2.1 ≠ (TX13 b).2.1 := by decide +kernel
theorem tyX13_ok : ∀ k, k < 4 → parseFieldDescriptor (TX13 k).2.2.1 = some (tyX13 k) := by decide +kernel
abbrev cX13_init : ByteArray := prog_6_method_1_code
def yX13_init : MethodName := ⟨RX13, "<init>", "(IILjava/lang/String;Ljava/lang/String;)V"⟩
def dkwX13_init_1 : List UInt8 := [181, 0, 20, 177]
abbrev dktX13_init_1 : List UInt8 := dkwX13_init_1 ++ []
def dkwX13_init_0 : List UInt8 := [42, 183, 0, 1, 42, 27, 181, 0, 7, 42, 28, 181, 0, 13, 42, 45, 181, 0, 16, 42, 25, 4]
abbrev dktX13_init_0 : List UInt8 := dkwX13_init_0 ++ dktX13_init_1
theorem dksX13_init_0 : cX13_init.data.toList.drop 0 = dktX13_init_0 := by decide +kernel
theorem dksX13_init_1 : cX13_init.data.toList.drop 22 = dktX13_init_1 := dk_seg dksX13_init_0 22 rfl rfl
theorem dX13_init_0 : decode cX13_init 0 = .ok (.aload_n 0, 1) := dk_42 (dk_at dksX13_init_0 0 rfl rfl)
theorem dX13_init_1 : decode cX13_init 1 = .ok (.invokespecial 1, 3) := dk_183 0 1 (dk_at dksX13_init_0 1 rfl rfl)
theorem dX13_init_4 : decode cX13_init 4 = .ok (.aload_n 0, 1) := dk_42 (dk_at dksX13_init_0 4 rfl rfl)
theorem dX13_init_5 : decode cX13_init 5 = .ok (.iload_n 1, 1) := dk_27 (dk_at dksX13_init_0 5 rfl rfl)
theorem dX13_init_6 : decode cX13_init 6 = .ok (.putfield 7, 3) := dk_181 0 7 (dk_at dksX13_init_0 6 rfl rfl)
theorem dX13_init_9 : decode cX13_init 9 = .ok (.aload_n 0, 1) := dk_42 (dk_at dksX13_init_0 9 rfl rfl)
theorem dX13_init_10 : decode cX13_init 10 = .ok (.iload_n 2, 1) := dk_28 (dk_at dksX13_init_0 10 rfl rfl)
theorem dX13_init_11 : decode cX13_init 11 = .ok (.putfield 13, 3) := dk_181 0 13 (dk_at dksX13_init_0 11 rfl rfl)
theorem dX13_init_14 : decode cX13_init 14 = .ok (.aload_n 0, 1) := dk_42 (dk_at dksX13_init_0 14 rfl rfl)
theorem dX13_init_15 : decode cX13_init 15 = .ok (.aload_n 3, 1) := dk_45 (dk_at dksX13_init_0 15 rfl rfl)
theorem dX13_init_16 : decode cX13_init 16 = .ok (.putfield 16, 3) := dk_181 0 16 (dk_at dksX13_init_0 16 rfl rfl)
theorem dX13_init_19 : decode cX13_init 19 = .ok (.aload_n 0, 1) := dk_42 (dk_at dksX13_init_0 19 rfl rfl)
theorem dX13_init_20 : decode cX13_init 20 = .ok (.aload 4, 2) := dk_25 4 (dk_at dksX13_init_0 20 rfl rfl)
theorem dX13_init_22 : decode cX13_init 22 = .ok (.putfield 20, 3) := dk_181 0 20 (dk_at dksX13_init_1 0 rfl rfl)
theorem dX13_init_25 : decode cX13_init 25 = .ok (.return_, 1) := dk_177 (dk_at dksX13_init_1 3 rfl rfl)
theorem q169 : (Jvm.Cond.initialized "BatchRenamer$Move") ∈ lw_all := lw_g (lw_at lw_m1 40 rfl) rfl
theorem q828 : (Jvm.Cond.selects "BatchRenamer$Move" ({ cls := "java/lang/Object", name := "equals", desc := "(Ljava/lang/Object;)Z" } : Jvm.MethodName) ({ cls := "java/lang/Object", name := "equals", desc := "(Ljava/lang/Object;)Z" } : Jvm.MethodName)) ∈ lw_all := lw_g (lw_at lw_m3 219 rfl) rfl
theorem q864 : (Jvm.Cond.selects "BatchRenamer$Move" ({ cls := "java/lang/Object", name := "getClass", desc := "()Ljava/lang/Class;" } : Jvm.MethodName) ({ cls := "java/lang/Object", name := "getClass", desc := "()Ljava/lang/Class;" } : Jvm.MethodName)) ∈ lw_all := lw_g (lw_at lw_m4 15 rfl) rfl
theorem q1317 : (Jvm.Cond.instantiable "BatchRenamer$Move" (4 : Nat)) ∈ lw_all := lw_g (lw_at lw_m5 228 rfl) rfl
theorem q1319 : (Jvm.Cond.instanceMethod ({ cls := "BatchRenamer$Move", name := "<init>", desc := "(IILjava/lang/String;Ljava/lang/String;)V" } : Jvm.MethodName)) ∈ lw_all := lw_g (lw_at lw_m5 230 rfl) rfl
theorem q1320 : (Jvm.Cond.code ({ cls := "BatchRenamer$Move", name := "<init>", desc := "(IILjava/lang/String;Ljava/lang/String;)V" } : Jvm.MethodName) prog_6_method_1_code (5 : Nat) (Option.none : Option Jvm.ClassFile.FieldType)) ∈ lw_all := lw_g (lw_at lw_m5 231 rfl) rfl
theorem q1321 : (Jvm.Cond.methodLink "BatchRenamer$Move" (1 : Nat) ({ cls := "java/lang/Object", name := "<init>", desc := "()V" } : Jvm.MethodName)) ∈ lw_all := lw_g (lw_at lw_m5 232 rfl) rfl
theorem q1322 : (Jvm.Cond.fieldLink "BatchRenamer$Move" (7 : Nat) "BatchRenamer$Move" "file" "I") ∈ lw_all := lw_g (lw_at lw_m5 233 rfl) rfl
theorem q1324 : (Jvm.Cond.fieldLink "BatchRenamer$Move" (13 : Nat) "BatchRenamer$Move" "kind" "I") ∈ lw_all := lw_g (lw_at lw_m5 235 rfl) rfl
theorem q1326 : (Jvm.Cond.fieldLink "BatchRenamer$Move" (16 : Nat) "BatchRenamer$Move" "from" "Ljava/lang/String;") ∈ lw_all := lw_g (lw_at lw_m5 237 rfl) rfl
theorem q1328 : (Jvm.Cond.fieldLink "BatchRenamer$Move" (20 : Nat) "BatchRenamer$Move" "to" "Ljava/lang/String;") ∈ lw_all := lw_g (lw_at lw_m5 239 rfl) rfl
theorem q1331 : (Jvm.Cond.laysFinal "BatchRenamer$Move" "BatchRenamer$Move" "file" "I") ∈ lw_all := lw_g (lw_at lw_m6 2 rfl) rfl
theorem q1332 : (Jvm.Cond.soleField "BatchRenamer$Move" "file") ∈ lw_all := lw_g (lw_at lw_m6 3 rfl) rfl
theorem q1333 : (Jvm.Cond.laysFinal "BatchRenamer$Move" "BatchRenamer$Move" "kind" "I") ∈ lw_all := lw_g (lw_at lw_m6 4 rfl) rfl
theorem q1334 : (Jvm.Cond.soleField "BatchRenamer$Move" "kind") ∈ lw_all := lw_g (lw_at lw_m6 5 rfl) rfl
theorem q1335 : (Jvm.Cond.laysFinal "BatchRenamer$Move" "BatchRenamer$Move" "from" "Ljava/lang/String;") ∈ lw_all := lw_g (lw_at lw_m6 6 rfl) rfl
theorem q1336 : (Jvm.Cond.soleField "BatchRenamer$Move" "from") ∈ lw_all := lw_g (lw_at lw_m6 7 rfl) rfl
theorem q1337 : (Jvm.Cond.laysFinal "BatchRenamer$Move" "BatchRenamer$Move" "to" "Ljava/lang/String;") ∈ lw_all := lw_g (lw_at lw_m6 8 rfl) rfl
theorem q1338 : (Jvm.Cond.soleField "BatchRenamer$Move" "to") ∈ lw_all := lw_g (lw_at lw_m6 9 rfl) rfl
theorem q1339 : (Jvm.Cond.superclass "BatchRenamer$Move" "java/lang/Object") ∈ lw_all := lw_g (lw_at lw_m6 10 rfl) rfl
theorem q2926 : (Jvm.Cond.castable "BatchRenamer$Move" "java/lang/Object") ∈ lw_tbl := lw_at lw_m12 157 rfl
theorem in_X13 : ∀ w ∈ wsX130, w ∈ lw_all := lw_in wsX130 [1331, 1333, 1335, 1337] (by decide +kernel) (by decide +kernel)

/-! BatchRenamer$Board -/
def RX2 : String := "BatchRenamer$Board"
def TX2 : u_T := fun k => match k with
  | 0 => ("BatchRenamer$Board", "files", "Ljava/util/ArrayList;", true)
  | 1 => ("BatchRenamer$Board", "rules", "Ljava/util/ArrayList;", true)
  | 2 => ("BatchRenamer$Board", "plans", "LBatchRenamer$Journal;", true)
  | 3 => ("BatchRenamer$Board", "reading", "LBatchRenamer$Reading;", true)
  | 4 => ("BatchRenamer$Board", "start", "I", false)
  | 5 => ("BatchRenamer$Board", "step", "I", false)
  | _ => ("BatchRenamer$Board", "digits", "I", false)
def tyX2 : Nat → FieldType := fun k => match k with
  | 0 => .object "java/util/ArrayList"
  | 1 => .object "java/util/ArrayList"
  | 2 => .object "BatchRenamer$Journal"
  | 3 => .object "BatchRenamer$Reading"
  | 4 => .int
  | 5 => .int
  | _ => .int
abbrev wsX20 : List Cond := u_ws RX2 TX2 7
theorem nmX2 : ∀ a, a < 7 → ∀ b, b < 7 → a ≠ b → (TX2 a).2.1 ≠ (TX2 b).2.1 := by decide +kernel
theorem tyX2_ok : ∀ k, k < 7 → parseFieldDescriptor (TX2 k).2.2.1 = some (tyX2 k) := by decide +kernel
abbrev cX2_init : ByteArray := prog_2_method_1_code
def yX2_init : MethodName := ⟨RX2, "<init>", "()V"⟩
def dkwX2_init_2 : List UInt8 := [183, 0, 32, 181, 0, 33, 42, 4, 181, 0, 37, 42, 4, 181, 0, 41, 42, 4, 181, 0, 44, 177]
abbrev dktX2_init_2 : List UInt8 := dkwX2_init_2 ++ []
def dkwX2_init_1 : List UInt8 := [183, 0, 11, 181, 0, 20, 42, 187, 0, 23, 89, 8, 183, 0, 25, 181, 0, 26, 42, 187, 0, 30, 89]
abbrev dktX2_init_1 : List UInt8 := dkwX2_init_1 ++ dktX2_init_2
def dkwX2_init_0 : List UInt8 := [42, 183, 0, 3, 42, 187, 0, 9, 89, 16, 20, 183, 0, 11, 181, 0, 14, 42, 187, 0, 9, 89, 16, 8]
abbrev dktX2_init_0 : List UInt8 := dkwX2_init_0 ++ dktX2_init_1
theorem dksX2_init_0 : cX2_init.data.toList.drop 0 = dktX2_init_0 := by decide +kernel
theorem dksX2_init_1 : cX2_init.data.toList.drop 24 = dktX2_init_1 := dk_seg dksX2_init_0 24 rfl rfl
theorem dksX2_init_2 : cX2_init.data.toList.drop 47 = dktX2_init_2 := dk_seg dksX2_init_1 23 rfl rfl
theorem dX2_init_0 : decode cX2_init 0 = .ok (.aload_n 0, 1) := dk_42 (dk_at dksX2_init_0 0 rfl rfl)
theorem dX2_init_1 : decode cX2_init 1 = .ok (.invokespecial 3, 3) := dk_183 0 3 (dk_at dksX2_init_0 1 rfl rfl)
theorem dX2_init_4 : decode cX2_init 4 = .ok (.aload_n 0, 1) := dk_42 (dk_at dksX2_init_0 4 rfl rfl)
theorem dX2_init_5 : decode cX2_init 5 = .ok (.new 9, 3) := dk_187 0 9 (dk_at dksX2_init_0 5 rfl rfl)
theorem dX2_init_8 : decode cX2_init 8 = .ok (.dup, 1) := dk_89 (dk_at dksX2_init_0 8 rfl rfl)
theorem dX2_init_9 : decode cX2_init 9 = .ok (.bipush 20, 2) := dk_16 20 (dk_at dksX2_init_0 9 rfl rfl)
theorem dX2_init_11 : decode cX2_init 11 = .ok (.invokespecial 11, 3) := dk_183 0 11 (dk_at dksX2_init_0 11 rfl rfl)
theorem dX2_init_14 : decode cX2_init 14 = .ok (.putfield 14, 3) := dk_181 0 14 (dk_at dksX2_init_0 14 rfl rfl)
theorem dX2_init_17 : decode cX2_init 17 = .ok (.aload_n 0, 1) := dk_42 (dk_at dksX2_init_0 17 rfl rfl)
theorem dX2_init_18 : decode cX2_init 18 = .ok (.new 9, 3) := dk_187 0 9 (dk_at dksX2_init_0 18 rfl rfl)
theorem dX2_init_21 : decode cX2_init 21 = .ok (.dup, 1) := dk_89 (dk_at dksX2_init_0 21 rfl rfl)
theorem dX2_init_22 : decode cX2_init 22 = .ok (.bipush 8, 2) := dk_16 8 (dk_at dksX2_init_0 22 rfl rfl)
theorem dX2_init_24 : decode cX2_init 24 = .ok (.invokespecial 11, 3) := dk_183 0 11 (dk_at dksX2_init_1 0 rfl rfl)
theorem dX2_init_27 : decode cX2_init 27 = .ok (.putfield 20, 3) := dk_181 0 20 (dk_at dksX2_init_1 3 rfl rfl)
theorem dX2_init_30 : decode cX2_init 30 = .ok (.aload_n 0, 1) := dk_42 (dk_at dksX2_init_1 6 rfl rfl)
theorem dX2_init_31 : decode cX2_init 31 = .ok (.new 23, 3) := dk_187 0 23 (dk_at dksX2_init_1 7 rfl rfl)
theorem dX2_init_34 : decode cX2_init 34 = .ok (.dup, 1) := dk_89 (dk_at dksX2_init_1 10 rfl rfl)
theorem dX2_init_35 : decode cX2_init 35 = .ok (.iconst 5, 1) := dk_8 (dk_at dksX2_init_1 11 rfl rfl)
theorem dX2_init_36 : decode cX2_init 36 = .ok (.invokespecial 25, 3) := dk_183 0 25 (dk_at dksX2_init_1 12 rfl rfl)
theorem dX2_init_39 : decode cX2_init 39 = .ok (.putfield 26, 3) := dk_181 0 26 (dk_at dksX2_init_1 15 rfl rfl)
theorem dX2_init_42 : decode cX2_init 42 = .ok (.aload_n 0, 1) := dk_42 (dk_at dksX2_init_1 18 rfl rfl)
theorem dX2_init_43 : decode cX2_init 43 = .ok (.new 30, 3) := dk_187 0 30 (dk_at dksX2_init_1 19 rfl rfl)
theorem dX2_init_46 : decode cX2_init 46 = .ok (.dup, 1) := dk_89 (dk_at dksX2_init_1 22 rfl rfl)
theorem dX2_init_47 : decode cX2_init 47 = .ok (.invokespecial 32, 3) := dk_183 0 32 (dk_at dksX2_init_2 0 rfl rfl)
theorem dX2_init_50 : decode cX2_init 50 = .ok (.putfield 33, 3) := dk_181 0 33 (dk_at dksX2_init_2 3 rfl rfl)
theorem dX2_init_53 : decode cX2_init 53 = .ok (.aload_n 0, 1) := dk_42 (dk_at dksX2_init_2 6 rfl rfl)
theorem dX2_init_54 : decode cX2_init 54 = .ok (.iconst 1, 1) := dk_4 (dk_at dksX2_init_2 7 rfl rfl)
theorem dX2_init_55 : decode cX2_init 55 = .ok (.putfield 37, 3) := dk_181 0 37 (dk_at dksX2_init_2 8 rfl rfl)
theorem dX2_init_58 : decode cX2_init 58 = .ok (.aload_n 0, 1) := dk_42 (dk_at dksX2_init_2 11 rfl rfl)
theorem dX2_init_59 : decode cX2_init 59 = .ok (.iconst 1, 1) := dk_4 (dk_at dksX2_init_2 12 rfl rfl)
theorem dX2_init_60 : decode cX2_init 60 = .ok (.putfield 41, 3) := dk_181 0 41 (dk_at dksX2_init_2 13 rfl rfl)
theorem dX2_init_63 : decode cX2_init 63 = .ok (.aload_n 0, 1) := dk_42 (dk_at dksX2_init_2 16 rfl rfl)
theorem dX2_init_64 : decode cX2_init 64 = .ok (.iconst 1, 1) := dk_4 (dk_at dksX2_init_2 17 rfl rfl)
theorem dX2_init_65 : decode cX2_init 65 = .ok (.putfield 44, 3) := dk_181 0 44 (dk_at dksX2_init_2 18 rfl rfl)
theorem dX2_init_68 : decode cX2_init 68 = .ok (.return_, 1) := dk_177 (dk_at dksX2_init_2 21 rfl rfl)
abbrev cX2_ruleOf : ByteArray := prog_2_method_6_code
def yX2_ruleOf : MethodName := ⟨RX2, "ruleOf", "(I)I"⟩
def dkwX2_ruleOf_2 : List UInt8 := [172]
abbrev dktX2_ruleOf_2 : List UInt8 := dkwX2_ruleOf_2 ++ []
def dkwX2_ruleOf_1 : List UInt8 := [180, 0, 71, 154, 0, 20, 42, 28, 27, 182, 0, 102, 153, 0, 5, 28, 172, 132, 2, 1, 167, 255, 214, 2]
abbrev dktX2_ruleOf_1 : List UInt8 := dkwX2_ruleOf_1 ++ dktX2_ruleOf_2
def dkwX2_ruleOf_0 : List UInt8 := [3, 61, 28, 42, 180, 0, 20, 182, 0, 85, 162, 0, 37, 42, 180, 0, 14, 27, 182, 0, 89, 192, 0, 62]
abbrev dktX2_ruleOf_0 : List UInt8 := dkwX2_ruleOf_0 ++ dktX2_ruleOf_1
theorem dksX2_ruleOf_0 : cX2_ruleOf.data.toList.drop 0 = dktX2_ruleOf_0 := by decide +kernel
theorem dksX2_ruleOf_1 : cX2_ruleOf.data.toList.drop 24 = dktX2_ruleOf_1 := dk_seg dksX2_ruleOf_0 24 rfl rfl
theorem dksX2_ruleOf_2 : cX2_ruleOf.data.toList.drop 48 = dktX2_ruleOf_2 := dk_seg dksX2_ruleOf_1 24 rfl rfl
theorem dX2_ruleOf_0 : decode cX2_ruleOf 0 = .ok (.iconst 0, 1) := dk_3 (dk_at dksX2_ruleOf_0 0 rfl rfl)
theorem dX2_ruleOf_1 : decode cX2_ruleOf 1 = .ok (.istore_n 2, 1) := dk_61 (dk_at dksX2_ruleOf_0 1 rfl rfl)
theorem dX2_ruleOf_2 : decode cX2_ruleOf 2 = .ok (.iload_n 2, 1) := dk_28 (dk_at dksX2_ruleOf_0 2 rfl rfl)
theorem dX2_ruleOf_3 : decode cX2_ruleOf 3 = .ok (.aload_n 0, 1) := dk_42 (dk_at dksX2_ruleOf_0 3 rfl rfl)
theorem dX2_ruleOf_4 : decode cX2_ruleOf 4 = .ok (.getfield 20, 3) := dk_180 0 20 (dk_at dksX2_ruleOf_0 4 rfl rfl)
theorem dX2_ruleOf_7 : decode cX2_ruleOf 7 = .ok (.invokevirtual 85, 3) := dk_182 0 85 (dk_at dksX2_ruleOf_0 7 rfl rfl)
theorem dX2_ruleOf_10 : decode cX2_ruleOf 10 = .ok (.if_icmp .ge 37, 3) := dk_162 0 37 (dk_at dksX2_ruleOf_0 10 rfl rfl)
theorem dX2_ruleOf_13 : decode cX2_ruleOf 13 = .ok (.aload_n 0, 1) := dk_42 (dk_at dksX2_ruleOf_0 13 rfl rfl)
theorem dX2_ruleOf_14 : decode cX2_ruleOf 14 = .ok (.getfield 14, 3) := dk_180 0 14 (dk_at dksX2_ruleOf_0 14 rfl rfl)
theorem dX2_ruleOf_17 : decode cX2_ruleOf 17 = .ok (.iload_n 1, 1) := dk_27 (dk_at dksX2_ruleOf_0 17 rfl rfl)
theorem dX2_ruleOf_18 : decode cX2_ruleOf 18 = .ok (.invokevirtual 89, 3) := dk_182 0 89 (dk_at dksX2_ruleOf_0 18 rfl rfl)
theorem dX2_ruleOf_21 : decode cX2_ruleOf 21 = .ok (.checkcast 62, 3) := dk_192 0 62 (dk_at dksX2_ruleOf_0 21 rfl rfl)
theorem dX2_ruleOf_24 : decode cX2_ruleOf 24 = .ok (.getfield 71, 3) := dk_180 0 71 (dk_at dksX2_ruleOf_1 0 rfl rfl)
theorem dX2_ruleOf_27 : decode cX2_ruleOf 27 = .ok (.ifCond .ne 20, 3) := dk_154 0 20 (dk_at dksX2_ruleOf_1 3 rfl rfl)
theorem dX2_ruleOf_30 : decode cX2_ruleOf 30 = .ok (.aload_n 0, 1) := dk_42 (dk_at dksX2_ruleOf_1 6 rfl rfl)
theorem dX2_ruleOf_31 : decode cX2_ruleOf 31 = .ok (.iload_n 2, 1) := dk_28 (dk_at dksX2_ruleOf_1 7 rfl rfl)
theorem dX2_ruleOf_32 : decode cX2_ruleOf 32 = .ok (.iload_n 1, 1) := dk_27 (dk_at dksX2_ruleOf_1 8 rfl rfl)
theorem dX2_ruleOf_33 : decode cX2_ruleOf 33 = .ok (.invokevirtual 102, 3) := dk_182 0 102 (dk_at dksX2_ruleOf_1 9 rfl rfl)
theorem dX2_ruleOf_36 : decode cX2_ruleOf 36 = .ok (.ifCond .eq 5, 3) := dk_153 0 5 (dk_at dksX2_ruleOf_1 12 rfl rfl)
theorem dX2_ruleOf_39 : decode cX2_ruleOf 39 = .ok (.iload_n 2, 1) := dk_28 (dk_at dksX2_ruleOf_1 15 rfl rfl)
theorem dX2_ruleOf_40 : decode cX2_ruleOf 40 = .ok (.ireturn, 1) := dk_172 (dk_at dksX2_ruleOf_1 16 rfl rfl)
theorem dX2_ruleOf_41 : decode cX2_ruleOf 41 = .ok (.iinc 2 1, 3) := dk_132 2 1 (dk_at dksX2_ruleOf_1 17 rfl rfl)
theorem dX2_ruleOf_44 : decode cX2_ruleOf 44 = .ok (.goto (-42), 3) := dk_167 255 214 (dk_at dksX2_ruleOf_1 20 rfl rfl)
theorem dX2_ruleOf_47 : decode cX2_ruleOf 47 = .ok (.iconst (-1), 1) := dk_2 (dk_at dksX2_ruleOf_1 23 rfl rfl)
theorem dX2_ruleOf_48 : decode cX2_ruleOf 48 = .ok (.ireturn, 1) := dk_172 (dk_at dksX2_ruleOf_2 0 rfl rfl)
abbrev cX2_reads : ByteArray := prog_2_method_5_code
def yX2_reads : MethodName := ⟨RX2, "reads", "(II)Z"⟩
def dkwX2_reads_1 : List UInt8 := [192, 0, 62, 180, 0, 64, 182, 0, 98, 172]
abbrev dktX2_reads_1 : List UInt8 := dkwX2_reads_1 ++ []
def dkwX2_reads_0 : List UInt8 := [42, 180, 0, 20, 27, 182, 0, 89, 192, 0, 79, 42, 180, 0, 33, 42, 180, 0, 14, 28, 182, 0, 89]
abbrev dktX2_reads_0 : List UInt8 := dkwX2_reads_0 ++ dktX2_reads_1
theorem dksX2_reads_0 : cX2_reads.data.toList.drop 0 = dktX2_reads_0 := by decide +kernel
theorem dksX2_reads_1 : cX2_reads.data.toList.drop 23 = dktX2_reads_1 := dk_seg dksX2_reads_0 23 rfl rfl
theorem dX2_reads_0 : decode cX2_reads 0 = .ok (.aload_n 0, 1) := dk_42 (dk_at dksX2_reads_0 0 rfl rfl)
theorem dX2_reads_1 : decode cX2_reads 1 = .ok (.getfield 20, 3) := dk_180 0 20 (dk_at dksX2_reads_0 1 rfl rfl)
theorem dX2_reads_4 : decode cX2_reads 4 = .ok (.iload_n 1, 1) := dk_27 (dk_at dksX2_reads_0 4 rfl rfl)
theorem dX2_reads_5 : decode cX2_reads 5 = .ok (.invokevirtual 89, 3) := dk_182 0 89 (dk_at dksX2_reads_0 5 rfl rfl)
theorem dX2_reads_8 : decode cX2_reads 8 = .ok (.checkcast 79, 3) := dk_192 0 79 (dk_at dksX2_reads_0 8 rfl rfl)
theorem dX2_reads_11 : decode cX2_reads 11 = .ok (.aload_n 0, 1) := dk_42 (dk_at dksX2_reads_0 11 rfl rfl)
theorem dX2_reads_12 : decode cX2_reads 12 = .ok (.getfield 33, 3) := dk_180 0 33 (dk_at dksX2_reads_0 12 rfl rfl)
theorem dX2_reads_15 : decode cX2_reads 15 = .ok (.aload_n 0, 1) := dk_42 (dk_at dksX2_reads_0 15 rfl rfl)
theorem dX2_reads_16 : decode cX2_reads 16 = .ok (.getfield 14, 3) := dk_180 0 14 (dk_at dksX2_reads_0 16 rfl rfl)
theorem dX2_reads_19 : decode cX2_reads 19 = .ok (.iload_n 2, 1) := dk_28 (dk_at dksX2_reads_0 19 rfl rfl)
theorem dX2_reads_20 : decode cX2_reads 20 = .ok (.invokevirtual 89, 3) := dk_182 0 89 (dk_at dksX2_reads_0 20 rfl rfl)
theorem dX2_reads_23 : decode cX2_reads 23 = .ok (.checkcast 62, 3) := dk_192 0 62 (dk_at dksX2_reads_1 0 rfl rfl)
theorem dX2_reads_26 : decode cX2_reads 26 = .ok (.getfield 64, 3) := dk_180 0 64 (dk_at dksX2_reads_1 3 rfl rfl)
theorem dX2_reads_29 : decode cX2_reads 29 = .ok (.invokevirtual 98, 3) := dk_182 0 98 (dk_at dksX2_reads_1 6 rfl rfl)
theorem dX2_reads_32 : decode cX2_reads 32 = .ok (.ireturn, 1) := dk_172 (dk_at dksX2_reads_1 9 rfl rfl)
abbrev cX2_find : ByteArray := prog_2_method_3_code
def yX2_find : MethodName := ⟨RX2, "find", "(Ljava/lang/String;)I"⟩
def dkwX2_find_1 : List UInt8 := [180, 0, 64, 43, 182, 0, 93, 153, 0, 5, 28, 172, 132, 2, 1, 167, 255, 219, 2, 172]
abbrev dktX2_find_1 : List UInt8 := dkwX2_find_1 ++ []
def dkwX2_find_0 : List UInt8 := [3, 61, 28, 42, 180, 0, 14, 182, 0, 85, 162, 0, 32, 42, 180, 0, 14, 28, 182, 0, 89, 192, 0, 62]
abbrev dktX2_find_0 : List UInt8 := dkwX2_find_0 ++ dktX2_find_1
theorem dksX2_find_0 : cX2_find.data.toList.drop 0 = dktX2_find_0 := by decide +kernel
theorem dksX2_find_1 : cX2_find.data.toList.drop 24 = dktX2_find_1 := dk_seg dksX2_find_0 24 rfl rfl
theorem dX2_find_0 : decode cX2_find 0 = .ok (.iconst 0, 1) := dk_3 (dk_at dksX2_find_0 0 rfl rfl)
theorem dX2_find_1 : decode cX2_find 1 = .ok (.istore_n 2, 1) := dk_61 (dk_at dksX2_find_0 1 rfl rfl)
theorem dX2_find_2 : decode cX2_find 2 = .ok (.iload_n 2, 1) := dk_28 (dk_at dksX2_find_0 2 rfl rfl)
theorem dX2_find_3 : decode cX2_find 3 = .ok (.aload_n 0, 1) := dk_42 (dk_at dksX2_find_0 3 rfl rfl)
theorem dX2_find_4 : decode cX2_find 4 = .ok (.getfield 14, 3) := dk_180 0 14 (dk_at dksX2_find_0 4 rfl rfl)
theorem dX2_find_7 : decode cX2_find 7 = .ok (.invokevirtual 85, 3) := dk_182 0 85 (dk_at dksX2_find_0 7 rfl rfl)
theorem dX2_find_10 : decode cX2_find 10 = .ok (.if_icmp .ge 32, 3) := dk_162 0 32 (dk_at dksX2_find_0 10 rfl rfl)
theorem dX2_find_13 : decode cX2_find 13 = .ok (.aload_n 0, 1) := dk_42 (dk_at dksX2_find_0 13 rfl rfl)
theorem dX2_find_14 : decode cX2_find 14 = .ok (.getfield 14, 3) := dk_180 0 14 (dk_at dksX2_find_0 14 rfl rfl)
theorem dX2_find_17 : decode cX2_find 17 = .ok (.iload_n 2, 1) := dk_28 (dk_at dksX2_find_0 17 rfl rfl)
theorem dX2_find_18 : decode cX2_find 18 = .ok (.invokevirtual 89, 3) := dk_182 0 89 (dk_at dksX2_find_0 18 rfl rfl)
theorem dX2_find_21 : decode cX2_find 21 = .ok (.checkcast 62, 3) := dk_192 0 62 (dk_at dksX2_find_0 21 rfl rfl)
theorem dX2_find_24 : decode cX2_find 24 = .ok (.getfield 64, 3) := dk_180 0 64 (dk_at dksX2_find_1 0 rfl rfl)
theorem dX2_find_27 : decode cX2_find 27 = .ok (.aload_n 1, 1) := dk_43 (dk_at dksX2_find_1 3 rfl rfl)
theorem dX2_find_28 : decode cX2_find 28 = .ok (.invokevirtual 93, 3) := dk_182 0 93 (dk_at dksX2_find_1 4 rfl rfl)
theorem dX2_find_31 : decode cX2_find 31 = .ok (.ifCond .eq 5, 3) := dk_153 0 5 (dk_at dksX2_find_1 7 rfl rfl)
theorem dX2_find_34 : decode cX2_find 34 = .ok (.iload_n 2, 1) := dk_28 (dk_at dksX2_find_1 10 rfl rfl)
theorem dX2_find_35 : decode cX2_find 35 = .ok (.ireturn, 1) := dk_172 (dk_at dksX2_find_1 11 rfl rfl)
theorem dX2_find_36 : decode cX2_find 36 = .ok (.iinc 2 1, 3) := dk_132 2 1 (dk_at dksX2_find_1 12 rfl rfl)
theorem dX2_find_39 : decode cX2_find 39 = .ok (.goto (-37), 3) := dk_167 255 219 (dk_at dksX2_find_1 15 rfl rfl)
theorem dX2_find_42 : decode cX2_find 42 = .ok (.iconst (-1), 1) := dk_2 (dk_at dksX2_find_1 18 rfl rfl)
theorem dX2_find_43 : decode cX2_find 43 = .ok (.ireturn, 1) := dk_172 (dk_at dksX2_find_1 19 rfl rfl)
abbrev cX2_copy : ByteArray := prog_2_method_2_code
def yX2_copy : MethodName := ⟨RX2, "copy", "()LBatchRenamer$Board;"⟩
def dkwX2_copy_6 : List UInt8 := [181, 0, 44, 43, 176]
abbrev dktX2_copy_6 : List UInt8 := dkwX2_copy_6 ++ []
def dkwX2_copy_5 : List UInt8 := [182, 0, 81, 43, 42, 180, 0, 37, 181, 0, 37, 43, 42, 180, 0, 41, 181, 0, 41, 43, 42, 180, 0, 44]
abbrev dktX2_copy_5 : List UInt8 := dkwX2_copy_5 ++ dktX2_copy_6
def dkwX2_copy_4 : List UInt8 := [192, 0, 79, 78, 43, 180, 0, 20, 45, 182, 0, 75, 87, 167, 255, 228, 43, 180, 0, 26, 42, 180, 0, 26]
abbrev dktX2_copy_4 : List UInt8 := dkwX2_copy_4 ++ dktX2_copy_5
def dkwX2_copy_3 : List UInt8 := [42, 180, 0, 20, 182, 0, 48, 77, 44, 185, 0, 52, 1, 0, 153, 0, 25, 44, 185, 0, 58, 1, 0]
abbrev dktX2_copy_3 : List UInt8 := dkwX2_copy_3 ++ dktX2_copy_4
def dkwX2_copy_2 : List UInt8 := [58, 4, 25, 4, 45, 180, 0, 71, 181, 0, 71, 43, 180, 0, 14, 25, 4, 182, 0, 75, 87, 167, 255, 205]
abbrev dktX2_copy_2 : List UInt8 := dkwX2_copy_2 ++ dktX2_copy_3
def dkwX2_copy_1 : List UInt8 := [153, 0, 48, 44, 185, 0, 58, 1, 0, 192, 0, 62, 78, 187, 0, 62, 89, 45, 180, 0, 64, 183, 0, 68]
abbrev dktX2_copy_1 : List UInt8 := dkwX2_copy_1 ++ dktX2_copy_2
def dkwX2_copy_0 : List UInt8 := [187, 0, 15, 89, 183, 0, 47, 76, 42, 180, 0, 14, 182, 0, 48, 77, 44, 185, 0, 52, 1, 0]
abbrev dktX2_copy_0 : List UInt8 := dkwX2_copy_0 ++ dktX2_copy_1
theorem dksX2_copy_0 : cX2_copy.data.toList.drop 0 = dktX2_copy_0 := by decide +kernel
theorem dksX2_copy_1 : cX2_copy.data.toList.drop 22 = dktX2_copy_1 := dk_seg dksX2_copy_0 22 rfl rfl
theorem dksX2_copy_2 : cX2_copy.data.toList.drop 46 = dktX2_copy_2 := dk_seg dksX2_copy_1 24 rfl rfl
theorem dksX2_copy_3 : cX2_copy.data.toList.drop 70 = dktX2_copy_3 := dk_seg dksX2_copy_2 24 rfl rfl
theorem dksX2_copy_4 : cX2_copy.data.toList.drop 93 = dktX2_copy_4 := dk_seg dksX2_copy_3 23 rfl rfl
theorem dksX2_copy_5 : cX2_copy.data.toList.drop 117 = dktX2_copy_5 := dk_seg dksX2_copy_4 24 rfl rfl
theorem dksX2_copy_6 : cX2_copy.data.toList.drop 141 = dktX2_copy_6 := dk_seg dksX2_copy_5 24 rfl rfl
theorem dX2_copy_0 : decode cX2_copy 0 = .ok (.new 15, 3) := dk_187 0 15 (dk_at dksX2_copy_0 0 rfl rfl)
theorem dX2_copy_3 : decode cX2_copy 3 = .ok (.dup, 1) := dk_89 (dk_at dksX2_copy_0 3 rfl rfl)
theorem dX2_copy_4 : decode cX2_copy 4 = .ok (.invokespecial 47, 3) := dk_183 0 47 (dk_at dksX2_copy_0 4 rfl rfl)
theorem dX2_copy_7 : decode cX2_copy 7 = .ok (.astore_n 1, 1) := dk_76 (dk_at dksX2_copy_0 7 rfl rfl)
theorem dX2_copy_8 : decode cX2_copy 8 = .ok (.aload_n 0, 1) := dk_42 (dk_at dksX2_copy_0 8 rfl rfl)
theorem dX2_copy_9 : decode cX2_copy 9 = .ok (.getfield 14, 3) := dk_180 0 14 (dk_at dksX2_copy_0 9 rfl rfl)
theorem dX2_copy_12 : decode cX2_copy 12 = .ok (.invokevirtual 48, 3) := dk_182 0 48 (dk_at dksX2_copy_0 12 rfl rfl)
theorem dX2_copy_15 : decode cX2_copy 15 = .ok (.astore_n 2, 1) := dk_77 (dk_at dksX2_copy_0 15 rfl rfl)
theorem dX2_copy_16 : decode cX2_copy 16 = .ok (.aload_n 2, 1) := dk_44 (dk_at dksX2_copy_0 16 rfl rfl)
theorem dX2_copy_17 : decode cX2_copy 17 = .ok (.invokeinterface 52 1, 5) := by decide +kernel
theorem dX2_copy_22 : decode cX2_copy 22 = .ok (.ifCond .eq 48, 3) := dk_153 0 48 (dk_at dksX2_copy_1 0 rfl rfl)
theorem dX2_copy_25 : decode cX2_copy 25 = .ok (.aload_n 2, 1) := dk_44 (dk_at dksX2_copy_1 3 rfl rfl)
theorem dX2_copy_26 : decode cX2_copy 26 = .ok (.invokeinterface 58 1, 5) := by decide +kernel
theorem dX2_copy_31 : decode cX2_copy 31 = .ok (.checkcast 62, 3) := dk_192 0 62 (dk_at dksX2_copy_1 9 rfl rfl)
theorem dX2_copy_34 : decode cX2_copy 34 = .ok (.astore_n 3, 1) := dk_78 (dk_at dksX2_copy_1 12 rfl rfl)
theorem dX2_copy_35 : decode cX2_copy 35 = .ok (.new 62, 3) := dk_187 0 62 (dk_at dksX2_copy_1 13 rfl rfl)
theorem dX2_copy_38 : decode cX2_copy 38 = .ok (.dup, 1) := dk_89 (dk_at dksX2_copy_1 16 rfl rfl)
theorem dX2_copy_39 : decode cX2_copy 39 = .ok (.aload_n 3, 1) := dk_45 (dk_at dksX2_copy_1 17 rfl rfl)
theorem dX2_copy_40 : decode cX2_copy 40 = .ok (.getfield 64, 3) := dk_180 0 64 (dk_at dksX2_copy_1 18 rfl rfl)
theorem dX2_copy_43 : decode cX2_copy 43 = .ok (.invokespecial 68, 3) := dk_183 0 68 (dk_at dksX2_copy_1 21 rfl rfl)
theorem dX2_copy_46 : decode cX2_copy 46 = .ok (.astore 4, 2) := dk_58 4 (dk_at dksX2_copy_2 0 rfl rfl)
theorem dX2_copy_48 : decode cX2_copy 48 = .ok (.aload 4, 2) := dk_25 4 (dk_at dksX2_copy_2 2 rfl rfl)
theorem dX2_copy_50 : decode cX2_copy 50 = .ok (.aload_n 3, 1) := dk_45 (dk_at dksX2_copy_2 4 rfl rfl)
theorem dX2_copy_51 : decode cX2_copy 51 = .ok (.getfield 71, 3) := dk_180 0 71 (dk_at dksX2_copy_2 5 rfl rfl)
theorem dX2_copy_54 : decode cX2_copy 54 = .ok (.putfield 71, 3) := dk_181 0 71 (dk_at dksX2_copy_2 8 rfl rfl)
theorem dX2_copy_57 : decode cX2_copy 57 = .ok (.aload_n 1, 1) := dk_43 (dk_at dksX2_copy_2 11 rfl rfl)
theorem dX2_copy_58 : decode cX2_copy 58 = .ok (.getfield 14, 3) := dk_180 0 14 (dk_at dksX2_copy_2 12 rfl rfl)
theorem dX2_copy_61 : decode cX2_copy 61 = .ok (.aload 4, 2) := dk_25 4 (dk_at dksX2_copy_2 15 rfl rfl)
theorem dX2_copy_63 : decode cX2_copy 63 = .ok (.invokevirtual 75, 3) := dk_182 0 75 (dk_at dksX2_copy_2 17 rfl rfl)
theorem dX2_copy_66 : decode cX2_copy 66 = .ok (.pop, 1) := dk_87 (dk_at dksX2_copy_2 20 rfl rfl)
theorem dX2_copy_67 : decode cX2_copy 67 = .ok (.goto (-51), 3) := dk_167 255 205 (dk_at dksX2_copy_2 21 rfl rfl)
theorem dX2_copy_70 : decode cX2_copy 70 = .ok (.aload_n 0, 1) := dk_42 (dk_at dksX2_copy_3 0 rfl rfl)
theorem dX2_copy_71 : decode cX2_copy 71 = .ok (.getfield 20, 3) := dk_180 0 20 (dk_at dksX2_copy_3 1 rfl rfl)
theorem dX2_copy_74 : decode cX2_copy 74 = .ok (.invokevirtual 48, 3) := dk_182 0 48 (dk_at dksX2_copy_3 4 rfl rfl)
theorem dX2_copy_77 : decode cX2_copy 77 = .ok (.astore_n 2, 1) := dk_77 (dk_at dksX2_copy_3 7 rfl rfl)
theorem dX2_copy_78 : decode cX2_copy 78 = .ok (.aload_n 2, 1) := dk_44 (dk_at dksX2_copy_3 8 rfl rfl)
theorem dX2_copy_79 : decode cX2_copy 79 = .ok (.invokeinterface 52 1, 5) := by decide +kernel
theorem dX2_copy_84 : decode cX2_copy 84 = .ok (.ifCond .eq 25, 3) := dk_153 0 25 (dk_at dksX2_copy_3 14 rfl rfl)
theorem dX2_copy_87 : decode cX2_copy 87 = .ok (.aload_n 2, 1) := dk_44 (dk_at dksX2_copy_3 17 rfl rfl)
theorem dX2_copy_88 : decode cX2_copy 88 = .ok (.invokeinterface 58 1, 5) := by decide +kernel
theorem dX2_copy_93 : decode cX2_copy 93 = .ok (.checkcast 79, 3) := dk_192 0 79 (dk_at dksX2_copy_4 0 rfl rfl)
theorem dX2_copy_96 : decode cX2_copy 96 = .ok (.astore_n 3, 1) := dk_78 (dk_at dksX2_copy_4 3 rfl rfl)
theorem dX2_copy_97 : decode cX2_copy 97 = .ok (.aload_n 1, 1) := dk_43 (dk_at dksX2_copy_4 4 rfl rfl)
theorem dX2_copy_98 : decode cX2_copy 98 = .ok (.getfield 20, 3) := dk_180 0 20 (dk_at dksX2_copy_4 5 rfl rfl)
theorem dX2_copy_101 : decode cX2_copy 101 = .ok (.aload_n 3, 1) := dk_45 (dk_at dksX2_copy_4 8 rfl rfl)
theorem dX2_copy_102 : decode cX2_copy 102 = .ok (.invokevirtual 75, 3) := dk_182 0 75 (dk_at dksX2_copy_4 9 rfl rfl)
theorem dX2_copy_105 : decode cX2_copy 105 = .ok (.pop, 1) := dk_87 (dk_at dksX2_copy_4 12 rfl rfl)
theorem dX2_copy_106 : decode cX2_copy 106 = .ok (.goto (-28), 3) := dk_167 255 228 (dk_at dksX2_copy_4 13 rfl rfl)
theorem dX2_copy_109 : decode cX2_copy 109 = .ok (.aload_n 1, 1) := dk_43 (dk_at dksX2_copy_4 16 rfl rfl)
theorem dX2_copy_110 : decode cX2_copy 110 = .ok (.getfield 26, 3) := dk_180 0 26 (dk_at dksX2_copy_4 17 rfl rfl)
theorem dX2_copy_113 : decode cX2_copy 113 = .ok (.aload_n 0, 1) := dk_42 (dk_at dksX2_copy_4 20 rfl rfl)
theorem dX2_copy_114 : decode cX2_copy 114 = .ok (.getfield 26, 3) := dk_180 0 26 (dk_at dksX2_copy_4 21 rfl rfl)
theorem dX2_copy_117 : decode cX2_copy 117 = .ok (.invokevirtual 81, 3) := dk_182 0 81 (dk_at dksX2_copy_5 0 rfl rfl)
theorem dX2_copy_120 : decode cX2_copy 120 = .ok (.aload_n 1, 1) := dk_43 (dk_at dksX2_copy_5 3 rfl rfl)
theorem dX2_copy_121 : decode cX2_copy 121 = .ok (.aload_n 0, 1) := dk_42 (dk_at dksX2_copy_5 4 rfl rfl)
theorem dX2_copy_122 : decode cX2_copy 122 = .ok (.getfield 37, 3) := dk_180 0 37 (dk_at dksX2_copy_5 5 rfl rfl)
theorem dX2_copy_125 : decode cX2_copy 125 = .ok (.putfield 37, 3) := dk_181 0 37 (dk_at dksX2_copy_5 8 rfl rfl)
theorem dX2_copy_128 : decode cX2_copy 128 = .ok (.aload_n 1, 1) := dk_43 (dk_at dksX2_copy_5 11 rfl rfl)
theorem dX2_copy_129 : decode cX2_copy 129 = .ok (.aload_n 0, 1) := dk_42 (dk_at dksX2_copy_5 12 rfl rfl)
theorem dX2_copy_130 : decode cX2_copy 130 = .ok (.getfield 41, 3) := dk_180 0 41 (dk_at dksX2_copy_5 13 rfl rfl)
theorem dX2_copy_133 : decode cX2_copy 133 = .ok (.putfield 41, 3) := dk_181 0 41 (dk_at dksX2_copy_5 16 rfl rfl)
theorem dX2_copy_136 : decode cX2_copy 136 = .ok (.aload_n 1, 1) := dk_43 (dk_at dksX2_copy_5 19 rfl rfl)
theorem dX2_copy_137 : decode cX2_copy 137 = .ok (.aload_n 0, 1) := dk_42 (dk_at dksX2_copy_5 20 rfl rfl)
theorem dX2_copy_138 : decode cX2_copy 138 = .ok (.getfield 44, 3) := dk_180 0 44 (dk_at dksX2_copy_5 21 rfl rfl)
theorem dX2_copy_141 : decode cX2_copy 141 = .ok (.putfield 44, 3) := dk_181 0 44 (dk_at dksX2_copy_6 0 rfl rfl)
theorem dX2_copy_144 : decode cX2_copy 144 = .ok (.aload_n 1, 1) := dk_43 (dk_at dksX2_copy_6 3 rfl rfl)
theorem dX2_copy_145 : decode cX2_copy 145 = .ok (.areturn, 1) := dk_176 (dk_at dksX2_copy_6 4 rfl rfl)
abbrev cX2_set : ByteArray := prog_2_method_4_code
def yX2_set : MethodName := ⟨RX2, "set", "(ILjava/lang/String;)V"⟩
def dkwX2_set_0 : List UInt8 := [42, 180, 0, 14, 27, 182, 0, 89, 192, 0, 62, 44, 181, 0, 64, 177]
abbrev dktX2_set_0 : List UInt8 := dkwX2_set_0 ++ []
theorem dksX2_set_0 : cX2_set.data.toList.drop 0 = dktX2_set_0 := by decide +kernel
theorem dX2_set_0 : decode cX2_set 0 = .ok (.aload_n 0, 1) := dk_42 (dk_at dksX2_set_0 0 rfl rfl)
theorem dX2_set_1 : decode cX2_set 1 = .ok (.getfield 14, 3) := dk_180 0 14 (dk_at dksX2_set_0 1 rfl rfl)
theorem dX2_set_4 : decode cX2_set 4 = .ok (.iload_n 1, 1) := dk_27 (dk_at dksX2_set_0 4 rfl rfl)
theorem dX2_set_5 : decode cX2_set 5 = .ok (.invokevirtual 89, 3) := dk_182 0 89 (dk_at dksX2_set_0 5 rfl rfl)
theorem dX2_set_8 : decode cX2_set 8 = .ok (.checkcast 62, 3) := dk_192 0 62 (dk_at dksX2_set_0 8 rfl rfl)
theorem dX2_set_11 : decode cX2_set 11 = .ok (.aload_n 2, 1) := dk_44 (dk_at dksX2_set_0 11 rfl rfl)
theorem dX2_set_12 : decode cX2_set 12 = .ok (.putfield 64, 3) := dk_181 0 64 (dk_at dksX2_set_0 12 rfl rfl)
theorem dX2_set_15 : decode cX2_set 15 = .ok (.return_, 1) := dk_177 (dk_at dksX2_set_0 15 rfl rfl)
abbrev cX2_copy_2 : ByteArray := prog_2_method_7_code
def yX2_copy_2 : MethodName := ⟨RX2, "copy", "()Ljava/lang/Object;"⟩
theorem dX2_copy_2_0 : decode cX2_copy_2 0 = .ok (.aload_n 0, 1) := by decide +kernel
theorem dX2_copy_2_1 : decode cX2_copy_2 1 = .ok (.invokevirtual 105, 3) := by decide +kernel
theorem dX2_copy_2_4 : decode cX2_copy_2 4 = .ok (.areturn, 1) := by decide +kernel
theorem q131 : (Jvm.Cond.initialized "BatchRenamer$Board") ∈ lw_all := lw_g (lw_at lw_m1 2 rfl) rfl
theorem q179 : (Jvm.Cond.instantiable "BatchRenamer$Board" (7 : Nat)) ∈ lw_all := lw_g (lw_at lw_m1 50 rfl) rfl
theorem q181 : (Jvm.Cond.instanceMethod ({ cls := "BatchRenamer$Board", name := "<init>", desc := "()V" } : Jvm.MethodName)) ∈ lw_all := lw_g (lw_at lw_m1 52 rfl) rfl
theorem q182 : (Jvm.Cond.code ({ cls := "BatchRenamer$Board", name := "<init>", desc := "()V" } : Jvm.MethodName) prog_2_method_1_code (1 : Nat) (Option.none : Option Jvm.ClassFile.FieldType)) ∈ lw_all := lw_g (lw_at lw_m1 53 rfl) rfl
theorem q183 : (Jvm.Cond.methodLink "BatchRenamer$Board" (3 : Nat) ({ cls := "java/lang/Object", name := "<init>", desc := "()V" } : Jvm.MethodName)) ∈ lw_all := lw_g (lw_at lw_m1 54 rfl) rfl
theorem q184 : (Jvm.Cond.classLink "BatchRenamer$Board" (9 : Nat) "java/util/ArrayList") ∈ lw_all := lw_g (lw_at lw_m1 55 rfl) rfl
theorem q186 : (Jvm.Cond.methodLink "BatchRenamer$Board" (11 : Nat) ({ cls := "java/util/ArrayList", name := "<init>", desc := "(I)V" } : Jvm.MethodName)) ∈ lw_all := lw_g (lw_at lw_m1 57 rfl) rfl
theorem q533 : (Jvm.Cond.classLink "BatchRenamer$Board" (23 : Nat) "BatchRenamer$Journal") ∈ lw_all := lw_g (lw_at lw_m2 164 rfl) rfl
theorem q535 : (Jvm.Cond.methodLink "BatchRenamer$Board" (25 : Nat) ({ cls := "BatchRenamer$Journal", name := "<init>", desc := "(I)V" } : Jvm.MethodName)) ∈ lw_all := lw_g (lw_at lw_m2 166 rfl) rfl
theorem q565 : (Jvm.Cond.classLink "BatchRenamer$Board" (30 : Nat) "BatchRenamer$Reading") ∈ lw_all := lw_g (lw_at lw_m2 196 rfl) rfl
theorem q567 : (Jvm.Cond.methodLinkNest "BatchRenamer$Board" (32 : Nat) ({ cls := "BatchRenamer$Reading", name := "<init>", desc := "()V" } : Jvm.MethodName) "BatchRenamer") ∈ lw_tbl := lw_at lw_m2 198 rfl
theorem q596 : (Jvm.Cond.fieldLink "BatchRenamer$Board" (14 : Nat) "BatchRenamer$Board" "files" "Ljava/util/ArrayList;") ∈ lw_all := lw_g (lw_at lw_m2 227 rfl) rfl
theorem q601 : (Jvm.Cond.fieldLink "BatchRenamer$Board" (20 : Nat) "BatchRenamer$Board" "rules" "Ljava/util/ArrayList;") ∈ lw_all := lw_g (lw_at lw_m2 232 rfl) rfl
theorem q605 : (Jvm.Cond.fieldLink "BatchRenamer$Board" (26 : Nat) "BatchRenamer$Board" "plans" "LBatchRenamer$Journal;") ∈ lw_all := lw_g (lw_at lw_m2 236 rfl) rfl
theorem q607 : (Jvm.Cond.fieldLink "BatchRenamer$Board" (33 : Nat) "BatchRenamer$Board" "reading" "LBatchRenamer$Reading;") ∈ lw_all := lw_g (lw_at lw_m2 238 rfl) rfl
theorem q610 : (Jvm.Cond.fieldLink "BatchRenamer$Board" (37 : Nat) "BatchRenamer$Board" "start" "I") ∈ lw_all := lw_g (lw_at lw_m3 1 rfl) rfl
theorem q614 : (Jvm.Cond.fieldLink "BatchRenamer$Board" (41 : Nat) "BatchRenamer$Board" "step" "I") ∈ lw_all := lw_g (lw_at lw_m3 5 rfl) rfl
theorem q618 : (Jvm.Cond.fieldLink "BatchRenamer$Board" (44 : Nat) "BatchRenamer$Board" "digits" "I") ∈ lw_all := lw_g (lw_at lw_m3 9 rfl) rfl
theorem q622 : (Jvm.Cond.laysFinal "BatchRenamer$Board" "BatchRenamer$Board" "files" "Ljava/util/ArrayList;") ∈ lw_all := lw_g (lw_at lw_m3 13 rfl) rfl
theorem q623 : (Jvm.Cond.soleField "BatchRenamer$Board" "files") ∈ lw_all := lw_g (lw_at lw_m3 14 rfl) rfl
theorem q624 : (Jvm.Cond.laysFinal "BatchRenamer$Board" "BatchRenamer$Board" "rules" "Ljava/util/ArrayList;") ∈ lw_all := lw_g (lw_at lw_m3 15 rfl) rfl
theorem q625 : (Jvm.Cond.soleField "BatchRenamer$Board" "rules") ∈ lw_all := lw_g (lw_at lw_m3 16 rfl) rfl
theorem q626 : (Jvm.Cond.laysFinal "BatchRenamer$Board" "BatchRenamer$Board" "plans" "LBatchRenamer$Journal;") ∈ lw_all := lw_g (lw_at lw_m3 17 rfl) rfl
theorem q627 : (Jvm.Cond.soleField "BatchRenamer$Board" "plans") ∈ lw_all := lw_g (lw_at lw_m3 18 rfl) rfl
theorem q628 : (Jvm.Cond.laysFinal "BatchRenamer$Board" "BatchRenamer$Board" "reading" "LBatchRenamer$Reading;") ∈ lw_all := lw_g (lw_at lw_m3 19 rfl) rfl
theorem q629 : (Jvm.Cond.soleField "BatchRenamer$Board" "reading") ∈ lw_all := lw_g (lw_at lw_m3 20 rfl) rfl
theorem q630 : (Jvm.Cond.lays "BatchRenamer$Board" "BatchRenamer$Board" "start" "I") ∈ lw_all := lw_g (lw_at lw_m3 21 rfl) rfl
theorem q631 : (Jvm.Cond.soleField "BatchRenamer$Board" "start") ∈ lw_all := lw_g (lw_at lw_m3 22 rfl) rfl
theorem q632 : (Jvm.Cond.lays "BatchRenamer$Board" "BatchRenamer$Board" "step" "I") ∈ lw_all := lw_g (lw_at lw_m3 23 rfl) rfl
theorem q633 : (Jvm.Cond.soleField "BatchRenamer$Board" "step") ∈ lw_all := lw_g (lw_at lw_m3 24 rfl) rfl
theorem q634 : (Jvm.Cond.lays "BatchRenamer$Board" "BatchRenamer$Board" "digits" "I") ∈ lw_all := lw_g (lw_at lw_m3 25 rfl) rfl
theorem q635 : (Jvm.Cond.soleField "BatchRenamer$Board" "digits") ∈ lw_all := lw_g (lw_at lw_m3 26 rfl) rfl
theorem q636 : (Jvm.Cond.superclass "BatchRenamer$Board" "java/lang/Object") ∈ lw_all := lw_g (lw_at lw_m3 27 rfl) rfl
theorem q700 : (Jvm.Cond.instanceMethod ({ cls := "BatchRenamer$Board", name := "ruleOf", desc := "(I)I" } : Jvm.MethodName)) ∈ lw_all := lw_g (lw_at lw_m3 91 rfl) rfl
theorem q701 : (Jvm.Cond.selects "BatchRenamer$Board" ({ cls := "BatchRenamer$Board", name := "ruleOf", desc := "(I)I" } : Jvm.MethodName) ({ cls := "BatchRenamer$Board", name := "ruleOf", desc := "(I)I" } : Jvm.MethodName)) ∈ lw_all := lw_g (lw_at lw_m3 92 rfl) rfl
theorem q702 : (Jvm.Cond.code ({ cls := "BatchRenamer$Board", name := "ruleOf", desc := "(I)I" } : Jvm.MethodName) prog_2_method_6_code (3 : Nat) (Option.some Jvm.ClassFile.FieldType.int)) ∈ lw_all := lw_g (lw_at lw_m3 93 rfl) rfl
theorem q703 : (Jvm.Cond.methodLink "BatchRenamer$Board" (85 : Nat) ({ cls := "java/util/ArrayList", name := "size", desc := "()I" } : Jvm.MethodName)) ∈ lw_all := lw_g (lw_at lw_m3 94 rfl) rfl
theorem q704 : (Jvm.Cond.methodLink "BatchRenamer$Board" (89 : Nat) ({ cls := "java/util/ArrayList", name := "get", desc := "(I)Ljava/lang/Object;" } : Jvm.MethodName)) ∈ lw_all := lw_g (lw_at lw_m3 95 rfl) rfl
theorem q718 : (Jvm.Cond.classLink "BatchRenamer$Board" (62 : Nat) "BatchRenamer$Entry") ∈ lw_all := lw_g (lw_at lw_m3 109 rfl) rfl
theorem q719 : (Jvm.Cond.methodLink "BatchRenamer$Board" (102 : Nat) ({ cls := "BatchRenamer$Board", name := "reads", desc := "(II)Z" } : Jvm.MethodName)) ∈ lw_all := lw_g (lw_at lw_m3 110 rfl) rfl
theorem q720 : (Jvm.Cond.instanceMethod ({ cls := "BatchRenamer$Board", name := "reads", desc := "(II)Z" } : Jvm.MethodName)) ∈ lw_all := lw_g (lw_at lw_m3 111 rfl) rfl
theorem q721 : (Jvm.Cond.selects "BatchRenamer$Board" ({ cls := "BatchRenamer$Board", name := "reads", desc := "(II)Z" } : Jvm.MethodName) ({ cls := "BatchRenamer$Board", name := "reads", desc := "(II)Z" } : Jvm.MethodName)) ∈ lw_all := lw_g (lw_at lw_m3 112 rfl) rfl
theorem q722 : (Jvm.Cond.code ({ cls := "BatchRenamer$Board", name := "reads", desc := "(II)Z" } : Jvm.MethodName) prog_2_method_5_code (3 : Nat) (Option.some Jvm.ClassFile.FieldType.boolean)) ∈ lw_all := lw_g (lw_at lw_m3 113 rfl) rfl
theorem q723 : (Jvm.Cond.classLink "BatchRenamer$Board" (79 : Nat) "BatchRenamer$Rule") ∈ lw_all := lw_g (lw_at lw_m3 114 rfl) rfl
theorem q724 : (Jvm.Cond.methodLink "BatchRenamer$Board" (98 : Nat) ({ cls := "BatchRenamer$Rule", name := "reads", desc := "(LBatchRenamer$Reading;Ljava/lang/String;)Z" } : Jvm.MethodName)) ∈ lw_all := lw_g (lw_at lw_m3 115 rfl) rfl
theorem q825 : (Jvm.Cond.selects "BatchRenamer$Board" ({ cls := "java/lang/Object", name := "equals", desc := "(Ljava/lang/Object;)Z" } : Jvm.MethodName) ({ cls := "java/lang/Object", name := "equals", desc := "(Ljava/lang/Object;)Z" } : Jvm.MethodName)) ∈ lw_all := lw_g (lw_at lw_m3 216 rfl) rfl
theorem q861 : (Jvm.Cond.selects "BatchRenamer$Board" ({ cls := "java/lang/Object", name := "getClass", desc := "()Ljava/lang/Class;" } : Jvm.MethodName) ({ cls := "java/lang/Object", name := "getClass", desc := "()Ljava/lang/Class;" } : Jvm.MethodName)) ∈ lw_all := lw_g (lw_at lw_m4 12 rfl) rfl
theorem q1113 : (Jvm.Cond.instanceMethod ({ cls := "BatchRenamer$Board", name := "find", desc := "(Ljava/lang/String;)I" } : Jvm.MethodName)) ∈ lw_all := lw_g (lw_at lw_m5 24 rfl) rfl
theorem q1114 : (Jvm.Cond.selects "BatchRenamer$Board" ({ cls := "BatchRenamer$Board", name := "find", desc := "(Ljava/lang/String;)I" } : Jvm.MethodName) ({ cls := "BatchRenamer$Board", name := "find", desc := "(Ljava/lang/String;)I" } : Jvm.MethodName)) ∈ lw_all := lw_g (lw_at lw_m5 25 rfl) rfl
theorem q1115 : (Jvm.Cond.code ({ cls := "BatchRenamer$Board", name := "find", desc := "(Ljava/lang/String;)I" } : Jvm.MethodName) prog_2_method_3_code (3 : Nat) (Option.some Jvm.ClassFile.FieldType.int)) ∈ lw_all := lw_g (lw_at lw_m5 26 rfl) rfl
theorem q1116 : (Jvm.Cond.methodLink "BatchRenamer$Board" (93 : Nat) ({ cls := "java/lang/String", name := "equals", desc := "(Ljava/lang/Object;)Z" } : Jvm.MethodName)) ∈ lw_all := lw_g (lw_at lw_m5 27 rfl) rfl
theorem q1192 : (Jvm.Cond.instanceMethod ({ cls := "BatchRenamer$Board", name := "copy", desc := "()LBatchRenamer$Board;" } : Jvm.MethodName)) ∈ lw_all := lw_g (lw_at lw_m5 103 rfl) rfl
theorem q1193 : (Jvm.Cond.selects "BatchRenamer$Board" ({ cls := "BatchRenamer$Board", name := "copy", desc := "()LBatchRenamer$Board;" } : Jvm.MethodName) ({ cls := "BatchRenamer$Board", name := "copy", desc := "()LBatchRenamer$Board;" } : Jvm.MethodName)) ∈ lw_all := lw_g (lw_at lw_m5 104 rfl) rfl
theorem q1194 : (Jvm.Cond.code ({ cls := "BatchRenamer$Board", name := "copy", desc := "()LBatchRenamer$Board;" } : Jvm.MethodName) prog_2_method_2_code (5 : Nat) (Option.some (Jvm.ClassFile.FieldType.object "BatchRenamer$Board"))) ∈ lw_all := lw_g (lw_at lw_m5 105 rfl) rfl
theorem q1195 : (Jvm.Cond.classLink "BatchRenamer$Board" (15 : Nat) "BatchRenamer$Board") ∈ lw_all := lw_g (lw_at lw_m5 106 rfl) rfl
theorem q1196 : (Jvm.Cond.methodLink "BatchRenamer$Board" (47 : Nat) ({ cls := "BatchRenamer$Board", name := "<init>", desc := "()V" } : Jvm.MethodName)) ∈ lw_all := lw_g (lw_at lw_m5 107 rfl) rfl
theorem q1197 : (Jvm.Cond.methodLink "BatchRenamer$Board" (48 : Nat) ({ cls := "java/util/ArrayList", name := "iterator", desc := "()Ljava/util/Iterator;" } : Jvm.MethodName)) ∈ lw_all := lw_g (lw_at lw_m5 108 rfl) rfl
theorem q1198 : (Jvm.Cond.interfaceEntry "BatchRenamer$Board" (52 : Nat)) ∈ lw_tbl := lw_at lw_m5 109 rfl
theorem q1199 : (Jvm.Cond.methodLink "BatchRenamer$Board" (52 : Nat) ({ cls := "java/util/Iterator", name := "hasNext", desc := "()Z" } : Jvm.MethodName)) ∈ lw_all := lw_g (lw_at lw_m5 110 rfl) rfl
theorem q1200 : (Jvm.Cond.interfaceEntry "BatchRenamer$Board" (58 : Nat)) ∈ lw_tbl := lw_at lw_m5 111 rfl
theorem q1201 : (Jvm.Cond.methodLink "BatchRenamer$Board" (58 : Nat) ({ cls := "java/util/Iterator", name := "next", desc := "()Ljava/lang/Object;" } : Jvm.MethodName)) ∈ lw_all := lw_g (lw_at lw_m5 112 rfl) rfl
theorem q1203 : (Jvm.Cond.methodLink "BatchRenamer$Board" (68 : Nat) ({ cls := "BatchRenamer$Entry", name := "<init>", desc := "(Ljava/lang/String;)V" } : Jvm.MethodName)) ∈ lw_all := lw_g (lw_at lw_m5 114 rfl) rfl
theorem q1208 : (Jvm.Cond.fieldLinkNest "BatchRenamer$Board" (64 : Nat) "BatchRenamer$Entry" "name" "Ljava/lang/String;" "BatchRenamer") ∈ lw_tbl := lw_at lw_m5 119 rfl
theorem q1212 : (Jvm.Cond.fieldLinkNest "BatchRenamer$Board" (71 : Nat) "BatchRenamer$Entry" "isKept" "Z" "BatchRenamer") ∈ lw_tbl := lw_at lw_m5 123 rfl
theorem q1222 : (Jvm.Cond.methodLink "BatchRenamer$Board" (75 : Nat) ({ cls := "java/util/ArrayList", name := "add", desc := "(Ljava/lang/Object;)Z" } : Jvm.MethodName)) ∈ lw_all := lw_g (lw_at lw_m5 133 rfl) rfl
theorem q1223 : (Jvm.Cond.methodLink "BatchRenamer$Board" (81 : Nat) ({ cls := "BatchRenamer$Journal", name := "become", desc := "(LBatchRenamer$Journal;)V" } : Jvm.MethodName)) ∈ lw_all := lw_g (lw_at lw_m5 134 rfl) rfl
theorem q1370 : (Jvm.Cond.instanceMethod ({ cls := "BatchRenamer$Board", name := "set", desc := "(ILjava/lang/String;)V" } : Jvm.MethodName)) ∈ lw_all := lw_g (lw_at lw_m6 41 rfl) rfl
theorem q1371 : (Jvm.Cond.selects "BatchRenamer$Board" ({ cls := "BatchRenamer$Board", name := "set", desc := "(ILjava/lang/String;)V" } : Jvm.MethodName) ({ cls := "BatchRenamer$Board", name := "set", desc := "(ILjava/lang/String;)V" } : Jvm.MethodName)) ∈ lw_all := lw_g (lw_at lw_m6 42 rfl) rfl
theorem q1372 : (Jvm.Cond.code ({ cls := "BatchRenamer$Board", name := "set", desc := "(ILjava/lang/String;)V" } : Jvm.MethodName) prog_2_method_4_code (3 : Nat) (Option.none : Option Jvm.ClassFile.FieldType)) ∈ lw_all := lw_g (lw_at lw_m6 43 rfl) rfl
theorem q1449 : (Jvm.Cond.castable "BatchRenamer$Board" "BatchRenamer$Copied") ∈ lw_tbl := lw_at lw_m6 120 rfl
theorem q1450 : (Jvm.Cond.selects "BatchRenamer$Board" ({ cls := "BatchRenamer$Copied", name := "copy", desc := "()Ljava/lang/Object;" } : Jvm.MethodName) ({ cls := "BatchRenamer$Board", name := "copy", desc := "()Ljava/lang/Object;" } : Jvm.MethodName)) ∈ lw_all := lw_g (lw_at lw_m6 121 rfl) rfl
theorem q1451 : (Jvm.Cond.unhidden "BatchRenamer$Board" "copy" "()Ljava/lang/Object;") ∈ lw_tbl := lw_at lw_m6 122 rfl
theorem q1452 : (Jvm.Cond.instanceMethod ({ cls := "BatchRenamer$Board", name := "copy", desc := "()Ljava/lang/Object;" } : Jvm.MethodName)) ∈ lw_all := lw_g (lw_at lw_m6 123 rfl) rfl
theorem q1453 : (Jvm.Cond.publicMethod ({ cls := "BatchRenamer$Board", name := "copy", desc := "()Ljava/lang/Object;" } : Jvm.MethodName)) ∈ lw_tbl := lw_at lw_m6 124 rfl
theorem q1454 : (Jvm.Cond.code ({ cls := "BatchRenamer$Board", name := "copy", desc := "()Ljava/lang/Object;" } : Jvm.MethodName) prog_2_method_7_code (1 : Nat) (Option.some (Jvm.ClassFile.FieldType.object "java/lang/Object"))) ∈ lw_all := lw_g (lw_at lw_m6 125 rfl) rfl
theorem q1455 : (Jvm.Cond.methodLink "BatchRenamer$Board" (105 : Nat) ({ cls := "BatchRenamer$Board", name := "copy", desc := "()LBatchRenamer$Board;" } : Jvm.MethodName)) ∈ lw_all := lw_g (lw_at lw_m6 126 rfl) rfl
theorem q2904 : (Jvm.Cond.castable "BatchRenamer$Board" "java/lang/Object") ∈ lw_tbl := lw_at lw_m12 135 rfl
theorem in_X2 : ∀ w ∈ wsX20, w ∈ lw_all := lw_in wsX20 [622, 624, 626, 628, 630, 632, 634] (by decide +kernel) (by decide +kernel)

/-! BatchRenamer$Journal -/
def RX3 : String := "BatchRenamer$Journal"
def TX3 : u_T := fun k => match k with
  | 0 => ("BatchRenamer$Journal", "kept", "Ljava/util/ArrayDeque;", true)
  | _ => ("BatchRenamer$Journal", "most", "I", true)
def tyX3 : Nat → FieldType := fun k => match k with
  | 0 => .object "java/util/ArrayDeque"
  | _ => .int
abbrev wsX30 : List Cond := u_ws RX3 TX3 2
theorem nmX3 : ∀ a, a < 2 → ∀ b, b < 2 → a ≠ b → (TX3 a).2.1 ≠ (TX3 b).2.1 := by decide +kernel
theorem tyX3_ok : ∀ k, k < 2 → parseFieldDescriptor (TX3 k).2.2.1 = some (tyX3 k) := by decide +kernel
abbrev cX3_init : ByteArray := prog_5_method_1_code
def yX3_init : MethodName := ⟨RX3, "<init>", "(I)V"⟩
def dkwX3_init_0 : List UInt8 := [42, 183, 0, 1, 42, 187, 0, 7, 89, 183, 0, 9, 181, 0, 10, 42, 27, 181, 0, 16, 177]
abbrev dktX3_init_0 : List UInt8 := dkwX3_init_0 ++ []
theorem dksX3_init_0 : cX3_init.data.toList.drop 0 = dktX3_init_0 := by decide +kernel
theorem dX3_init_0 : decode cX3_init 0 = .ok (.aload_n 0, 1) := dk_42 (dk_at dksX3_init_0 0 rfl rfl)
theorem dX3_init_1 : decode cX3_init 1 = .ok (.invokespecial 1, 3) := dk_183 0 1 (dk_at dksX3_init_0 1 rfl rfl)
theorem dX3_init_4 : decode cX3_init 4 = .ok (.aload_n 0, 1) := dk_42 (dk_at dksX3_init_0 4 rfl rfl)
theorem dX3_init_5 : decode cX3_init 5 = .ok (.new 7, 3) := dk_187 0 7 (dk_at dksX3_init_0 5 rfl rfl)
theorem dX3_init_8 : decode cX3_init 8 = .ok (.dup, 1) := dk_89 (dk_at dksX3_init_0 8 rfl rfl)
theorem dX3_init_9 : decode cX3_init 9 = .ok (.invokespecial 9, 3) := dk_183 0 9 (dk_at dksX3_init_0 9 rfl rfl)
theorem dX3_init_12 : decode cX3_init 12 = .ok (.putfield 10, 3) := dk_181 0 10 (dk_at dksX3_init_0 12 rfl rfl)
theorem dX3_init_15 : decode cX3_init 15 = .ok (.aload_n 0, 1) := dk_42 (dk_at dksX3_init_0 15 rfl rfl)
theorem dX3_init_16 : decode cX3_init 16 = .ok (.iload_n 1, 1) := dk_27 (dk_at dksX3_init_0 16 rfl rfl)
theorem dX3_init_17 : decode cX3_init 17 = .ok (.putfield 16, 3) := dk_181 0 16 (dk_at dksX3_init_0 17 rfl rfl)
theorem dX3_init_20 : decode cX3_init 20 = .ok (.return_, 1) := dk_177 (dk_at dksX3_init_0 20 rfl rfl)
abbrev cX3_become : ByteArray := prog_5_method_8_code
def yX3_become : MethodName := ⟨RX3, "become", "(LBatchRenamer$Journal;)V"⟩
def dkwX3_become_1 : List UInt8 := [185, 0, 60, 1, 0, 78, 42, 180, 0, 10, 45, 182, 0, 28, 167, 255, 232, 177]
abbrev dktX3_become_1 : List UInt8 := dkwX3_become_1 ++ []
def dkwX3_become_0 : List UInt8 := [42, 182, 0, 49, 43, 180, 0, 10, 182, 0, 50, 77, 44, 185, 0, 54, 1, 0, 153, 0, 21, 44]
abbrev dktX3_become_0 : List UInt8 := dkwX3_become_0 ++ dktX3_become_1
theorem dksX3_become_0 : cX3_become.data.toList.drop 0 = dktX3_become_0 := by decide +kernel
theorem dksX3_become_1 : cX3_become.data.toList.drop 22 = dktX3_become_1 := dk_seg dksX3_become_0 22 rfl rfl
theorem dX3_become_0 : decode cX3_become 0 = .ok (.aload_n 0, 1) := dk_42 (dk_at dksX3_become_0 0 rfl rfl)
theorem dX3_become_1 : decode cX3_become 1 = .ok (.invokevirtual 49, 3) := dk_182 0 49 (dk_at dksX3_become_0 1 rfl rfl)
theorem dX3_become_4 : decode cX3_become 4 = .ok (.aload_n 1, 1) := dk_43 (dk_at dksX3_become_0 4 rfl rfl)
theorem dX3_become_5 : decode cX3_become 5 = .ok (.getfield 10, 3) := dk_180 0 10 (dk_at dksX3_become_0 5 rfl rfl)
theorem dX3_become_8 : decode cX3_become 8 = .ok (.invokevirtual 50, 3) := dk_182 0 50 (dk_at dksX3_become_0 8 rfl rfl)
theorem dX3_become_11 : decode cX3_become 11 = .ok (.astore_n 2, 1) := dk_77 (dk_at dksX3_become_0 11 rfl rfl)
theorem dX3_become_12 : decode cX3_become 12 = .ok (.aload_n 2, 1) := dk_44 (dk_at dksX3_become_0 12 rfl rfl)
theorem dX3_become_13 : decode cX3_become 13 = .ok (.invokeinterface 54 1, 5) := by decide +kernel
theorem dX3_become_18 : decode cX3_become 18 = .ok (.ifCond .eq 21, 3) := dk_153 0 21 (dk_at dksX3_become_0 18 rfl rfl)
theorem dX3_become_21 : decode cX3_become 21 = .ok (.aload_n 2, 1) := dk_44 (dk_at dksX3_become_0 21 rfl rfl)
theorem dX3_become_22 : decode cX3_become 22 = .ok (.invokeinterface 60 1, 5) := by decide +kernel
theorem dX3_become_27 : decode cX3_become 27 = .ok (.astore_n 3, 1) := dk_78 (dk_at dksX3_become_1 5 rfl rfl)
theorem dX3_become_28 : decode cX3_become 28 = .ok (.aload_n 0, 1) := dk_42 (dk_at dksX3_become_1 6 rfl rfl)
theorem dX3_become_29 : decode cX3_become 29 = .ok (.getfield 10, 3) := dk_180 0 10 (dk_at dksX3_become_1 7 rfl rfl)
theorem dX3_become_32 : decode cX3_become 32 = .ok (.aload_n 3, 1) := dk_45 (dk_at dksX3_become_1 10 rfl rfl)
theorem dX3_become_33 : decode cX3_become 33 = .ok (.invokevirtual 28, 3) := dk_182 0 28 (dk_at dksX3_become_1 11 rfl rfl)
theorem dX3_become_36 : decode cX3_become 36 = .ok (.goto (-24), 3) := dk_167 255 232 (dk_at dksX3_become_1 14 rfl rfl)
theorem dX3_become_39 : decode cX3_become 39 = .ok (.return_, 1) := dk_177 (dk_at dksX3_become_1 17 rfl rfl)
abbrev cX3_clear : ByteArray := prog_5_method_7_code
def yX3_clear : MethodName := ⟨RX3, "clear", "()V"⟩
def dkwX3_clear_0 : List UInt8 := [42, 180, 0, 10, 182, 0, 46, 177]
abbrev dktX3_clear_0 : List UInt8 := dkwX3_clear_0 ++ []
theorem dksX3_clear_0 : cX3_clear.data.toList.drop 0 = dktX3_clear_0 := by decide +kernel
theorem dX3_clear_0 : decode cX3_clear 0 = .ok (.aload_n 0, 1) := dk_42 (dk_at dksX3_clear_0 0 rfl rfl)
theorem dX3_clear_1 : decode cX3_clear 1 = .ok (.getfield 10, 3) := dk_180 0 10 (dk_at dksX3_clear_0 1 rfl rfl)
theorem dX3_clear_4 : decode cX3_clear 4 = .ok (.invokevirtual 46, 3) := dk_182 0 46 (dk_at dksX3_clear_0 4 rfl rfl)
theorem dX3_clear_7 : decode cX3_clear 7 = .ok (.return_, 1) := dk_177 (dk_at dksX3_clear_0 7 rfl rfl)
abbrev cX3_size : ByteArray := prog_5_method_6_code
def yX3_size : MethodName := ⟨RX3, "size", "()I"⟩
def dkwX3_size_0 : List UInt8 := [42, 180, 0, 10, 182, 0, 20, 172]
abbrev dktX3_size_0 : List UInt8 := dkwX3_size_0 ++ []
theorem dksX3_size_0 : cX3_size.data.toList.drop 0 = dktX3_size_0 := by decide +kernel
theorem dX3_size_0 : decode cX3_size 0 = .ok (.aload_n 0, 1) := dk_42 (dk_at dksX3_size_0 0 rfl rfl)
theorem dX3_size_1 : decode cX3_size 1 = .ok (.getfield 10, 3) := dk_180 0 10 (dk_at dksX3_size_0 1 rfl rfl)
theorem dX3_size_4 : decode cX3_size 4 = .ok (.invokevirtual 20, 3) := dk_182 0 20 (dk_at dksX3_size_0 4 rfl rfl)
theorem dX3_size_7 : decode cX3_size 7 = .ok (.ireturn, 1) := dk_172 (dk_at dksX3_size_0 7 rfl rfl)
abbrev cX3_addCopy : ByteArray := prog_5_method_3_code
def yX3_addCopy : MethodName := ⟨RX3, "addCopy", "(LBatchRenamer$Copied;)V"⟩
def dkwX3_addCopy_0 : List UInt8 := [42, 43, 185, 0, 32, 1, 0, 182, 0, 37, 177]
abbrev dktX3_addCopy_0 : List UInt8 := dkwX3_addCopy_0 ++ []
theorem dksX3_addCopy_0 : cX3_addCopy.data.toList.drop 0 = dktX3_addCopy_0 := by decide +kernel
theorem dX3_addCopy_0 : decode cX3_addCopy 0 = .ok (.aload_n 0, 1) := dk_42 (dk_at dksX3_addCopy_0 0 rfl rfl)
theorem dX3_addCopy_1 : decode cX3_addCopy 1 = .ok (.aload_n 1, 1) := dk_43 (dk_at dksX3_addCopy_0 1 rfl rfl)
theorem dX3_addCopy_2 : decode cX3_addCopy 2 = .ok (.invokeinterface 32 1, 5) := by decide +kernel
theorem dX3_addCopy_7 : decode cX3_addCopy 7 = .ok (.invokevirtual 37, 3) := dk_182 0 37 (dk_at dksX3_addCopy_0 7 rfl rfl)
theorem dX3_addCopy_10 : decode cX3_addCopy 10 = .ok (.return_, 1) := dk_177 (dk_at dksX3_addCopy_0 10 rfl rfl)
abbrev cX3_add : ByteArray := prog_5_method_2_code
def yX3_add : MethodName := ⟨RX3, "add", "(Ljava/lang/Object;)V"⟩
def dkwX3_add_1 : List UInt8 := [180, 0, 10, 43, 182, 0, 28, 177]
abbrev dktX3_add_1 : List UInt8 := dkwX3_add_1 ++ []
def dkwX3_add_0 : List UInt8 := [42, 180, 0, 10, 182, 0, 20, 42, 180, 0, 16, 160, 0, 11, 42, 180, 0, 10, 182, 0, 24, 77, 42]
abbrev dktX3_add_0 : List UInt8 := dkwX3_add_0 ++ dktX3_add_1
theorem dksX3_add_0 : cX3_add.data.toList.drop 0 = dktX3_add_0 := by decide +kernel
theorem dksX3_add_1 : cX3_add.data.toList.drop 23 = dktX3_add_1 := dk_seg dksX3_add_0 23 rfl rfl
theorem dX3_add_0 : decode cX3_add 0 = .ok (.aload_n 0, 1) := dk_42 (dk_at dksX3_add_0 0 rfl rfl)
theorem dX3_add_1 : decode cX3_add 1 = .ok (.getfield 10, 3) := dk_180 0 10 (dk_at dksX3_add_0 1 rfl rfl)
theorem dX3_add_4 : decode cX3_add 4 = .ok (.invokevirtual 20, 3) := dk_182 0 20 (dk_at dksX3_add_0 4 rfl rfl)
theorem dX3_add_7 : decode cX3_add 7 = .ok (.aload_n 0, 1) := dk_42 (dk_at dksX3_add_0 7 rfl rfl)
theorem dX3_add_8 : decode cX3_add 8 = .ok (.getfield 16, 3) := dk_180 0 16 (dk_at dksX3_add_0 8 rfl rfl)
theorem dX3_add_11 : decode cX3_add 11 = .ok (.if_icmp .ne 11, 3) := dk_160 0 11 (dk_at dksX3_add_0 11 rfl rfl)
theorem dX3_add_14 : decode cX3_add 14 = .ok (.aload_n 0, 1) := dk_42 (dk_at dksX3_add_0 14 rfl rfl)
theorem dX3_add_15 : decode cX3_add 15 = .ok (.getfield 10, 3) := dk_180 0 10 (dk_at dksX3_add_0 15 rfl rfl)
theorem dX3_add_18 : decode cX3_add 18 = .ok (.invokevirtual 24, 3) := dk_182 0 24 (dk_at dksX3_add_0 18 rfl rfl)
theorem dX3_add_21 : decode cX3_add 21 = .ok (.astore_n 2, 1) := dk_77 (dk_at dksX3_add_0 21 rfl rfl)
theorem dX3_add_22 : decode cX3_add 22 = .ok (.aload_n 0, 1) := dk_42 (dk_at dksX3_add_0 22 rfl rfl)
theorem dX3_add_23 : decode cX3_add 23 = .ok (.getfield 10, 3) := dk_180 0 10 (dk_at dksX3_add_1 0 rfl rfl)
theorem dX3_add_26 : decode cX3_add 26 = .ok (.aload_n 1, 1) := dk_43 (dk_at dksX3_add_1 3 rfl rfl)
theorem dX3_add_27 : decode cX3_add 27 = .ok (.invokevirtual 28, 3) := dk_182 0 28 (dk_at dksX3_add_1 4 rfl rfl)
theorem dX3_add_30 : decode cX3_add 30 = .ok (.return_, 1) := dk_177 (dk_at dksX3_add_1 7 rfl rfl)
abbrev cX3_latest : ByteArray := prog_5_method_4_code
def yX3_latest : MethodName := ⟨RX3, "latest", "()Ljava/lang/Object;"⟩
def dkwX3_latest_0 : List UInt8 := [42, 180, 0, 10, 182, 0, 40, 176]
abbrev dktX3_latest_0 : List UInt8 := dkwX3_latest_0 ++ []
theorem dksX3_latest_0 : cX3_latest.data.toList.drop 0 = dktX3_latest_0 := by decide +kernel
theorem dX3_latest_0 : decode cX3_latest 0 = .ok (.aload_n 0, 1) := dk_42 (dk_at dksX3_latest_0 0 rfl rfl)
theorem dX3_latest_1 : decode cX3_latest 1 = .ok (.getfield 10, 3) := dk_180 0 10 (dk_at dksX3_latest_0 1 rfl rfl)
theorem dX3_latest_4 : decode cX3_latest 4 = .ok (.invokevirtual 40, 3) := dk_182 0 40 (dk_at dksX3_latest_0 4 rfl rfl)
theorem dX3_latest_7 : decode cX3_latest 7 = .ok (.areturn, 1) := dk_176 (dk_at dksX3_latest_0 7 rfl rfl)
abbrev cX3_takeLatest : ByteArray := prog_5_method_5_code
def yX3_takeLatest : MethodName := ⟨RX3, "takeLatest", "()Ljava/lang/Object;"⟩
def dkwX3_takeLatest_0 : List UInt8 := [42, 180, 0, 10, 182, 0, 43, 176]
abbrev dktX3_takeLatest_0 : List UInt8 := dkwX3_takeLatest_0 ++ []
theorem dksX3_takeLatest_0 : cX3_takeLatest.data.toList.drop 0 = dktX3_takeLatest_0 := by decide +kernel
theorem dX3_takeLatest_0 : decode cX3_takeLatest 0 = .ok (.aload_n 0, 1) := dk_42 (dk_at dksX3_takeLatest_0 0 rfl rfl)
theorem dX3_takeLatest_1 : decode cX3_takeLatest 1 = .ok (.getfield 10, 3) := dk_180 0 10 (dk_at dksX3_takeLatest_0 1 rfl rfl)
theorem dX3_takeLatest_4 : decode cX3_takeLatest 4 = .ok (.invokevirtual 43, 3) := dk_182 0 43 (dk_at dksX3_takeLatest_0 4 rfl rfl)
theorem dX3_takeLatest_7 : decode cX3_takeLatest 7 = .ok (.areturn, 1) := dk_176 (dk_at dksX3_takeLatest_0 7 rfl rfl)
theorem q151 : (Jvm.Cond.initialized "BatchRenamer$Journal") ∈ lw_all := lw_g (lw_at lw_m1 22 rfl) rfl
theorem q534 : (Jvm.Cond.instantiable "BatchRenamer$Journal" (2 : Nat)) ∈ lw_all := lw_g (lw_at lw_m2 165 rfl) rfl
theorem q536 : (Jvm.Cond.instanceMethod ({ cls := "BatchRenamer$Journal", name := "<init>", desc := "(I)V" } : Jvm.MethodName)) ∈ lw_all := lw_g (lw_at lw_m2 167 rfl) rfl
theorem q537 : (Jvm.Cond.code ({ cls := "BatchRenamer$Journal", name := "<init>", desc := "(I)V" } : Jvm.MethodName) prog_5_method_1_code (2 : Nat) (Option.none : Option Jvm.ClassFile.FieldType)) ∈ lw_all := lw_g (lw_at lw_m2 168 rfl) rfl
theorem q538 : (Jvm.Cond.methodLink "BatchRenamer$Journal" (1 : Nat) ({ cls := "java/lang/Object", name := "<init>", desc := "()V" } : Jvm.MethodName)) ∈ lw_all := lw_g (lw_at lw_m2 169 rfl) rfl
theorem q539 : (Jvm.Cond.classLink "BatchRenamer$Journal" (7 : Nat) "java/util/ArrayDeque") ∈ lw_all := lw_g (lw_at lw_m2 170 rfl) rfl
theorem q541 : (Jvm.Cond.methodLink "BatchRenamer$Journal" (9 : Nat) ({ cls := "java/util/ArrayDeque", name := "<init>", desc := "()V" } : Jvm.MethodName)) ∈ lw_all := lw_g (lw_at lw_m2 172 rfl) rfl
theorem q558 : (Jvm.Cond.fieldLink "BatchRenamer$Journal" (10 : Nat) "BatchRenamer$Journal" "kept" "Ljava/util/ArrayDeque;") ∈ lw_all := lw_g (lw_at lw_m2 189 rfl) rfl
theorem q559 : (Jvm.Cond.fieldLink "BatchRenamer$Journal" (16 : Nat) "BatchRenamer$Journal" "most" "I") ∈ lw_all := lw_g (lw_at lw_m2 190 rfl) rfl
theorem q560 : (Jvm.Cond.laysFinal "BatchRenamer$Journal" "BatchRenamer$Journal" "kept" "Ljava/util/ArrayDeque;") ∈ lw_all := lw_g (lw_at lw_m2 191 rfl) rfl
theorem q561 : (Jvm.Cond.soleField "BatchRenamer$Journal" "kept") ∈ lw_all := lw_g (lw_at lw_m2 192 rfl) rfl
theorem q562 : (Jvm.Cond.laysFinal "BatchRenamer$Journal" "BatchRenamer$Journal" "most" "I") ∈ lw_all := lw_g (lw_at lw_m2 193 rfl) rfl
theorem q563 : (Jvm.Cond.soleField "BatchRenamer$Journal" "most") ∈ lw_all := lw_g (lw_at lw_m2 194 rfl) rfl
theorem q564 : (Jvm.Cond.superclass "BatchRenamer$Journal" "java/lang/Object") ∈ lw_all := lw_g (lw_at lw_m2 195 rfl) rfl
theorem q827 : (Jvm.Cond.selects "BatchRenamer$Journal" ({ cls := "java/lang/Object", name := "equals", desc := "(Ljava/lang/Object;)Z" } : Jvm.MethodName) ({ cls := "java/lang/Object", name := "equals", desc := "(Ljava/lang/Object;)Z" } : Jvm.MethodName)) ∈ lw_all := lw_g (lw_at lw_m3 218 rfl) rfl
theorem q863 : (Jvm.Cond.selects "BatchRenamer$Journal" ({ cls := "java/lang/Object", name := "getClass", desc := "()Ljava/lang/Class;" } : Jvm.MethodName) ({ cls := "java/lang/Object", name := "getClass", desc := "()Ljava/lang/Class;" } : Jvm.MethodName)) ∈ lw_all := lw_g (lw_at lw_m4 14 rfl) rfl
theorem q1224 : (Jvm.Cond.instanceMethod ({ cls := "BatchRenamer$Journal", name := "become", desc := "(LBatchRenamer$Journal;)V" } : Jvm.MethodName)) ∈ lw_all := lw_g (lw_at lw_m5 135 rfl) rfl
theorem q1225 : (Jvm.Cond.selects "BatchRenamer$Journal" ({ cls := "BatchRenamer$Journal", name := "become", desc := "(LBatchRenamer$Journal;)V" } : Jvm.MethodName) ({ cls := "BatchRenamer$Journal", name := "become", desc := "(LBatchRenamer$Journal;)V" } : Jvm.MethodName)) ∈ lw_all := lw_g (lw_at lw_m5 136 rfl) rfl
theorem q1226 : (Jvm.Cond.code ({ cls := "BatchRenamer$Journal", name := "become", desc := "(LBatchRenamer$Journal;)V" } : Jvm.MethodName) prog_5_method_8_code (4 : Nat) (Option.none : Option Jvm.ClassFile.FieldType)) ∈ lw_all := lw_g (lw_at lw_m5 137 rfl) rfl
theorem q1227 : (Jvm.Cond.methodLink "BatchRenamer$Journal" (49 : Nat) ({ cls := "BatchRenamer$Journal", name := "clear", desc := "()V" } : Jvm.MethodName)) ∈ lw_all := lw_g (lw_at lw_m5 138 rfl) rfl
theorem q1228 : (Jvm.Cond.instanceMethod ({ cls := "BatchRenamer$Journal", name := "clear", desc := "()V" } : Jvm.MethodName)) ∈ lw_all := lw_g (lw_at lw_m5 139 rfl) rfl
theorem q1229 : (Jvm.Cond.selects "BatchRenamer$Journal" ({ cls := "BatchRenamer$Journal", name := "clear", desc := "()V" } : Jvm.MethodName) ({ cls := "BatchRenamer$Journal", name := "clear", desc := "()V" } : Jvm.MethodName)) ∈ lw_all := lw_g (lw_at lw_m5 140 rfl) rfl
theorem q1230 : (Jvm.Cond.code ({ cls := "BatchRenamer$Journal", name := "clear", desc := "()V" } : Jvm.MethodName) prog_5_method_7_code (1 : Nat) (Option.none : Option Jvm.ClassFile.FieldType)) ∈ lw_all := lw_g (lw_at lw_m5 141 rfl) rfl
theorem q1231 : (Jvm.Cond.methodLink "BatchRenamer$Journal" (46 : Nat) ({ cls := "java/util/ArrayDeque", name := "clear", desc := "()V" } : Jvm.MethodName)) ∈ lw_all := lw_g (lw_at lw_m5 142 rfl) rfl
theorem q1238 : (Jvm.Cond.methodLink "BatchRenamer$Journal" (50 : Nat) ({ cls := "java/util/ArrayDeque", name := "iterator", desc := "()Ljava/util/Iterator;" } : Jvm.MethodName)) ∈ lw_all := lw_g (lw_at lw_m5 149 rfl) rfl
theorem q1268 : (Jvm.Cond.interfaceEntry "BatchRenamer$Journal" (54 : Nat)) ∈ lw_tbl := lw_at lw_m5 179 rfl
theorem q1269 : (Jvm.Cond.methodLink "BatchRenamer$Journal" (54 : Nat) ({ cls := "java/util/Iterator", name := "hasNext", desc := "()Z" } : Jvm.MethodName)) ∈ lw_all := lw_g (lw_at lw_m5 180 rfl) rfl
theorem q1270 : (Jvm.Cond.interfaceEntry "BatchRenamer$Journal" (60 : Nat)) ∈ lw_tbl := lw_at lw_m5 181 rfl
theorem q1271 : (Jvm.Cond.methodLink "BatchRenamer$Journal" (60 : Nat) ({ cls := "java/util/Iterator", name := "next", desc := "()Ljava/lang/Object;" } : Jvm.MethodName)) ∈ lw_all := lw_g (lw_at lw_m5 182 rfl) rfl
theorem q1272 : (Jvm.Cond.methodLink "BatchRenamer$Journal" (28 : Nat) ({ cls := "java/util/ArrayDeque", name := "addLast", desc := "(Ljava/lang/Object;)V" } : Jvm.MethodName)) ∈ lw_all := lw_g (lw_at lw_m5 183 rfl) rfl
theorem q1415 : (Jvm.Cond.instanceMethod ({ cls := "BatchRenamer$Journal", name := "size", desc := "()I" } : Jvm.MethodName)) ∈ lw_all := lw_g (lw_at lw_m6 86 rfl) rfl
theorem q1416 : (Jvm.Cond.selects "BatchRenamer$Journal" ({ cls := "BatchRenamer$Journal", name := "size", desc := "()I" } : Jvm.MethodName) ({ cls := "BatchRenamer$Journal", name := "size", desc := "()I" } : Jvm.MethodName)) ∈ lw_all := lw_g (lw_at lw_m6 87 rfl) rfl
theorem q1417 : (Jvm.Cond.code ({ cls := "BatchRenamer$Journal", name := "size", desc := "()I" } : Jvm.MethodName) prog_5_method_6_code (1 : Nat) (Option.some Jvm.ClassFile.FieldType.int)) ∈ lw_all := lw_g (lw_at lw_m6 88 rfl) rfl
theorem q1418 : (Jvm.Cond.methodLink "BatchRenamer$Journal" (20 : Nat) ({ cls := "java/util/ArrayDeque", name := "size", desc := "()I" } : Jvm.MethodName)) ∈ lw_all := lw_g (lw_at lw_m6 89 rfl) rfl
theorem q1442 : (Jvm.Cond.instanceMethod ({ cls := "BatchRenamer$Journal", name := "addCopy", desc := "(LBatchRenamer$Copied;)V" } : Jvm.MethodName)) ∈ lw_all := lw_g (lw_at lw_m6 113 rfl) rfl
theorem q1443 : (Jvm.Cond.selects "BatchRenamer$Journal" ({ cls := "BatchRenamer$Journal", name := "addCopy", desc := "(LBatchRenamer$Copied;)V" } : Jvm.MethodName) ({ cls := "BatchRenamer$Journal", name := "addCopy", desc := "(LBatchRenamer$Copied;)V" } : Jvm.MethodName)) ∈ lw_all := lw_g (lw_at lw_m6 114 rfl) rfl
theorem q1444 : (Jvm.Cond.code ({ cls := "BatchRenamer$Journal", name := "addCopy", desc := "(LBatchRenamer$Copied;)V" } : Jvm.MethodName) prog_5_method_3_code (2 : Nat) (Option.none : Option Jvm.ClassFile.FieldType)) ∈ lw_all := lw_g (lw_at lw_m6 115 rfl) rfl
theorem q1445 : (Jvm.Cond.interfaceEntry "BatchRenamer$Journal" (32 : Nat)) ∈ lw_tbl := lw_at lw_m6 116 rfl
theorem q1446 : (Jvm.Cond.methodLink "BatchRenamer$Journal" (32 : Nat) ({ cls := "BatchRenamer$Copied", name := "copy", desc := "()Ljava/lang/Object;" } : Jvm.MethodName)) ∈ lw_all := lw_g (lw_at lw_m6 117 rfl) rfl
theorem q1456 : (Jvm.Cond.methodLink "BatchRenamer$Journal" (37 : Nat) ({ cls := "BatchRenamer$Journal", name := "add", desc := "(Ljava/lang/Object;)V" } : Jvm.MethodName)) ∈ lw_all := lw_g (lw_at lw_m6 127 rfl) rfl
theorem q1457 : (Jvm.Cond.instanceMethod ({ cls := "BatchRenamer$Journal", name := "add", desc := "(Ljava/lang/Object;)V" } : Jvm.MethodName)) ∈ lw_all := lw_g (lw_at lw_m6 128 rfl) rfl
theorem q1458 : (Jvm.Cond.selects "BatchRenamer$Journal" ({ cls := "BatchRenamer$Journal", name := "add", desc := "(Ljava/lang/Object;)V" } : Jvm.MethodName) ({ cls := "BatchRenamer$Journal", name := "add", desc := "(Ljava/lang/Object;)V" } : Jvm.MethodName)) ∈ lw_all := lw_g (lw_at lw_m6 129 rfl) rfl
theorem q1459 : (Jvm.Cond.code ({ cls := "BatchRenamer$Journal", name := "add", desc := "(Ljava/lang/Object;)V" } : Jvm.MethodName) prog_5_method_2_code (3 : Nat) (Option.none : Option Jvm.ClassFile.FieldType)) ∈ lw_all := lw_g (lw_at lw_m6 130 rfl) rfl
theorem q1460 : (Jvm.Cond.methodLink "BatchRenamer$Journal" (24 : Nat) ({ cls := "java/util/ArrayDeque", name := "removeFirst", desc := "()Ljava/lang/Object;" } : Jvm.MethodName)) ∈ lw_all := lw_g (lw_at lw_m6 131 rfl) rfl
theorem q2023 : (Jvm.Cond.instanceMethod ({ cls := "BatchRenamer$Journal", name := "latest", desc := "()Ljava/lang/Object;" } : Jvm.MethodName)) ∈ lw_all := lw_g (lw_at lw_m8 214 rfl) rfl
theorem q2024 : (Jvm.Cond.selects "BatchRenamer$Journal" ({ cls := "BatchRenamer$Journal", name := "latest", desc := "()Ljava/lang/Object;" } : Jvm.MethodName) ({ cls := "BatchRenamer$Journal", name := "latest", desc := "()Ljava/lang/Object;" } : Jvm.MethodName)) ∈ lw_all := lw_g (lw_at lw_m8 215 rfl) rfl
theorem q2025 : (Jvm.Cond.code ({ cls := "BatchRenamer$Journal", name := "latest", desc := "()Ljava/lang/Object;" } : Jvm.MethodName) prog_5_method_4_code (1 : Nat) (Option.some (Jvm.ClassFile.FieldType.object "java/lang/Object"))) ∈ lw_all := lw_g (lw_at lw_m8 216 rfl) rfl
theorem q2026 : (Jvm.Cond.methodLink "BatchRenamer$Journal" (40 : Nat) ({ cls := "java/util/ArrayDeque", name := "peekLast", desc := "()Ljava/lang/Object;" } : Jvm.MethodName)) ∈ lw_all := lw_g (lw_at lw_m8 217 rfl) rfl
theorem q2039 : (Jvm.Cond.instanceMethod ({ cls := "BatchRenamer$Journal", name := "takeLatest", desc := "()Ljava/lang/Object;" } : Jvm.MethodName)) ∈ lw_all := lw_g (lw_at lw_m8 230 rfl) rfl
theorem q2040 : (Jvm.Cond.selects "BatchRenamer$Journal" ({ cls := "BatchRenamer$Journal", name := "takeLatest", desc := "()Ljava/lang/Object;" } : Jvm.MethodName) ({ cls := "BatchRenamer$Journal", name := "takeLatest", desc := "()Ljava/lang/Object;" } : Jvm.MethodName)) ∈ lw_all := lw_g (lw_at lw_m8 231 rfl) rfl
theorem q2041 : (Jvm.Cond.code ({ cls := "BatchRenamer$Journal", name := "takeLatest", desc := "()Ljava/lang/Object;" } : Jvm.MethodName) prog_5_method_5_code (1 : Nat) (Option.some (Jvm.ClassFile.FieldType.object "java/lang/Object"))) ∈ lw_all := lw_g (lw_at lw_m8 232 rfl) rfl
theorem q2042 : (Jvm.Cond.methodLink "BatchRenamer$Journal" (43 : Nat) ({ cls := "java/util/ArrayDeque", name := "removeLast", desc := "()Ljava/lang/Object;" } : Jvm.MethodName)) ∈ lw_all := lw_g (lw_at lw_m8 233 rfl) rfl
theorem q2908 : (Jvm.Cond.castable "BatchRenamer$Journal" "java/lang/Object") ∈ lw_tbl := lw_at lw_m12 139 rfl
theorem in_X3 : ∀ w ∈ wsX30, w ∈ lw_all := lw_in wsX30 [560, 562] (by decide +kernel) (by decide +kernel)

/-! BatchRenamer$Reading -/
def RX4 : String := "BatchRenamer$Reading"
def TX4 : u_T := fun k => match k with
  | 0 => ("BatchRenamer$Reading", "from", "[I", true)
  | 1 => ("BatchRenamer$Reading", "many", "[I", true)
  | 2 => ("BatchRenamer$Reading", "name", "Ljava/lang/String;", false)
  | 3 => ("BatchRenamer$Reading", "counter", "I", false)
  | _ => ("BatchRenamer$Reading", "digits", "I", false)
def tyX4 : Nat → FieldType := fun k => match k with
  | 0 => .array .int
  | 1 => .array .int
  | 2 => .object "java/lang/String"
  | 3 => .int
  | _ => .int
abbrev wsX40 : List Cond := u_ws RX4 TX4 5
theorem nmX4 : ∀ a, a < 5 → ∀ b, b < 5 → a ≠ b → (TX4 a).2.1 ≠ (TX4 b).2.1 := by decide +kernel
theorem tyX4_ok : ∀ k, k < 5 → parseFieldDescriptor (TX4 k).2.2.1 = some (tyX4 k) := by decide +kernel
abbrev cX4_init : ByteArray := prog_12_method_1_code
def yX4_init : MethodName := ⟨RX4, "<init>", "()V"⟩
def dkwX4_init_1 : List UInt8 := [177]
abbrev dktX4_init_1 : List UInt8 := dkwX4_init_1 ++ []
def dkwX4_init_0 : List UInt8 := [42, 183, 0, 3, 42, 7, 188, 10, 181, 0, 9, 42, 7, 188, 10, 181, 0, 15, 42, 18, 18, 181, 0, 20]
abbrev dktX4_init_0 : List UInt8 := dkwX4_init_0 ++ dktX4_init_1
theorem dksX4_init_0 : cX4_init.data.toList.drop 0 = dktX4_init_0 := by decide +kernel
theorem dksX4_init_1 : cX4_init.data.toList.drop 24 = dktX4_init_1 := dk_seg dksX4_init_0 24 rfl rfl
theorem dX4_init_0 : decode cX4_init 0 = .ok (.aload_n 0, 1) := dk_42 (dk_at dksX4_init_0 0 rfl rfl)
theorem dX4_init_1 : decode cX4_init 1 = .ok (.invokespecial 3, 3) := dk_183 0 3 (dk_at dksX4_init_0 1 rfl rfl)
theorem dX4_init_4 : decode cX4_init 4 = .ok (.aload_n 0, 1) := dk_42 (dk_at dksX4_init_0 4 rfl rfl)
theorem dX4_init_5 : decode cX4_init 5 = .ok (.iconst 4, 1) := dk_7 (dk_at dksX4_init_0 5 rfl rfl)
theorem dX4_init_6 : decode cX4_init 6 = .ok (.newarray .int, 2) := dk_188_10 (dk_at dksX4_init_0 6 rfl rfl)
theorem dX4_init_8 : decode cX4_init 8 = .ok (.putfield 9, 3) := dk_181 0 9 (dk_at dksX4_init_0 8 rfl rfl)
theorem dX4_init_11 : decode cX4_init 11 = .ok (.aload_n 0, 1) := dk_42 (dk_at dksX4_init_0 11 rfl rfl)
theorem dX4_init_12 : decode cX4_init 12 = .ok (.iconst 4, 1) := dk_7 (dk_at dksX4_init_0 12 rfl rfl)
theorem dX4_init_13 : decode cX4_init 13 = .ok (.newarray .int, 2) := dk_188_10 (dk_at dksX4_init_0 13 rfl rfl)
theorem dX4_init_15 : decode cX4_init 15 = .ok (.putfield 15, 3) := dk_181 0 15 (dk_at dksX4_init_0 15 rfl rfl)
theorem dX4_init_18 : decode cX4_init 18 = .ok (.aload_n 0, 1) := dk_42 (dk_at dksX4_init_0 18 rfl rfl)
theorem dX4_init_19 : decode cX4_init 19 = .ok (.ldc 18, 2) := dk_18 18 (dk_at dksX4_init_0 19 rfl rfl)
theorem dX4_init_21 : decode cX4_init 21 = .ok (.putfield 20, 3) := dk_181 0 20 (dk_at dksX4_init_0 21 rfl rfl)
theorem dX4_init_24 : decode cX4_init 24 = .ok (.return_, 1) := dk_177 (dk_at dksX4_init_1 0 rfl rfl)
abbrev cX4_captured : ByteArray := prog_12_method_2_code
def yX4_captured : MethodName := ⟨RX4, "captured", "(I)Ljava/lang/String;"⟩
def dkwX4_captured_1 : List UInt8 := [182, 0, 24, 176]
abbrev dktX4_captured_1 : List UInt8 := dkwX4_captured_1 ++ []
def dkwX4_captured_0 : List UInt8 := [42, 180, 0, 20, 42, 180, 0, 9, 27, 46, 42, 180, 0, 9, 27, 46, 42, 180, 0, 15, 27, 46, 96]
abbrev dktX4_captured_0 : List UInt8 := dkwX4_captured_0 ++ dktX4_captured_1
theorem dksX4_captured_0 : cX4_captured.data.toList.drop 0 = dktX4_captured_0 := by decide +kernel
theorem dksX4_captured_1 : cX4_captured.data.toList.drop 23 = dktX4_captured_1 := dk_seg dksX4_captured_0 23 rfl rfl
theorem dX4_captured_0 : decode cX4_captured 0 = .ok (.aload_n 0, 1) := dk_42 (dk_at dksX4_captured_0 0 rfl rfl)
theorem dX4_captured_1 : decode cX4_captured 1 = .ok (.getfield 20, 3) := dk_180 0 20 (dk_at dksX4_captured_0 1 rfl rfl)
theorem dX4_captured_4 : decode cX4_captured 4 = .ok (.aload_n 0, 1) := dk_42 (dk_at dksX4_captured_0 4 rfl rfl)
theorem dX4_captured_5 : decode cX4_captured 5 = .ok (.getfield 9, 3) := dk_180 0 9 (dk_at dksX4_captured_0 5 rfl rfl)
theorem dX4_captured_8 : decode cX4_captured 8 = .ok (.iload_n 1, 1) := dk_27 (dk_at dksX4_captured_0 8 rfl rfl)
theorem dX4_captured_9 : decode cX4_captured 9 = .ok (.iaload, 1) := dk_46 (dk_at dksX4_captured_0 9 rfl rfl)
theorem dX4_captured_10 : decode cX4_captured 10 = .ok (.aload_n 0, 1) := dk_42 (dk_at dksX4_captured_0 10 rfl rfl)
theorem dX4_captured_11 : decode cX4_captured 11 = .ok (.getfield 9, 3) := dk_180 0 9 (dk_at dksX4_captured_0 11 rfl rfl)
theorem dX4_captured_14 : decode cX4_captured 14 = .ok (.iload_n 1, 1) := dk_27 (dk_at dksX4_captured_0 14 rfl rfl)
theorem dX4_captured_15 : decode cX4_captured 15 = .ok (.iaload, 1) := dk_46 (dk_at dksX4_captured_0 15 rfl rfl)
theorem dX4_captured_16 : decode cX4_captured 16 = .ok (.aload_n 0, 1) := dk_42 (dk_at dksX4_captured_0 16 rfl rfl)
theorem dX4_captured_17 : decode cX4_captured 17 = .ok (.getfield 15, 3) := dk_180 0 15 (dk_at dksX4_captured_0 17 rfl rfl)
theorem dX4_captured_20 : decode cX4_captured 20 = .ok (.iload_n 1, 1) := dk_27 (dk_at dksX4_captured_0 20 rfl rfl)
theorem dX4_captured_21 : decode cX4_captured 21 = .ok (.iaload, 1) := dk_46 (dk_at dksX4_captured_0 21 rfl rfl)
theorem dX4_captured_22 : decode cX4_captured 22 = .ok (.iadd, 1) := dk_96 (dk_at dksX4_captured_0 22 rfl rfl)
theorem dX4_captured_23 : decode cX4_captured 23 = .ok (.invokevirtual 24, 3) := dk_182 0 24 (dk_at dksX4_captured_1 0 rfl rfl)
theorem dX4_captured_26 : decode cX4_captured 26 = .ok (.areturn, 1) := dk_176 (dk_at dksX4_captured_1 3 rfl rfl)
abbrev cX4_writeCounter : ByteArray := prog_12_method_4_code
def yX4_writeCounter : MethodName := ⟨RX4, "writeCounter", "(Ljava/lang/StringBuilder;)V"⟩
def dkwX4_writeCounter_2 : List UInt8 := [16, 10, 112, 96, 146, 182, 0, 34, 87, 28, 16, 10, 108, 61, 167, 255, 229, 177]
abbrev dktX4_writeCounter_2 : List UInt8 := dkwX4_writeCounter_2 ++ []
def dkwX4_writeCounter_1 : List UInt8 := [16, 10, 104, 61, 132, 3, 1, 167, 255, 229, 28, 158, 0, 29, 43, 16, 48, 42, 180, 0, 44, 28, 108]
abbrev dktX4_writeCounter_1 : List UInt8 := dkwX4_writeCounter_1 ++ dktX4_writeCounter_2
def dkwX4_writeCounter_0 : List UInt8 := [4, 61, 4, 62, 29, 42, 180, 0, 40, 161, 0, 14, 42, 180, 0, 44, 28, 108, 16, 9, 164, 0, 14, 28]
abbrev dktX4_writeCounter_0 : List UInt8 := dkwX4_writeCounter_0 ++ dktX4_writeCounter_1
theorem dksX4_writeCounter_0 : cX4_writeCounter.data.toList.drop 0 = dktX4_writeCounter_0 := by decide +kernel
theorem dksX4_writeCounter_1 : cX4_writeCounter.data.toList.drop 24 = dktX4_writeCounter_1 := dk_seg dksX4_writeCounter_0 24 rfl rfl
theorem dksX4_writeCounter_2 : cX4_writeCounter.data.toList.drop 47 = dktX4_writeCounter_2 := dk_seg dksX4_writeCounter_1 23 rfl rfl
theorem dX4_writeCounter_0 : decode cX4_writeCounter 0 = .ok (.iconst 1, 1) := dk_4 (dk_at dksX4_writeCounter_0 0 rfl rfl)
theorem dX4_writeCounter_1 : decode cX4_writeCounter 1 = .ok (.istore_n 2, 1) := dk_61 (dk_at dksX4_writeCounter_0 1 rfl rfl)
theorem dX4_writeCounter_2 : decode cX4_writeCounter 2 = .ok (.iconst 1, 1) := dk_4 (dk_at dksX4_writeCounter_0 2 rfl rfl)
theorem dX4_writeCounter_3 : decode cX4_writeCounter 3 = .ok (.istore_n 3, 1) := dk_62 (dk_at dksX4_writeCounter_0 3 rfl rfl)
theorem dX4_writeCounter_4 : decode cX4_writeCounter 4 = .ok (.iload_n 3, 1) := dk_29 (dk_at dksX4_writeCounter_0 4 rfl rfl)
theorem dX4_writeCounter_5 : decode cX4_writeCounter 5 = .ok (.aload_n 0, 1) := dk_42 (dk_at dksX4_writeCounter_0 5 rfl rfl)
theorem dX4_writeCounter_6 : decode cX4_writeCounter 6 = .ok (.getfield 40, 3) := dk_180 0 40 (dk_at dksX4_writeCounter_0 6 rfl rfl)
theorem dX4_writeCounter_9 : decode cX4_writeCounter 9 = .ok (.if_icmp .lt 14, 3) := dk_161 0 14 (dk_at dksX4_writeCounter_0 9 rfl rfl)
theorem dX4_writeCounter_12 : decode cX4_writeCounter 12 = .ok (.aload_n 0, 1) := dk_42 (dk_at dksX4_writeCounter_0 12 rfl rfl)
theorem dX4_writeCounter_13 : decode cX4_writeCounter 13 = .ok (.getfield 44, 3) := dk_180 0 44 (dk_at dksX4_writeCounter_0 13 rfl rfl)
theorem dX4_writeCounter_16 : decode cX4_writeCounter 16 = .ok (.iload_n 2, 1) := dk_28 (dk_at dksX4_writeCounter_0 16 rfl rfl)
theorem dX4_writeCounter_17 : decode cX4_writeCounter 17 = .ok (.idiv, 1) := dk_108 (dk_at dksX4_writeCounter_0 17 rfl rfl)
theorem dX4_writeCounter_18 : decode cX4_writeCounter 18 = .ok (.bipush 9, 2) := dk_16 9 (dk_at dksX4_writeCounter_0 18 rfl rfl)
theorem dX4_writeCounter_20 : decode cX4_writeCounter 20 = .ok (.if_icmp .le 14, 3) := dk_164 0 14 (dk_at dksX4_writeCounter_0 20 rfl rfl)
theorem dX4_writeCounter_23 : decode cX4_writeCounter 23 = .ok (.iload_n 2, 1) := dk_28 (dk_at dksX4_writeCounter_0 23 rfl rfl)
theorem dX4_writeCounter_24 : decode cX4_writeCounter 24 = .ok (.bipush 10, 2) := dk_16 10 (dk_at dksX4_writeCounter_1 0 rfl rfl)
theorem dX4_writeCounter_26 : decode cX4_writeCounter 26 = .ok (.imul, 1) := dk_104 (dk_at dksX4_writeCounter_1 2 rfl rfl)
theorem dX4_writeCounter_27 : decode cX4_writeCounter 27 = .ok (.istore_n 2, 1) := dk_61 (dk_at dksX4_writeCounter_1 3 rfl rfl)
theorem dX4_writeCounter_28 : decode cX4_writeCounter 28 = .ok (.iinc 3 1, 3) := dk_132 3 1 (dk_at dksX4_writeCounter_1 4 rfl rfl)
theorem dX4_writeCounter_31 : decode cX4_writeCounter 31 = .ok (.goto (-27), 3) := dk_167 255 229 (dk_at dksX4_writeCounter_1 7 rfl rfl)
theorem dX4_writeCounter_34 : decode cX4_writeCounter 34 = .ok (.iload_n 2, 1) := dk_28 (dk_at dksX4_writeCounter_1 10 rfl rfl)
theorem dX4_writeCounter_35 : decode cX4_writeCounter 35 = .ok (.ifCond .le 29, 3) := dk_158 0 29 (dk_at dksX4_writeCounter_1 11 rfl rfl)
theorem dX4_writeCounter_38 : decode cX4_writeCounter 38 = .ok (.aload_n 1, 1) := dk_43 (dk_at dksX4_writeCounter_1 14 rfl rfl)
theorem dX4_writeCounter_39 : decode cX4_writeCounter 39 = .ok (.bipush 48, 2) := dk_16 48 (dk_at dksX4_writeCounter_1 15 rfl rfl)
theorem dX4_writeCounter_41 : decode cX4_writeCounter 41 = .ok (.aload_n 0, 1) := dk_42 (dk_at dksX4_writeCounter_1 17 rfl rfl)
theorem dX4_writeCounter_42 : decode cX4_writeCounter 42 = .ok (.getfield 44, 3) := dk_180 0 44 (dk_at dksX4_writeCounter_1 18 rfl rfl)
theorem dX4_writeCounter_45 : decode cX4_writeCounter 45 = .ok (.iload_n 2, 1) := dk_28 (dk_at dksX4_writeCounter_1 21 rfl rfl)
theorem dX4_writeCounter_46 : decode cX4_writeCounter 46 = .ok (.idiv, 1) := dk_108 (dk_at dksX4_writeCounter_1 22 rfl rfl)
theorem dX4_writeCounter_47 : decode cX4_writeCounter 47 = .ok (.bipush 10, 2) := dk_16 10 (dk_at dksX4_writeCounter_2 0 rfl rfl)
theorem dX4_writeCounter_49 : decode cX4_writeCounter 49 = .ok (.irem, 1) := dk_112 (dk_at dksX4_writeCounter_2 2 rfl rfl)
theorem dX4_writeCounter_50 : decode cX4_writeCounter 50 = .ok (.iadd, 1) := dk_96 (dk_at dksX4_writeCounter_2 3 rfl rfl)
theorem dX4_writeCounter_51 : decode cX4_writeCounter 51 = .ok (.i2c, 1) := dk_146 (dk_at dksX4_writeCounter_2 4 rfl rfl)
theorem dX4_writeCounter_52 : decode cX4_writeCounter 52 = .ok (.invokevirtual 34, 3) := dk_182 0 34 (dk_at dksX4_writeCounter_2 5 rfl rfl)
theorem dX4_writeCounter_55 : decode cX4_writeCounter 55 = .ok (.pop, 1) := dk_87 (dk_at dksX4_writeCounter_2 8 rfl rfl)
theorem dX4_writeCounter_56 : decode cX4_writeCounter 56 = .ok (.iload_n 2, 1) := dk_28 (dk_at dksX4_writeCounter_2 9 rfl rfl)
theorem dX4_writeCounter_57 : decode cX4_writeCounter 57 = .ok (.bipush 10, 2) := dk_16 10 (dk_at dksX4_writeCounter_2 10 rfl rfl)
theorem dX4_writeCounter_59 : decode cX4_writeCounter 59 = .ok (.idiv, 1) := dk_108 (dk_at dksX4_writeCounter_2 12 rfl rfl)
theorem dX4_writeCounter_60 : decode cX4_writeCounter 60 = .ok (.istore_n 2, 1) := dk_61 (dk_at dksX4_writeCounter_2 13 rfl rfl)
theorem dX4_writeCounter_61 : decode cX4_writeCounter 61 = .ok (.goto (-27), 3) := dk_167 255 229 (dk_at dksX4_writeCounter_2 14 rfl rfl)
theorem dX4_writeCounter_64 : decode cX4_writeCounter 64 = .ok (.return_, 1) := dk_177 (dk_at dksX4_writeCounter_2 17 rfl rfl)
abbrev cX4_writeCaptured : ByteArray := prog_12_method_3_code
def yX4_writeCaptured : MethodName := ⟨RX4, "writeCaptured", "(Ljava/lang/StringBuilder;I)V"⟩
def dkwX4_writeCaptured_1 : List UInt8 := [96, 182, 0, 30, 182, 0, 34, 87, 132, 3, 1, 167, 255, 223, 177]
abbrev dktX4_writeCaptured_1 : List UInt8 := dkwX4_writeCaptured_1 ++ []
def dkwX4_writeCaptured_0 : List UInt8 := [3, 62, 29, 42, 180, 0, 15, 28, 46, 162, 0, 29, 43, 42, 180, 0, 20, 42, 180, 0, 9, 28, 46, 29]
abbrev dktX4_writeCaptured_0 : List UInt8 := dkwX4_writeCaptured_0 ++ dktX4_writeCaptured_1
theorem dksX4_writeCaptured_0 : cX4_writeCaptured.data.toList.drop 0 = dktX4_writeCaptured_0 := by decide +kernel
theorem dksX4_writeCaptured_1 : cX4_writeCaptured.data.toList.drop 24 = dktX4_writeCaptured_1 := dk_seg dksX4_writeCaptured_0 24 rfl rfl
theorem dX4_writeCaptured_0 : decode cX4_writeCaptured 0 = .ok (.iconst 0, 1) := dk_3 (dk_at dksX4_writeCaptured_0 0 rfl rfl)
theorem dX4_writeCaptured_1 : decode cX4_writeCaptured 1 = .ok (.istore_n 3, 1) := dk_62 (dk_at dksX4_writeCaptured_0 1 rfl rfl)
theorem dX4_writeCaptured_2 : decode cX4_writeCaptured 2 = .ok (.iload_n 3, 1) := dk_29 (dk_at dksX4_writeCaptured_0 2 rfl rfl)
theorem dX4_writeCaptured_3 : decode cX4_writeCaptured 3 = .ok (.aload_n 0, 1) := dk_42 (dk_at dksX4_writeCaptured_0 3 rfl rfl)
theorem dX4_writeCaptured_4 : decode cX4_writeCaptured 4 = .ok (.getfield 15, 3) := dk_180 0 15 (dk_at dksX4_writeCaptured_0 4 rfl rfl)
theorem dX4_writeCaptured_7 : decode cX4_writeCaptured 7 = .ok (.iload_n 2, 1) := dk_28 (dk_at dksX4_writeCaptured_0 7 rfl rfl)
theorem dX4_writeCaptured_8 : decode cX4_writeCaptured 8 = .ok (.iaload, 1) := dk_46 (dk_at dksX4_writeCaptured_0 8 rfl rfl)
theorem dX4_writeCaptured_9 : decode cX4_writeCaptured 9 = .ok (.if_icmp .ge 29, 3) := dk_162 0 29 (dk_at dksX4_writeCaptured_0 9 rfl rfl)
theorem dX4_writeCaptured_12 : decode cX4_writeCaptured 12 = .ok (.aload_n 1, 1) := dk_43 (dk_at dksX4_writeCaptured_0 12 rfl rfl)
theorem dX4_writeCaptured_13 : decode cX4_writeCaptured 13 = .ok (.aload_n 0, 1) := dk_42 (dk_at dksX4_writeCaptured_0 13 rfl rfl)
theorem dX4_writeCaptured_14 : decode cX4_writeCaptured 14 = .ok (.getfield 20, 3) := dk_180 0 20 (dk_at dksX4_writeCaptured_0 14 rfl rfl)
theorem dX4_writeCaptured_17 : decode cX4_writeCaptured 17 = .ok (.aload_n 0, 1) := dk_42 (dk_at dksX4_writeCaptured_0 17 rfl rfl)
theorem dX4_writeCaptured_18 : decode cX4_writeCaptured 18 = .ok (.getfield 9, 3) := dk_180 0 9 (dk_at dksX4_writeCaptured_0 18 rfl rfl)
theorem dX4_writeCaptured_21 : decode cX4_writeCaptured 21 = .ok (.iload_n 2, 1) := dk_28 (dk_at dksX4_writeCaptured_0 21 rfl rfl)
theorem dX4_writeCaptured_22 : decode cX4_writeCaptured 22 = .ok (.iaload, 1) := dk_46 (dk_at dksX4_writeCaptured_0 22 rfl rfl)
theorem dX4_writeCaptured_23 : decode cX4_writeCaptured 23 = .ok (.iload_n 3, 1) := dk_29 (dk_at dksX4_writeCaptured_0 23 rfl rfl)
theorem dX4_writeCaptured_24 : decode cX4_writeCaptured 24 = .ok (.iadd, 1) := dk_96 (dk_at dksX4_writeCaptured_1 0 rfl rfl)
theorem dX4_writeCaptured_25 : decode cX4_writeCaptured 25 = .ok (.invokevirtual 30, 3) := dk_182 0 30 (dk_at dksX4_writeCaptured_1 1 rfl rfl)
theorem dX4_writeCaptured_28 : decode cX4_writeCaptured 28 = .ok (.invokevirtual 34, 3) := dk_182 0 34 (dk_at dksX4_writeCaptured_1 4 rfl rfl)
theorem dX4_writeCaptured_31 : decode cX4_writeCaptured 31 = .ok (.pop, 1) := dk_87 (dk_at dksX4_writeCaptured_1 7 rfl rfl)
theorem dX4_writeCaptured_32 : decode cX4_writeCaptured 32 = .ok (.iinc 3 1, 3) := dk_132 3 1 (dk_at dksX4_writeCaptured_1 8 rfl rfl)
theorem dX4_writeCaptured_35 : decode cX4_writeCaptured 35 = .ok (.goto (-33), 3) := dk_167 255 223 (dk_at dksX4_writeCaptured_1 11 rfl rfl)
theorem dX4_writeCaptured_38 : decode cX4_writeCaptured 38 = .ok (.return_, 1) := dk_177 (dk_at dksX4_writeCaptured_1 14 rfl rfl)
theorem q153 : (Jvm.Cond.initialized "BatchRenamer$Reading") ∈ lw_all := lw_g (lw_at lw_m1 24 rfl) rfl
theorem q566 : (Jvm.Cond.instantiable "BatchRenamer$Reading" (5 : Nat)) ∈ lw_all := lw_g (lw_at lw_m2 197 rfl) rfl
theorem q568 : (Jvm.Cond.instanceMethod ({ cls := "BatchRenamer$Reading", name := "<init>", desc := "()V" } : Jvm.MethodName)) ∈ lw_all := lw_g (lw_at lw_m2 199 rfl) rfl
theorem q569 : (Jvm.Cond.code ({ cls := "BatchRenamer$Reading", name := "<init>", desc := "()V" } : Jvm.MethodName) prog_12_method_1_code (1 : Nat) (Option.none : Option Jvm.ClassFile.FieldType)) ∈ lw_all := lw_g (lw_at lw_m2 200 rfl) rfl
theorem q570 : (Jvm.Cond.methodLink "BatchRenamer$Reading" (3 : Nat) ({ cls := "java/lang/Object", name := "<init>", desc := "()V" } : Jvm.MethodName)) ∈ lw_all := lw_g (lw_at lw_m2 201 rfl) rfl
theorem q571 : (Jvm.Cond.stringRef "BatchRenamer$Reading" (18 : Nat) "") ∈ lw_tbl := lw_at lw_m2 202 rfl
theorem q572 : (Jvm.Cond.fieldLink "BatchRenamer$Reading" (9 : Nat) "BatchRenamer$Reading" "from" "[I") ∈ lw_all := lw_g (lw_at lw_m2 203 rfl) rfl
theorem q575 : (Jvm.Cond.fieldLink "BatchRenamer$Reading" (15 : Nat) "BatchRenamer$Reading" "many" "[I") ∈ lw_all := lw_g (lw_at lw_m2 206 rfl) rfl
theorem q578 : (Jvm.Cond.fieldLink "BatchRenamer$Reading" (20 : Nat) "BatchRenamer$Reading" "name" "Ljava/lang/String;") ∈ lw_all := lw_g (lw_at lw_m2 209 rfl) rfl
theorem q581 : (Jvm.Cond.fieldLink "BatchRenamer$Reading" (44 : Nat) "BatchRenamer$Reading" "counter" "I") ∈ lw_all := lw_g (lw_at lw_m2 212 rfl) rfl
theorem q583 : (Jvm.Cond.fieldLink "BatchRenamer$Reading" (40 : Nat) "BatchRenamer$Reading" "digits" "I") ∈ lw_all := lw_g (lw_at lw_m2 214 rfl) rfl
theorem q584 : (Jvm.Cond.laysFinal "BatchRenamer$Reading" "BatchRenamer$Reading" "from" "[I") ∈ lw_all := lw_g (lw_at lw_m2 215 rfl) rfl
theorem q585 : (Jvm.Cond.soleField "BatchRenamer$Reading" "from") ∈ lw_all := lw_g (lw_at lw_m2 216 rfl) rfl
theorem q586 : (Jvm.Cond.laysFinal "BatchRenamer$Reading" "BatchRenamer$Reading" "many" "[I") ∈ lw_all := lw_g (lw_at lw_m2 217 rfl) rfl
theorem q587 : (Jvm.Cond.soleField "BatchRenamer$Reading" "many") ∈ lw_all := lw_g (lw_at lw_m2 218 rfl) rfl
theorem q588 : (Jvm.Cond.lays "BatchRenamer$Reading" "BatchRenamer$Reading" "name" "Ljava/lang/String;") ∈ lw_all := lw_g (lw_at lw_m2 219 rfl) rfl
theorem q589 : (Jvm.Cond.soleField "BatchRenamer$Reading" "name") ∈ lw_all := lw_g (lw_at lw_m2 220 rfl) rfl
theorem q590 : (Jvm.Cond.lays "BatchRenamer$Reading" "BatchRenamer$Reading" "counter" "I") ∈ lw_all := lw_g (lw_at lw_m2 221 rfl) rfl
theorem q591 : (Jvm.Cond.soleField "BatchRenamer$Reading" "counter") ∈ lw_all := lw_g (lw_at lw_m2 222 rfl) rfl
theorem q592 : (Jvm.Cond.lays "BatchRenamer$Reading" "BatchRenamer$Reading" "digits" "I") ∈ lw_all := lw_g (lw_at lw_m2 223 rfl) rfl
theorem q593 : (Jvm.Cond.soleField "BatchRenamer$Reading" "digits") ∈ lw_all := lw_g (lw_at lw_m2 224 rfl) rfl
theorem q594 : (Jvm.Cond.superclass "BatchRenamer$Reading" "java/lang/Object") ∈ lw_all := lw_g (lw_at lw_m2 225 rfl) rfl
theorem q788 : (Jvm.Cond.instanceMethod ({ cls := "BatchRenamer$Reading", name := "captured", desc := "(I)Ljava/lang/String;" } : Jvm.MethodName)) ∈ lw_all := lw_g (lw_at lw_m3 179 rfl) rfl
theorem q789 : (Jvm.Cond.selects "BatchRenamer$Reading" ({ cls := "BatchRenamer$Reading", name := "captured", desc := "(I)Ljava/lang/String;" } : Jvm.MethodName) ({ cls := "BatchRenamer$Reading", name := "captured", desc := "(I)Ljava/lang/String;" } : Jvm.MethodName)) ∈ lw_all := lw_g (lw_at lw_m3 180 rfl) rfl
theorem q790 : (Jvm.Cond.code ({ cls := "BatchRenamer$Reading", name := "captured", desc := "(I)Ljava/lang/String;" } : Jvm.MethodName) prog_12_method_2_code (2 : Nat) (Option.some (Jvm.ClassFile.FieldType.object "java/lang/String"))) ∈ lw_all := lw_g (lw_at lw_m3 181 rfl) rfl
theorem q791 : (Jvm.Cond.methodLink "BatchRenamer$Reading" (24 : Nat) ({ cls := "java/lang/String", name := "substring", desc := "(II)Ljava/lang/String;" } : Jvm.MethodName)) ∈ lw_all := lw_g (lw_at lw_m3 182 rfl) rfl
theorem q832 : (Jvm.Cond.selects "BatchRenamer$Reading" ({ cls := "java/lang/Object", name := "equals", desc := "(Ljava/lang/Object;)Z" } : Jvm.MethodName) ({ cls := "java/lang/Object", name := "equals", desc := "(Ljava/lang/Object;)Z" } : Jvm.MethodName)) ∈ lw_all := lw_g (lw_at lw_m3 223 rfl) rfl
theorem q868 : (Jvm.Cond.selects "BatchRenamer$Reading" ({ cls := "java/lang/Object", name := "getClass", desc := "()Ljava/lang/Class;" } : Jvm.MethodName) ({ cls := "java/lang/Object", name := "getClass", desc := "()Ljava/lang/Class;" } : Jvm.MethodName)) ∈ lw_all := lw_g (lw_at lw_m4 19 rfl) rfl
theorem q1757 : (Jvm.Cond.instanceMethod ({ cls := "BatchRenamer$Reading", name := "writeCounter", desc := "(Ljava/lang/StringBuilder;)V" } : Jvm.MethodName)) ∈ lw_all := lw_g (lw_at lw_m7 188 rfl) rfl
theorem q1758 : (Jvm.Cond.selects "BatchRenamer$Reading" ({ cls := "BatchRenamer$Reading", name := "writeCounter", desc := "(Ljava/lang/StringBuilder;)V" } : Jvm.MethodName) ({ cls := "BatchRenamer$Reading", name := "writeCounter", desc := "(Ljava/lang/StringBuilder;)V" } : Jvm.MethodName)) ∈ lw_all := lw_g (lw_at lw_m7 189 rfl) rfl
theorem q1759 : (Jvm.Cond.code ({ cls := "BatchRenamer$Reading", name := "writeCounter", desc := "(Ljava/lang/StringBuilder;)V" } : Jvm.MethodName) prog_12_method_4_code (4 : Nat) (Option.none : Option Jvm.ClassFile.FieldType)) ∈ lw_all := lw_g (lw_at lw_m7 190 rfl) rfl
theorem q1760 : (Jvm.Cond.methodLink "BatchRenamer$Reading" (34 : Nat) ({ cls := "java/lang/StringBuilder", name := "append", desc := "(C)Ljava/lang/StringBuilder;" } : Jvm.MethodName)) ∈ lw_all := lw_g (lw_at lw_m7 191 rfl) rfl
theorem q1765 : (Jvm.Cond.instanceMethod ({ cls := "BatchRenamer$Reading", name := "writeCaptured", desc := "(Ljava/lang/StringBuilder;I)V" } : Jvm.MethodName)) ∈ lw_all := lw_g (lw_at lw_m7 196 rfl) rfl
theorem q1766 : (Jvm.Cond.selects "BatchRenamer$Reading" ({ cls := "BatchRenamer$Reading", name := "writeCaptured", desc := "(Ljava/lang/StringBuilder;I)V" } : Jvm.MethodName) ({ cls := "BatchRenamer$Reading", name := "writeCaptured", desc := "(Ljava/lang/StringBuilder;I)V" } : Jvm.MethodName)) ∈ lw_all := lw_g (lw_at lw_m7 197 rfl) rfl
theorem q1767 : (Jvm.Cond.code ({ cls := "BatchRenamer$Reading", name := "writeCaptured", desc := "(Ljava/lang/StringBuilder;I)V" } : Jvm.MethodName) prog_12_method_3_code (4 : Nat) (Option.none : Option Jvm.ClassFile.FieldType)) ∈ lw_all := lw_g (lw_at lw_m7 198 rfl) rfl
theorem q1768 : (Jvm.Cond.methodLink "BatchRenamer$Reading" (30 : Nat) ({ cls := "java/lang/String", name := "charAt", desc := "(I)C" } : Jvm.MethodName)) ∈ lw_all := lw_g (lw_at lw_m7 199 rfl) rfl
theorem q2910 : (Jvm.Cond.castable "BatchRenamer$Reading" "java/lang/Object") ∈ lw_tbl := lw_at lw_m12 141 rfl
theorem in_X4 : ∀ w ∈ wsX40, w ∈ lw_all := lw_in wsX40 [584, 586, 588, 590, 592] (by decide +kernel) (by decide +kernel)

/-! BatchRenamer$Parser -/
def RX6 : String := "BatchRenamer$Parser"
def TX6 : u_T := fun k => match k with
  | 0 => ("BatchRenamer$Parser", "text", "[B", true)
  | 1 => ("BatchRenamer$Parser", "parsed", "LBatchRenamer$Board;", true)
  | 2 => ("BatchRenamer$Parser", "start", "I", false)
  | 3 => ("BatchRenamer$Parser", "next", "I", false)
  | 4 => ("BatchRenamer$Parser", "token", "I", false)
  | _ => ("BatchRenamer$Parser", "chunk", "Ljava/lang/String;", false)
def tyX6 : Nat → FieldType := fun k => match k with
  | 0 => .array .byte
  | 1 => .object "BatchRenamer$Board"
  | 2 => .int
  | 3 => .int
  | 4 => .int
  | _ => .object "java/lang/String"
abbrev wsX60 : List Cond := u_ws RX6 TX6 6
theorem nmX6 : ∀ a, a < 6 → ∀ b, b < 6 → a ≠ b → (TX6 a).2.1 ≠ (TX6 b).2.1 := by decide +kernel
theorem tyX6_ok : ∀ k, k < 6 → parseFieldDescriptor (TX6 k).2.2.1 = some (tyX6 k) := by decide +kernel
abbrev cX6_init : ByteArray := prog_8_method_1_code
def yX6_init : MethodName := ⟨RX6, "<init>", "([B)V"⟩
def dkwX6_init_1 : List UInt8 := [181, 0, 24, 177]
abbrev dktX6_init_1 : List UInt8 := dkwX6_init_1 ++ []
def dkwX6_init_0 : List UInt8 := [42, 183, 0, 3, 42, 187, 0, 9, 89, 183, 0, 11, 181, 0, 12, 42, 18, 18, 181, 0, 20, 42, 43]
abbrev dktX6_init_0 : List UInt8 := dkwX6_init_0 ++ dktX6_init_1
theorem dksX6_init_0 : cX6_init.data.toList.drop 0 = dktX6_init_0 := by decide +kernel
theorem dksX6_init_1 : cX6_init.data.toList.drop 23 = dktX6_init_1 := dk_seg dksX6_init_0 23 rfl rfl
theorem dX6_init_0 : decode cX6_init 0 = .ok (.aload_n 0, 1) := dk_42 (dk_at dksX6_init_0 0 rfl rfl)
theorem dX6_init_1 : decode cX6_init 1 = .ok (.invokespecial 3, 3) := dk_183 0 3 (dk_at dksX6_init_0 1 rfl rfl)
theorem dX6_init_4 : decode cX6_init 4 = .ok (.aload_n 0, 1) := dk_42 (dk_at dksX6_init_0 4 rfl rfl)
theorem dX6_init_5 : decode cX6_init 5 = .ok (.new 9, 3) := dk_187 0 9 (dk_at dksX6_init_0 5 rfl rfl)
theorem dX6_init_8 : decode cX6_init 8 = .ok (.dup, 1) := dk_89 (dk_at dksX6_init_0 8 rfl rfl)
theorem dX6_init_9 : decode cX6_init 9 = .ok (.invokespecial 11, 3) := dk_183 0 11 (dk_at dksX6_init_0 9 rfl rfl)
theorem dX6_init_12 : decode cX6_init 12 = .ok (.putfield 12, 3) := dk_181 0 12 (dk_at dksX6_init_0 12 rfl rfl)
theorem dX6_init_15 : decode cX6_init 15 = .ok (.aload_n 0, 1) := dk_42 (dk_at dksX6_init_0 15 rfl rfl)
theorem dX6_init_16 : decode cX6_init 16 = .ok (.ldc 18, 2) := dk_18 18 (dk_at dksX6_init_0 16 rfl rfl)
theorem dX6_init_18 : decode cX6_init 18 = .ok (.putfield 20, 3) := dk_181 0 20 (dk_at dksX6_init_0 18 rfl rfl)
theorem dX6_init_21 : decode cX6_init 21 = .ok (.aload_n 0, 1) := dk_42 (dk_at dksX6_init_0 21 rfl rfl)
theorem dX6_init_22 : decode cX6_init 22 = .ok (.aload_n 1, 1) := dk_43 (dk_at dksX6_init_0 22 rfl rfl)
theorem dX6_init_23 : decode cX6_init 23 = .ok (.putfield 24, 3) := dk_181 0 24 (dk_at dksX6_init_1 0 rfl rfl)
theorem dX6_init_26 : decode cX6_init 26 = .ok (.return_, 1) := dk_177 (dk_at dksX6_init_1 3 rfl rfl)
abbrev cX6_parse : ByteArray := prog_8_method_7_code
def yX6_parse : MethodName := ⟨RX6, "parse", "()LBatchRenamer$Board;"⟩
def dkwX6_parse_1 : List UInt8 := [4, 167, 0, 4, 3, 182, 0, 71, 42, 182, 0, 87, 167, 255, 224, 42, 180, 0, 12, 176]
abbrev dktX6_parse_1 : List UInt8 := dkwX6_parse_1 ++ []
def dkwX6_parse_0 : List UInt8 := [42, 182, 0, 87, 42, 180, 0, 42, 153, 0, 31, 42, 182, 0, 90, 42, 42, 180, 0, 42, 6, 160, 0, 7]
abbrev dktX6_parse_0 : List UInt8 := dkwX6_parse_0 ++ dktX6_parse_1
theorem dksX6_parse_0 : cX6_parse.data.toList.drop 0 = dktX6_parse_0 := by decide +kernel
theorem dksX6_parse_1 : cX6_parse.data.toList.drop 24 = dktX6_parse_1 := dk_seg dksX6_parse_0 24 rfl rfl
theorem dX6_parse_0 : decode cX6_parse 0 = .ok (.aload_n 0, 1) := dk_42 (dk_at dksX6_parse_0 0 rfl rfl)
theorem dX6_parse_1 : decode cX6_parse 1 = .ok (.invokevirtual 87, 3) := dk_182 0 87 (dk_at dksX6_parse_0 1 rfl rfl)
theorem dX6_parse_4 : decode cX6_parse 4 = .ok (.aload_n 0, 1) := dk_42 (dk_at dksX6_parse_0 4 rfl rfl)
theorem dX6_parse_5 : decode cX6_parse 5 = .ok (.getfield 42, 3) := dk_180 0 42 (dk_at dksX6_parse_0 5 rfl rfl)
theorem dX6_parse_8 : decode cX6_parse 8 = .ok (.ifCond .eq 31, 3) := dk_153 0 31 (dk_at dksX6_parse_0 8 rfl rfl)
theorem dX6_parse_11 : decode cX6_parse 11 = .ok (.aload_n 0, 1) := dk_42 (dk_at dksX6_parse_0 11 rfl rfl)
theorem dX6_parse_12 : decode cX6_parse 12 = .ok (.invokevirtual 90, 3) := dk_182 0 90 (dk_at dksX6_parse_0 12 rfl rfl)
theorem dX6_parse_15 : decode cX6_parse 15 = .ok (.aload_n 0, 1) := dk_42 (dk_at dksX6_parse_0 15 rfl rfl)
theorem dX6_parse_16 : decode cX6_parse 16 = .ok (.aload_n 0, 1) := dk_42 (dk_at dksX6_parse_0 16 rfl rfl)
theorem dX6_parse_17 : decode cX6_parse 17 = .ok (.getfield 42, 3) := dk_180 0 42 (dk_at dksX6_parse_0 17 rfl rfl)
theorem dX6_parse_20 : decode cX6_parse 20 = .ok (.iconst 3, 1) := dk_6 (dk_at dksX6_parse_0 20 rfl rfl)
theorem dX6_parse_21 : decode cX6_parse 21 = .ok (.if_icmp .ne 7, 3) := dk_160 0 7 (dk_at dksX6_parse_0 21 rfl rfl)
theorem dX6_parse_24 : decode cX6_parse 24 = .ok (.iconst 1, 1) := dk_4 (dk_at dksX6_parse_1 0 rfl rfl)
theorem dX6_parse_25 : decode cX6_parse 25 = .ok (.goto 4, 3) := dk_167 0 4 (dk_at dksX6_parse_1 1 rfl rfl)
theorem dX6_parse_28 : decode cX6_parse 28 = .ok (.iconst 0, 1) := dk_3 (dk_at dksX6_parse_1 4 rfl rfl)
theorem dX6_parse_29 : decode cX6_parse 29 = .ok (.invokevirtual 71, 3) := dk_182 0 71 (dk_at dksX6_parse_1 5 rfl rfl)
theorem dX6_parse_32 : decode cX6_parse 32 = .ok (.aload_n 0, 1) := dk_42 (dk_at dksX6_parse_1 8 rfl rfl)
theorem dX6_parse_33 : decode cX6_parse 33 = .ok (.invokevirtual 87, 3) := dk_182 0 87 (dk_at dksX6_parse_1 9 rfl rfl)
theorem dX6_parse_36 : decode cX6_parse 36 = .ok (.goto (-32), 3) := dk_167 255 224 (dk_at dksX6_parse_1 12 rfl rfl)
theorem dX6_parse_39 : decode cX6_parse 39 = .ok (.aload_n 0, 1) := dk_42 (dk_at dksX6_parse_1 15 rfl rfl)
theorem dX6_parse_40 : decode cX6_parse 40 = .ok (.getfield 12, 3) := dk_180 0 12 (dk_at dksX6_parse_1 16 rfl rfl)
theorem dX6_parse_43 : decode cX6_parse 43 = .ok (.areturn, 1) := dk_176 (dk_at dksX6_parse_1 19 rfl rfl)
abbrev cX6_advance : ByteArray := prog_8_method_4_code
def yX6_advance : MethodName := ⟨RX6, "advance", "()V"⟩
def dkwX6_advance_6 : List UInt8 := [6, 167, 0, 4, 4, 181, 0, 42, 42, 89, 180, 0, 28, 4, 96, 181, 0, 28, 177]
abbrev dktX6_advance_6 : List UInt8 := dkwX6_advance_6 ++ []
def dkwX6_advance_5 : List UInt8 := [182, 0, 56, 181, 0, 20, 42, 5, 181, 0, 42, 167, 0, 31, 42, 42, 16, 59, 182, 0, 36, 153, 0, 7]
abbrev dktX6_advance_5 : List UInt8 := dkwX6_advance_5 ++ dktX6_advance_6
def dkwX6_advance_4 : List UInt8 := [180, 0, 28, 51, 146, 182, 0, 52, 87, 42, 89, 180, 0, 28, 4, 96, 181, 0, 28, 167, 255, 224, 42, 43]
abbrev dktX6_advance_4 : List UInt8 := dkwX6_advance_4 ++ dktX6_advance_5
def dkwX6_advance_3 : List UInt8 := [153, 0, 62, 187, 0, 49, 89, 183, 0, 51, 76, 42, 182, 0, 45, 153, 0, 31, 43, 42, 180, 0, 24, 42]
abbrev dktX6_advance_3 : List UInt8 := dkwX6_advance_3 ++ dktX6_advance_4
def dkwX6_advance_2 : List UInt8 := [180, 0, 28, 42, 180, 0, 24, 190, 160, 0, 11, 42, 3, 181, 0, 42, 167, 0, 97, 42, 182, 0, 45]
abbrev dktX6_advance_2 : List UInt8 := dkwX6_advance_2 ++ dktX6_advance_3
def dkwX6_advance_1 : List UInt8 := [96, 181, 0, 28, 167, 255, 228, 42, 42, 180, 0, 28, 181, 0, 39, 42, 18, 18, 181, 0, 20, 42]
abbrev dktX6_advance_1 : List UInt8 := dkwX6_advance_1 ++ dktX6_advance_2
def dkwX6_advance_0 : List UInt8 := [42, 16, 32, 182, 0, 36, 154, 0, 12, 42, 16, 10, 182, 0, 36, 153, 0, 16, 42, 89, 180, 0, 28, 4]
abbrev dktX6_advance_0 : List UInt8 := dkwX6_advance_0 ++ dktX6_advance_1
theorem dksX6_advance_0 : cX6_advance.data.toList.drop 0 = dktX6_advance_0 := by decide +kernel
theorem dksX6_advance_1 : cX6_advance.data.toList.drop 24 = dktX6_advance_1 := dk_seg dksX6_advance_0 24 rfl rfl
theorem dksX6_advance_2 : cX6_advance.data.toList.drop 46 = dktX6_advance_2 := dk_seg dksX6_advance_1 22 rfl rfl
theorem dksX6_advance_3 : cX6_advance.data.toList.drop 69 = dktX6_advance_3 := dk_seg dksX6_advance_2 23 rfl rfl
theorem dksX6_advance_4 : cX6_advance.data.toList.drop 93 = dktX6_advance_4 := dk_seg dksX6_advance_3 24 rfl rfl
theorem dksX6_advance_5 : cX6_advance.data.toList.drop 117 = dktX6_advance_5 := dk_seg dksX6_advance_4 24 rfl rfl
theorem dksX6_advance_6 : cX6_advance.data.toList.drop 141 = dktX6_advance_6 := dk_seg dksX6_advance_5 24 rfl rfl
theorem dX6_advance_0 : decode cX6_advance 0 = .ok (.aload_n 0, 1) := dk_42 (dk_at dksX6_advance_0 0 rfl rfl)
theorem dX6_advance_1 : decode cX6_advance 1 = .ok (.bipush 32, 2) := dk_16 32 (dk_at dksX6_advance_0 1 rfl rfl)
theorem dX6_advance_3 : decode cX6_advance 3 = .ok (.invokevirtual 36, 3) := dk_182 0 36 (dk_at dksX6_advance_0 3 rfl rfl)
theorem dX6_advance_6 : decode cX6_advance 6 = .ok (.ifCond .ne 12, 3) := dk_154 0 12 (dk_at dksX6_advance_0 6 rfl rfl)
theorem dX6_advance_9 : decode cX6_advance 9 = .ok (.aload_n 0, 1) := dk_42 (dk_at dksX6_advance_0 9 rfl rfl)
theorem dX6_advance_10 : decode cX6_advance 10 = .ok (.bipush 10, 2) := dk_16 10 (dk_at dksX6_advance_0 10 rfl rfl)
theorem dX6_advance_12 : decode cX6_advance 12 = .ok (.invokevirtual 36, 3) := dk_182 0 36 (dk_at dksX6_advance_0 12 rfl rfl)
theorem dX6_advance_15 : decode cX6_advance 15 = .ok (.ifCond .eq 16, 3) := dk_153 0 16 (dk_at dksX6_advance_0 15 rfl rfl)
theorem dX6_advance_18 : decode cX6_advance 18 = .ok (.aload_n 0, 1) := dk_42 (dk_at dksX6_advance_0 18 rfl rfl)
theorem dX6_advance_19 : decode cX6_advance 19 = .ok (.dup, 1) := dk_89 (dk_at dksX6_advance_0 19 rfl rfl)
theorem dX6_advance_20 : decode cX6_advance 20 = .ok (.getfield 28, 3) := dk_180 0 28 (dk_at dksX6_advance_0 20 rfl rfl)
theorem dX6_advance_23 : decode cX6_advance 23 = .ok (.iconst 1, 1) := dk_4 (dk_at dksX6_advance_0 23 rfl rfl)
theorem dX6_advance_24 : decode cX6_advance 24 = .ok (.iadd, 1) := dk_96 (dk_at dksX6_advance_1 0 rfl rfl)
theorem dX6_advance_25 : decode cX6_advance 25 = .ok (.putfield 28, 3) := dk_181 0 28 (dk_at dksX6_advance_1 1 rfl rfl)
theorem dX6_advance_28 : decode cX6_advance 28 = .ok (.goto (-28), 3) := dk_167 255 228 (dk_at dksX6_advance_1 4 rfl rfl)
theorem dX6_advance_31 : decode cX6_advance 31 = .ok (.aload_n 0, 1) := dk_42 (dk_at dksX6_advance_1 7 rfl rfl)
theorem dX6_advance_32 : decode cX6_advance 32 = .ok (.aload_n 0, 1) := dk_42 (dk_at dksX6_advance_1 8 rfl rfl)
theorem dX6_advance_33 : decode cX6_advance 33 = .ok (.getfield 28, 3) := dk_180 0 28 (dk_at dksX6_advance_1 9 rfl rfl)
theorem dX6_advance_36 : decode cX6_advance 36 = .ok (.putfield 39, 3) := dk_181 0 39 (dk_at dksX6_advance_1 12 rfl rfl)
theorem dX6_advance_39 : decode cX6_advance 39 = .ok (.aload_n 0, 1) := dk_42 (dk_at dksX6_advance_1 15 rfl rfl)
theorem dX6_advance_40 : decode cX6_advance 40 = .ok (.ldc 18, 2) := dk_18 18 (dk_at dksX6_advance_1 16 rfl rfl)
theorem dX6_advance_42 : decode cX6_advance 42 = .ok (.putfield 20, 3) := dk_181 0 20 (dk_at dksX6_advance_1 18 rfl rfl)
theorem dX6_advance_45 : decode cX6_advance 45 = .ok (.aload_n 0, 1) := dk_42 (dk_at dksX6_advance_1 21 rfl rfl)
theorem dX6_advance_46 : decode cX6_advance 46 = .ok (.getfield 28, 3) := dk_180 0 28 (dk_at dksX6_advance_2 0 rfl rfl)
theorem dX6_advance_49 : decode cX6_advance 49 = .ok (.aload_n 0, 1) := dk_42 (dk_at dksX6_advance_2 3 rfl rfl)
theorem dX6_advance_50 : decode cX6_advance 50 = .ok (.getfield 24, 3) := dk_180 0 24 (dk_at dksX6_advance_2 4 rfl rfl)
theorem dX6_advance_53 : decode cX6_advance 53 = .ok (.arraylength, 1) := dk_190 (dk_at dksX6_advance_2 7 rfl rfl)
theorem dX6_advance_54 : decode cX6_advance 54 = .ok (.if_icmp .ne 11, 3) := dk_160 0 11 (dk_at dksX6_advance_2 8 rfl rfl)
theorem dX6_advance_57 : decode cX6_advance 57 = .ok (.aload_n 0, 1) := dk_42 (dk_at dksX6_advance_2 11 rfl rfl)
theorem dX6_advance_58 : decode cX6_advance 58 = .ok (.iconst 0, 1) := dk_3 (dk_at dksX6_advance_2 12 rfl rfl)
theorem dX6_advance_59 : decode cX6_advance 59 = .ok (.putfield 42, 3) := dk_181 0 42 (dk_at dksX6_advance_2 13 rfl rfl)
theorem dX6_advance_62 : decode cX6_advance 62 = .ok (.goto 97, 3) := dk_167 0 97 (dk_at dksX6_advance_2 16 rfl rfl)
theorem dX6_advance_65 : decode cX6_advance 65 = .ok (.aload_n 0, 1) := dk_42 (dk_at dksX6_advance_2 19 rfl rfl)
theorem dX6_advance_66 : decode cX6_advance 66 = .ok (.invokevirtual 45, 3) := dk_182 0 45 (dk_at dksX6_advance_2 20 rfl rfl)
theorem dX6_advance_69 : decode cX6_advance 69 = .ok (.ifCond .eq 62, 3) := dk_153 0 62 (dk_at dksX6_advance_3 0 rfl rfl)
theorem dX6_advance_72 : decode cX6_advance 72 = .ok (.new 49, 3) := dk_187 0 49 (dk_at dksX6_advance_3 3 rfl rfl)
theorem dX6_advance_75 : decode cX6_advance 75 = .ok (.dup, 1) := dk_89 (dk_at dksX6_advance_3 6 rfl rfl)
theorem dX6_advance_76 : decode cX6_advance 76 = .ok (.invokespecial 51, 3) := dk_183 0 51 (dk_at dksX6_advance_3 7 rfl rfl)
theorem dX6_advance_79 : decode cX6_advance 79 = .ok (.astore_n 1, 1) := dk_76 (dk_at dksX6_advance_3 10 rfl rfl)
theorem dX6_advance_80 : decode cX6_advance 80 = .ok (.aload_n 0, 1) := dk_42 (dk_at dksX6_advance_3 11 rfl rfl)
theorem dX6_advance_81 : decode cX6_advance 81 = .ok (.invokevirtual 45, 3) := dk_182 0 45 (dk_at dksX6_advance_3 12 rfl rfl)
theorem dX6_advance_84 : decode cX6_advance 84 = .ok (.ifCond .eq 31, 3) := dk_153 0 31 (dk_at dksX6_advance_3 15 rfl rfl)
theorem dX6_advance_87 : decode cX6_advance 87 = .ok (.aload_n 1, 1) := dk_43 (dk_at dksX6_advance_3 18 rfl rfl)
theorem dX6_advance_88 : decode cX6_advance 88 = .ok (.aload_n 0, 1) := dk_42 (dk_at dksX6_advance_3 19 rfl rfl)
theorem dX6_advance_89 : decode cX6_advance 89 = .ok (.getfield 24, 3) := dk_180 0 24 (dk_at dksX6_advance_3 20 rfl rfl)
theorem dX6_advance_92 : decode cX6_advance 92 = .ok (.aload_n 0, 1) := dk_42 (dk_at dksX6_advance_3 23 rfl rfl)
theorem dX6_advance_93 : decode cX6_advance 93 = .ok (.getfield 28, 3) := dk_180 0 28 (dk_at dksX6_advance_4 0 rfl rfl)
theorem dX6_advance_96 : decode cX6_advance 96 = .ok (.baload, 1) := dk_51 (dk_at dksX6_advance_4 3 rfl rfl)
theorem dX6_advance_97 : decode cX6_advance 97 = .ok (.i2c, 1) := dk_146 (dk_at dksX6_advance_4 4 rfl rfl)
theorem dX6_advance_98 : decode cX6_advance 98 = .ok (.invokevirtual 52, 3) := dk_182 0 52 (dk_at dksX6_advance_4 5 rfl rfl)
theorem dX6_advance_101 : decode cX6_advance 101 = .ok (.pop, 1) := dk_87 (dk_at dksX6_advance_4 8 rfl rfl)
theorem dX6_advance_102 : decode cX6_advance 102 = .ok (.aload_n 0, 1) := dk_42 (dk_at dksX6_advance_4 9 rfl rfl)
theorem dX6_advance_103 : decode cX6_advance 103 = .ok (.dup, 1) := dk_89 (dk_at dksX6_advance_4 10 rfl rfl)
theorem dX6_advance_104 : decode cX6_advance 104 = .ok (.getfield 28, 3) := dk_180 0 28 (dk_at dksX6_advance_4 11 rfl rfl)
theorem dX6_advance_107 : decode cX6_advance 107 = .ok (.iconst 1, 1) := dk_4 (dk_at dksX6_advance_4 14 rfl rfl)
theorem dX6_advance_108 : decode cX6_advance 108 = .ok (.iadd, 1) := dk_96 (dk_at dksX6_advance_4 15 rfl rfl)
theorem dX6_advance_109 : decode cX6_advance 109 = .ok (.putfield 28, 3) := dk_181 0 28 (dk_at dksX6_advance_4 16 rfl rfl)
theorem dX6_advance_112 : decode cX6_advance 112 = .ok (.goto (-32), 3) := dk_167 255 224 (dk_at dksX6_advance_4 19 rfl rfl)
theorem dX6_advance_115 : decode cX6_advance 115 = .ok (.aload_n 0, 1) := dk_42 (dk_at dksX6_advance_4 22 rfl rfl)
theorem dX6_advance_116 : decode cX6_advance 116 = .ok (.aload_n 1, 1) := dk_43 (dk_at dksX6_advance_4 23 rfl rfl)
theorem dX6_advance_117 : decode cX6_advance 117 = .ok (.invokevirtual 56, 3) := dk_182 0 56 (dk_at dksX6_advance_5 0 rfl rfl)
theorem dX6_advance_120 : decode cX6_advance 120 = .ok (.putfield 20, 3) := dk_181 0 20 (dk_at dksX6_advance_5 3 rfl rfl)
theorem dX6_advance_123 : decode cX6_advance 123 = .ok (.aload_n 0, 1) := dk_42 (dk_at dksX6_advance_5 6 rfl rfl)
theorem dX6_advance_124 : decode cX6_advance 124 = .ok (.iconst 2, 1) := dk_5 (dk_at dksX6_advance_5 7 rfl rfl)
theorem dX6_advance_125 : decode cX6_advance 125 = .ok (.putfield 42, 3) := dk_181 0 42 (dk_at dksX6_advance_5 8 rfl rfl)
theorem dX6_advance_128 : decode cX6_advance 128 = .ok (.goto 31, 3) := dk_167 0 31 (dk_at dksX6_advance_5 11 rfl rfl)
theorem dX6_advance_131 : decode cX6_advance 131 = .ok (.aload_n 0, 1) := dk_42 (dk_at dksX6_advance_5 14 rfl rfl)
theorem dX6_advance_132 : decode cX6_advance 132 = .ok (.aload_n 0, 1) := dk_42 (dk_at dksX6_advance_5 15 rfl rfl)
theorem dX6_advance_133 : decode cX6_advance 133 = .ok (.bipush 59, 2) := dk_16 59 (dk_at dksX6_advance_5 16 rfl rfl)
theorem dX6_advance_135 : decode cX6_advance 135 = .ok (.invokevirtual 36, 3) := dk_182 0 36 (dk_at dksX6_advance_5 18 rfl rfl)
theorem dX6_advance_138 : decode cX6_advance 138 = .ok (.ifCond .eq 7, 3) := dk_153 0 7 (dk_at dksX6_advance_5 21 rfl rfl)
theorem dX6_advance_141 : decode cX6_advance 141 = .ok (.iconst 3, 1) := dk_6 (dk_at dksX6_advance_6 0 rfl rfl)
theorem dX6_advance_142 : decode cX6_advance 142 = .ok (.goto 4, 3) := dk_167 0 4 (dk_at dksX6_advance_6 1 rfl rfl)
theorem dX6_advance_145 : decode cX6_advance 145 = .ok (.iconst 1, 1) := dk_4 (dk_at dksX6_advance_6 4 rfl rfl)
theorem dX6_advance_146 : decode cX6_advance 146 = .ok (.putfield 42, 3) := dk_181 0 42 (dk_at dksX6_advance_6 5 rfl rfl)
theorem dX6_advance_149 : decode cX6_advance 149 = .ok (.aload_n 0, 1) := dk_42 (dk_at dksX6_advance_6 8 rfl rfl)
theorem dX6_advance_150 : decode cX6_advance 150 = .ok (.dup, 1) := dk_89 (dk_at dksX6_advance_6 9 rfl rfl)
theorem dX6_advance_151 : decode cX6_advance 151 = .ok (.getfield 28, 3) := dk_180 0 28 (dk_at dksX6_advance_6 10 rfl rfl)
theorem dX6_advance_154 : decode cX6_advance 154 = .ok (.iconst 1, 1) := dk_4 (dk_at dksX6_advance_6 13 rfl rfl)
theorem dX6_advance_155 : decode cX6_advance 155 = .ok (.iadd, 1) := dk_96 (dk_at dksX6_advance_6 14 rfl rfl)
theorem dX6_advance_156 : decode cX6_advance 156 = .ok (.putfield 28, 3) := dk_181 0 28 (dk_at dksX6_advance_6 15 rfl rfl)
theorem dX6_advance_159 : decode cX6_advance 159 = .ok (.return_, 1) := dk_177 (dk_at dksX6_advance_6 18 rfl rfl)
abbrev cX6_isNext : ByteArray := prog_8_method_2_code
def yX6_isNext : MethodName := ⟨RX6, "isNext", "(C)Z"⟩
def dkwX6_isNext_1 : List UInt8 := [160, 0, 7, 4, 167, 0, 4, 3, 172]
abbrev dktX6_isNext_1 : List UInt8 := dkwX6_isNext_1 ++ []
def dkwX6_isNext_0 : List UInt8 := [42, 180, 0, 28, 42, 180, 0, 24, 190, 162, 0, 20, 42, 180, 0, 24, 42, 180, 0, 28, 51, 27]
abbrev dktX6_isNext_0 : List UInt8 := dkwX6_isNext_0 ++ dktX6_isNext_1
theorem dksX6_isNext_0 : cX6_isNext.data.toList.drop 0 = dktX6_isNext_0 := by decide +kernel
theorem dksX6_isNext_1 : cX6_isNext.data.toList.drop 22 = dktX6_isNext_1 := dk_seg dksX6_isNext_0 22 rfl rfl
theorem dX6_isNext_0 : decode cX6_isNext 0 = .ok (.aload_n 0, 1) := dk_42 (dk_at dksX6_isNext_0 0 rfl rfl)
theorem dX6_isNext_1 : decode cX6_isNext 1 = .ok (.getfield 28, 3) := dk_180 0 28 (dk_at dksX6_isNext_0 1 rfl rfl)
theorem dX6_isNext_4 : decode cX6_isNext 4 = .ok (.aload_n 0, 1) := dk_42 (dk_at dksX6_isNext_0 4 rfl rfl)
theorem dX6_isNext_5 : decode cX6_isNext 5 = .ok (.getfield 24, 3) := dk_180 0 24 (dk_at dksX6_isNext_0 5 rfl rfl)
theorem dX6_isNext_8 : decode cX6_isNext 8 = .ok (.arraylength, 1) := dk_190 (dk_at dksX6_isNext_0 8 rfl rfl)
theorem dX6_isNext_9 : decode cX6_isNext 9 = .ok (.if_icmp .ge 20, 3) := dk_162 0 20 (dk_at dksX6_isNext_0 9 rfl rfl)
theorem dX6_isNext_12 : decode cX6_isNext 12 = .ok (.aload_n 0, 1) := dk_42 (dk_at dksX6_isNext_0 12 rfl rfl)
theorem dX6_isNext_13 : decode cX6_isNext 13 = .ok (.getfield 24, 3) := dk_180 0 24 (dk_at dksX6_isNext_0 13 rfl rfl)
theorem dX6_isNext_16 : decode cX6_isNext 16 = .ok (.aload_n 0, 1) := dk_42 (dk_at dksX6_isNext_0 16 rfl rfl)
theorem dX6_isNext_17 : decode cX6_isNext 17 = .ok (.getfield 28, 3) := dk_180 0 28 (dk_at dksX6_isNext_0 17 rfl rfl)
theorem dX6_isNext_20 : decode cX6_isNext 20 = .ok (.baload, 1) := dk_51 (dk_at dksX6_isNext_0 20 rfl rfl)
theorem dX6_isNext_21 : decode cX6_isNext 21 = .ok (.iload_n 1, 1) := dk_27 (dk_at dksX6_isNext_0 21 rfl rfl)
theorem dX6_isNext_22 : decode cX6_isNext 22 = .ok (.if_icmp .ne 7, 3) := dk_160 0 7 (dk_at dksX6_isNext_1 0 rfl rfl)
theorem dX6_isNext_25 : decode cX6_isNext 25 = .ok (.iconst 1, 1) := dk_4 (dk_at dksX6_isNext_1 3 rfl rfl)
theorem dX6_isNext_26 : decode cX6_isNext 26 = .ok (.goto 4, 3) := dk_167 0 4 (dk_at dksX6_isNext_1 4 rfl rfl)
theorem dX6_isNext_29 : decode cX6_isNext 29 = .ok (.iconst 0, 1) := dk_3 (dk_at dksX6_isNext_1 7 rfl rfl)
theorem dX6_isNext_30 : decode cX6_isNext 30 = .ok (.ireturn, 1) := dk_172 (dk_at dksX6_isNext_1 8 rfl rfl)
abbrev cX6_isInChunk : ByteArray := prog_8_method_3_code
def yX6_isInChunk : MethodName := ⟨RX6, "isInChunk", "()Z"⟩
def dkwX6_isInChunk_2 : List UInt8 := [159, 0, 15, 27, 16, 63, 159, 0, 9, 27, 16, 37, 160, 0, 7, 4, 167, 0, 4, 3, 172]
abbrev dktX6_isInChunk_2 : List UInt8 := dkwX6_isInChunk_2 ++ []
def dkwX6_isInChunk_1 : List UInt8 := [3, 172, 42, 180, 0, 24, 42, 180, 0, 28, 51, 146, 60, 27, 184, 0, 32, 154, 0, 21, 27, 16, 42]
abbrev dktX6_isInChunk_1 : List UInt8 := dkwX6_isInChunk_1 ++ dktX6_isInChunk_2
def dkwX6_isInChunk_0 : List UInt8 := [42, 180, 0, 28, 42, 180, 0, 24, 190, 159, 0, 15, 42, 180, 0, 24, 42, 180, 0, 28, 51, 156, 0, 5]
abbrev dktX6_isInChunk_0 : List UInt8 := dkwX6_isInChunk_0 ++ dktX6_isInChunk_1
theorem dksX6_isInChunk_0 : cX6_isInChunk.data.toList.drop 0 = dktX6_isInChunk_0 := by decide +kernel
theorem dksX6_isInChunk_1 : cX6_isInChunk.data.toList.drop 24 = dktX6_isInChunk_1 := dk_seg dksX6_isInChunk_0 24 rfl rfl
theorem dksX6_isInChunk_2 : cX6_isInChunk.data.toList.drop 47 = dktX6_isInChunk_2 := dk_seg dksX6_isInChunk_1 23 rfl rfl
theorem dX6_isInChunk_0 : decode cX6_isInChunk 0 = .ok (.aload_n 0, 1) := dk_42 (dk_at dksX6_isInChunk_0 0 rfl rfl)
theorem dX6_isInChunk_1 : decode cX6_isInChunk 1 = .ok (.getfield 28, 3) := dk_180 0 28 (dk_at dksX6_isInChunk_0 1 rfl rfl)
theorem dX6_isInChunk_4 : decode cX6_isInChunk 4 = .ok (.aload_n 0, 1) := dk_42 (dk_at dksX6_isInChunk_0 4 rfl rfl)
theorem dX6_isInChunk_5 : decode cX6_isInChunk 5 = .ok (.getfield 24, 3) := dk_180 0 24 (dk_at dksX6_isInChunk_0 5 rfl rfl)
theorem dX6_isInChunk_8 : decode cX6_isInChunk 8 = .ok (.arraylength, 1) := dk_190 (dk_at dksX6_isInChunk_0 8 rfl rfl)
theorem dX6_isInChunk_9 : decode cX6_isInChunk 9 = .ok (.if_icmp .eq 15, 3) := dk_159 0 15 (dk_at dksX6_isInChunk_0 9 rfl rfl)
theorem dX6_isInChunk_12 : decode cX6_isInChunk 12 = .ok (.aload_n 0, 1) := dk_42 (dk_at dksX6_isInChunk_0 12 rfl rfl)
theorem dX6_isInChunk_13 : decode cX6_isInChunk 13 = .ok (.getfield 24, 3) := dk_180 0 24 (dk_at dksX6_isInChunk_0 13 rfl rfl)
theorem dX6_isInChunk_16 : decode cX6_isInChunk 16 = .ok (.aload_n 0, 1) := dk_42 (dk_at dksX6_isInChunk_0 16 rfl rfl)
theorem dX6_isInChunk_17 : decode cX6_isInChunk 17 = .ok (.getfield 28, 3) := dk_180 0 28 (dk_at dksX6_isInChunk_0 17 rfl rfl)
theorem dX6_isInChunk_20 : decode cX6_isInChunk 20 = .ok (.baload, 1) := dk_51 (dk_at dksX6_isInChunk_0 20 rfl rfl)
theorem dX6_isInChunk_21 : decode cX6_isInChunk 21 = .ok (.ifCond .ge 5, 3) := dk_156 0 5 (dk_at dksX6_isInChunk_0 21 rfl rfl)
theorem dX6_isInChunk_24 : decode cX6_isInChunk 24 = .ok (.iconst 0, 1) := dk_3 (dk_at dksX6_isInChunk_1 0 rfl rfl)
theorem dX6_isInChunk_25 : decode cX6_isInChunk 25 = .ok (.ireturn, 1) := dk_172 (dk_at dksX6_isInChunk_1 1 rfl rfl)
theorem dX6_isInChunk_26 : decode cX6_isInChunk 26 = .ok (.aload_n 0, 1) := dk_42 (dk_at dksX6_isInChunk_1 2 rfl rfl)
theorem dX6_isInChunk_27 : decode cX6_isInChunk 27 = .ok (.getfield 24, 3) := dk_180 0 24 (dk_at dksX6_isInChunk_1 3 rfl rfl)
theorem dX6_isInChunk_30 : decode cX6_isInChunk 30 = .ok (.aload_n 0, 1) := dk_42 (dk_at dksX6_isInChunk_1 6 rfl rfl)
theorem dX6_isInChunk_31 : decode cX6_isInChunk 31 = .ok (.getfield 28, 3) := dk_180 0 28 (dk_at dksX6_isInChunk_1 7 rfl rfl)
theorem dX6_isInChunk_34 : decode cX6_isInChunk 34 = .ok (.baload, 1) := dk_51 (dk_at dksX6_isInChunk_1 10 rfl rfl)
theorem dX6_isInChunk_35 : decode cX6_isInChunk 35 = .ok (.i2c, 1) := dk_146 (dk_at dksX6_isInChunk_1 11 rfl rfl)
theorem dX6_isInChunk_36 : decode cX6_isInChunk 36 = .ok (.istore_n 1, 1) := dk_60 (dk_at dksX6_isInChunk_1 12 rfl rfl)
theorem dX6_isInChunk_37 : decode cX6_isInChunk 37 = .ok (.iload_n 1, 1) := dk_27 (dk_at dksX6_isInChunk_1 13 rfl rfl)
theorem dX6_isInChunk_38 : decode cX6_isInChunk 38 = .ok (.invokestatic 32, 3) := dk_184 0 32 (dk_at dksX6_isInChunk_1 14 rfl rfl)
theorem dX6_isInChunk_41 : decode cX6_isInChunk 41 = .ok (.ifCond .ne 21, 3) := dk_154 0 21 (dk_at dksX6_isInChunk_1 17 rfl rfl)
theorem dX6_isInChunk_44 : decode cX6_isInChunk 44 = .ok (.iload_n 1, 1) := dk_27 (dk_at dksX6_isInChunk_1 20 rfl rfl)
theorem dX6_isInChunk_45 : decode cX6_isInChunk 45 = .ok (.bipush 42, 2) := dk_16 42 (dk_at dksX6_isInChunk_1 21 rfl rfl)
theorem dX6_isInChunk_47 : decode cX6_isInChunk 47 = .ok (.if_icmp .eq 15, 3) := dk_159 0 15 (dk_at dksX6_isInChunk_2 0 rfl rfl)
theorem dX6_isInChunk_50 : decode cX6_isInChunk 50 = .ok (.iload_n 1, 1) := dk_27 (dk_at dksX6_isInChunk_2 3 rfl rfl)
theorem dX6_isInChunk_51 : decode cX6_isInChunk 51 = .ok (.bipush 63, 2) := dk_16 63 (dk_at dksX6_isInChunk_2 4 rfl rfl)
theorem dX6_isInChunk_53 : decode cX6_isInChunk 53 = .ok (.if_icmp .eq 9, 3) := dk_159 0 9 (dk_at dksX6_isInChunk_2 6 rfl rfl)
theorem dX6_isInChunk_56 : decode cX6_isInChunk 56 = .ok (.iload_n 1, 1) := dk_27 (dk_at dksX6_isInChunk_2 9 rfl rfl)
theorem dX6_isInChunk_57 : decode cX6_isInChunk 57 = .ok (.bipush 37, 2) := dk_16 37 (dk_at dksX6_isInChunk_2 10 rfl rfl)
theorem dX6_isInChunk_59 : decode cX6_isInChunk 59 = .ok (.if_icmp .ne 7, 3) := dk_160 0 7 (dk_at dksX6_isInChunk_2 12 rfl rfl)
theorem dX6_isInChunk_62 : decode cX6_isInChunk 62 = .ok (.iconst 1, 1) := dk_4 (dk_at dksX6_isInChunk_2 15 rfl rfl)
theorem dX6_isInChunk_63 : decode cX6_isInChunk 63 = .ok (.goto 4, 3) := dk_167 0 4 (dk_at dksX6_isInChunk_2 16 rfl rfl)
theorem dX6_isInChunk_66 : decode cX6_isInChunk 66 = .ok (.iconst 0, 1) := dk_3 (dk_at dksX6_isInChunk_2 19 rfl rfl)
theorem dX6_isInChunk_67 : decode cX6_isInChunk 67 = .ok (.ireturn, 1) := dk_172 (dk_at dksX6_isInChunk_2 20 rfl rfl)
abbrev cX6_statement : ByteArray := prog_8_method_8_code
def yX6_statement : MethodName := ⟨RX6, "statement", "()V"⟩
def dkwX6_statement_17 : List UInt8 := [182, 0, 147, 181, 0, 155, 167, 0, 8, 42, 3, 182, 0, 71, 177]
abbrev dktX6_statement_17 : List UInt8 := dkwX6_statement_17 ++ []
def dkwX6_statement_16 : List UInt8 := [181, 0, 151, 42, 180, 0, 12, 42, 4, 16, 99, 182, 0, 147, 181, 0, 152, 42, 180, 0, 12, 42, 4, 7]
abbrev dktX6_statement_16 : List UInt8 := dkwX6_statement_16 ++ dktX6_statement_17
def dkwX6_statement_15 : List UInt8 := [182, 0, 130, 87, 167, 0, 57, 42, 182, 0, 87, 42, 180, 0, 12, 42, 3, 17, 3, 231, 182, 0, 147]
abbrev dktX6_statement_15 : List UInt8 := dkwX6_statement_15 ++ dktX6_statement_16
def dkwX6_statement_14 : List UInt8 := [167, 0, 4, 3, 182, 0, 71, 42, 182, 0, 87, 42, 180, 0, 12, 180, 0, 141, 42, 182, 0, 144]
abbrev dktX6_statement_14 : List UInt8 := dkwX6_statement_14 ++ dktX6_statement_15
def dkwX6_statement_13 : List UInt8 := [42, 182, 0, 87, 167, 0, 103, 42, 42, 180, 0, 12, 180, 0, 141, 182, 0, 112, 16, 8, 162, 0, 7, 4]
abbrev dktX6_statement_13 : List UInt8 := dkwX6_statement_13 ++ dktX6_statement_14
def dkwX6_statement_12 : List UInt8 := [180, 0, 108, 42, 180, 0, 12, 42, 180, 0, 20, 182, 0, 121, 182, 0, 133, 192, 0, 125, 4, 181, 0, 137]
abbrev dktX6_statement_12 : List UInt8 := dkwX6_statement_12 ++ dktX6_statement_13
def dkwX6_statement_11 : List UInt8 := [42, 180, 0, 20, 182, 0, 121, 2, 159, 0, 7, 4, 167, 0, 4, 3, 182, 0, 71, 42, 180, 0, 12]
abbrev dktX6_statement_11 : List UInt8 := dkwX6_statement_11 ++ dktX6_statement_12
def dkwX6_statement_10 : List UInt8 := [167, 0, 178, 42, 182, 0, 87, 42, 42, 180, 0, 20, 16, 12, 184, 0, 117, 153, 0, 22, 42, 180, 0, 12]
abbrev dktX6_statement_10 : List UInt8 := dkwX6_statement_10 ++ dktX6_statement_11
def dkwX6_statement_9 : List UInt8 := [180, 0, 108, 187, 0, 125, 89, 42, 180, 0, 20, 183, 0, 127, 182, 0, 130, 87, 42, 182, 0, 87]
abbrev dktX6_statement_9 : List UInt8 := dkwX6_statement_9 ++ dktX6_statement_10
def dkwX6_statement_8 : List UInt8 := [180, 0, 20, 182, 0, 121, 2, 160, 0, 7, 4, 167, 0, 4, 3, 182, 0, 71, 42, 180, 0, 12]
abbrev dktX6_statement_8 : List UInt8 := dkwX6_statement_8 ++ dktX6_statement_9
def dkwX6_statement_7 : List UInt8 := [42, 182, 0, 87, 42, 42, 180, 0, 20, 16, 12, 184, 0, 117, 153, 0, 22, 42, 180, 0, 12, 42]
abbrev dktX6_statement_7 : List UInt8 := dkwX6_statement_7 ++ dktX6_statement_8
def dkwX6_statement_6 : List UInt8 := [42, 42, 180, 0, 12, 180, 0, 108, 182, 0, 112, 16, 20, 162, 0, 7, 4, 167, 0, 4, 3, 182, 0, 71]
abbrev dktX6_statement_6 : List UInt8 := dkwX6_statement_6 ++ dktX6_statement_7
def dkwX6_statement_5 : List UInt8 := [170, 0, 0, 0, 1, 37, 0, 0, 0, 0, 0, 0, 0, 3, 0, 0, 0, 30, 0, 0, 0, 123, 0, 0, 0, 198, 0, 0, 0, 244]
abbrev dktX6_statement_5 : List UInt8 := dkwX6_statement_5 ++ dktX6_statement_6
def dkwX6_statement_4 : List UInt8 := [153, 0, 5, 6, 61, 28]
abbrev dktX6_statement_4 : List UInt8 := dkwX6_statement_4 ++ dktX6_statement_5
def dkwX6_statement_3 : List UInt8 := [61, 167, 0, 28, 43, 18, 104, 182, 0, 98, 153, 0, 19, 5, 61, 167, 0, 14, 43, 18, 106, 182, 0, 98]
abbrev dktX6_statement_3 : List UInt8 := dkwX6_statement_3 ++ dktX6_statement_4
def dkwX6_statement_2 : List UInt8 := [43, 18, 96, 182, 0, 98, 153, 0, 47, 3, 61, 167, 0, 42, 43, 18, 102, 182, 0, 98, 153, 0, 33, 4]
abbrev dktX6_statement_2 : List UInt8 := dkwX6_statement_2 ++ dktX6_statement_3
def dkwX6_statement_1 : List UInt8 := [171, 0, 0, 0, 94, 0, 0, 0, 4, 0, 47, 245, 124, 0, 0, 0, 41, 0, 50, 43, 133, 0, 0, 0, 55, 0, 53, 150, 252, 0, 0, 0, 69, 5, 167, 81, 15, 0, 0, 0, 83]
abbrev dktX6_statement_1 : List UInt8 := dkwX6_statement_1 ++ dktX6_statement_2
def dkwX6_statement_0 : List UInt8 := [42, 180, 0, 20, 76, 2, 61, 43, 182, 0, 93]
abbrev dktX6_statement_0 : List UInt8 := dkwX6_statement_0 ++ dktX6_statement_1
theorem dksX6_statement_0 : cX6_statement.data.toList.drop 0 = dktX6_statement_0 := by decide +kernel
theorem dksX6_statement_1 : cX6_statement.data.toList.drop 11 = dktX6_statement_1 := dk_seg dksX6_statement_0 11 rfl rfl
theorem dksX6_statement_2 : cX6_statement.data.toList.drop 52 = dktX6_statement_2 := dk_seg dksX6_statement_1 41 rfl rfl
theorem dksX6_statement_3 : cX6_statement.data.toList.drop 76 = dktX6_statement_3 := dk_seg dksX6_statement_2 24 rfl rfl
theorem dksX6_statement_4 : cX6_statement.data.toList.drop 100 = dktX6_statement_4 := dk_seg dksX6_statement_3 24 rfl rfl
theorem dksX6_statement_5 : cX6_statement.data.toList.drop 106 = dktX6_statement_5 := dk_seg dksX6_statement_4 6 rfl rfl
theorem dksX6_statement_6 : cX6_statement.data.toList.drop 136 = dktX6_statement_6 := dk_seg dksX6_statement_5 30 rfl rfl
theorem dksX6_statement_7 : cX6_statement.data.toList.drop 160 = dktX6_statement_7 := dk_seg dksX6_statement_6 24 rfl rfl
theorem dksX6_statement_8 : cX6_statement.data.toList.drop 182 = dktX6_statement_8 := dk_seg dksX6_statement_7 22 rfl rfl
theorem dksX6_statement_9 : cX6_statement.data.toList.drop 204 = dktX6_statement_9 := dk_seg dksX6_statement_8 22 rfl rfl
theorem dksX6_statement_10 : cX6_statement.data.toList.drop 226 = dktX6_statement_10 := dk_seg dksX6_statement_9 22 rfl rfl
theorem dksX6_statement_11 : cX6_statement.data.toList.drop 250 = dktX6_statement_11 := dk_seg dksX6_statement_10 24 rfl rfl
theorem dksX6_statement_12 : cX6_statement.data.toList.drop 273 = dktX6_statement_12 := dk_seg dksX6_statement_11 23 rfl rfl
theorem dksX6_statement_13 : cX6_statement.data.toList.drop 297 = dktX6_statement_13 := dk_seg dksX6_statement_12 24 rfl rfl
theorem dksX6_statement_14 : cX6_statement.data.toList.drop 321 = dktX6_statement_14 := dk_seg dksX6_statement_13 24 rfl rfl
theorem dksX6_statement_15 : cX6_statement.data.toList.drop 343 = dktX6_statement_15 := dk_seg dksX6_statement_14 22 rfl rfl
theorem dksX6_statement_16 : cX6_statement.data.toList.drop 366 = dktX6_statement_16 := dk_seg dksX6_statement_15 23 rfl rfl
theorem dksX6_statement_17 : cX6_statement.data.toList.drop 390 = dktX6_statement_17 := dk_seg dksX6_statement_16 24 rfl rfl
theorem dX6_statement_0 : decode cX6_statement 0 = .ok (.aload_n 0, 1) := dk_42 (dk_at dksX6_statement_0 0 rfl rfl)
theorem dX6_statement_1 : decode cX6_statement 1 = .ok (.getfield 20, 3) := dk_180 0 20 (dk_at dksX6_statement_0 1 rfl rfl)
theorem dX6_statement_4 : decode cX6_statement 4 = .ok (.astore_n 1, 1) := dk_76 (dk_at dksX6_statement_0 4 rfl rfl)
theorem dX6_statement_5 : decode cX6_statement 5 = .ok (.iconst (-1), 1) := dk_2 (dk_at dksX6_statement_0 5 rfl rfl)
theorem dX6_statement_6 : decode cX6_statement 6 = .ok (.istore_n 2, 1) := dk_61 (dk_at dksX6_statement_0 6 rfl rfl)
theorem dX6_statement_7 : decode cX6_statement 7 = .ok (.aload_n 1, 1) := dk_43 (dk_at dksX6_statement_0 7 rfl rfl)
theorem dX6_statement_8 : decode cX6_statement 8 = .ok (.invokevirtual 93, 3) := dk_182 0 93 (dk_at dksX6_statement_0 8 rfl rfl)
theorem dX6_statement_11 : decode cX6_statement 11 = .ok (.lookupswitch 94 #[(3143036, 41), (3287941, 55), (3512060, 69), (94851343, 83)], 41) := by decide +kernel
theorem dX6_statement_52 : decode cX6_statement 52 = .ok (.aload_n 1, 1) := dk_43 (dk_at dksX6_statement_2 0 rfl rfl)
theorem dX6_statement_53 : decode cX6_statement 53 = .ok (.ldc 96, 2) := dk_18 96 (dk_at dksX6_statement_2 1 rfl rfl)
theorem dX6_statement_55 : decode cX6_statement 55 = .ok (.invokevirtual 98, 3) := dk_182 0 98 (dk_at dksX6_statement_2 3 rfl rfl)
theorem dX6_statement_58 : decode cX6_statement 58 = .ok (.ifCond .eq 47, 3) := dk_153 0 47 (dk_at dksX6_statement_2 6 rfl rfl)
theorem dX6_statement_61 : decode cX6_statement 61 = .ok (.iconst 0, 1) := dk_3 (dk_at dksX6_statement_2 9 rfl rfl)
theorem dX6_statement_62 : decode cX6_statement 62 = .ok (.istore_n 2, 1) := dk_61 (dk_at dksX6_statement_2 10 rfl rfl)
theorem dX6_statement_63 : decode cX6_statement 63 = .ok (.goto 42, 3) := dk_167 0 42 (dk_at dksX6_statement_2 11 rfl rfl)
theorem dX6_statement_66 : decode cX6_statement 66 = .ok (.aload_n 1, 1) := dk_43 (dk_at dksX6_statement_2 14 rfl rfl)
theorem dX6_statement_67 : decode cX6_statement 67 = .ok (.ldc 102, 2) := dk_18 102 (dk_at dksX6_statement_2 15 rfl rfl)
theorem dX6_statement_69 : decode cX6_statement 69 = .ok (.invokevirtual 98, 3) := dk_182 0 98 (dk_at dksX6_statement_2 17 rfl rfl)
theorem dX6_statement_72 : decode cX6_statement 72 = .ok (.ifCond .eq 33, 3) := dk_153 0 33 (dk_at dksX6_statement_2 20 rfl rfl)
theorem dX6_statement_75 : decode cX6_statement 75 = .ok (.iconst 1, 1) := dk_4 (dk_at dksX6_statement_2 23 rfl rfl)
theorem dX6_statement_76 : decode cX6_statement 76 = .ok (.istore_n 2, 1) := dk_61 (dk_at dksX6_statement_3 0 rfl rfl)
theorem dX6_statement_77 : decode cX6_statement 77 = .ok (.goto 28, 3) := dk_167 0 28 (dk_at dksX6_statement_3 1 rfl rfl)
theorem dX6_statement_80 : decode cX6_statement 80 = .ok (.aload_n 1, 1) := dk_43 (dk_at dksX6_statement_3 4 rfl rfl)
theorem dX6_statement_81 : decode cX6_statement 81 = .ok (.ldc 104, 2) := dk_18 104 (dk_at dksX6_statement_3 5 rfl rfl)
theorem dX6_statement_83 : decode cX6_statement 83 = .ok (.invokevirtual 98, 3) := dk_182 0 98 (dk_at dksX6_statement_3 7 rfl rfl)
theorem dX6_statement_86 : decode cX6_statement 86 = .ok (.ifCond .eq 19, 3) := dk_153 0 19 (dk_at dksX6_statement_3 10 rfl rfl)
theorem dX6_statement_89 : decode cX6_statement 89 = .ok (.iconst 2, 1) := dk_5 (dk_at dksX6_statement_3 13 rfl rfl)
theorem dX6_statement_90 : decode cX6_statement 90 = .ok (.istore_n 2, 1) := dk_61 (dk_at dksX6_statement_3 14 rfl rfl)
theorem dX6_statement_91 : decode cX6_statement 91 = .ok (.goto 14, 3) := dk_167 0 14 (dk_at dksX6_statement_3 15 rfl rfl)
theorem dX6_statement_94 : decode cX6_statement 94 = .ok (.aload_n 1, 1) := dk_43 (dk_at dksX6_statement_3 18 rfl rfl)
theorem dX6_statement_95 : decode cX6_statement 95 = .ok (.ldc 106, 2) := dk_18 106 (dk_at dksX6_statement_3 19 rfl rfl)
theorem dX6_statement_97 : decode cX6_statement 97 = .ok (.invokevirtual 98, 3) := dk_182 0 98 (dk_at dksX6_statement_3 21 rfl rfl)
theorem dX6_statement_100 : decode cX6_statement 100 = .ok (.ifCond .eq 5, 3) := dk_153 0 5 (dk_at dksX6_statement_4 0 rfl rfl)
theorem dX6_statement_103 : decode cX6_statement 103 = .ok (.iconst 3, 1) := dk_6 (dk_at dksX6_statement_4 3 rfl rfl)
theorem dX6_statement_104 : decode cX6_statement 104 = .ok (.istore_n 2, 1) := dk_61 (dk_at dksX6_statement_4 4 rfl rfl)
theorem dX6_statement_105 : decode cX6_statement 105 = .ok (.iload_n 2, 1) := dk_28 (dk_at dksX6_statement_4 5 rfl rfl)
theorem dX6_statement_106 : decode cX6_statement 106 = .ok (.tableswitch 293 0 3 #[30, 123, 198, 244], 30) := by decide +kernel
theorem dX6_statement_136 : decode cX6_statement 136 = .ok (.aload_n 0, 1) := dk_42 (dk_at dksX6_statement_6 0 rfl rfl)
theorem dX6_statement_137 : decode cX6_statement 137 = .ok (.aload_n 0, 1) := dk_42 (dk_at dksX6_statement_6 1 rfl rfl)
theorem dX6_statement_138 : decode cX6_statement 138 = .ok (.getfield 12, 3) := dk_180 0 12 (dk_at dksX6_statement_6 2 rfl rfl)
theorem dX6_statement_141 : decode cX6_statement 141 = .ok (.getfield 108, 3) := dk_180 0 108 (dk_at dksX6_statement_6 5 rfl rfl)
theorem dX6_statement_144 : decode cX6_statement 144 = .ok (.invokevirtual 112, 3) := dk_182 0 112 (dk_at dksX6_statement_6 8 rfl rfl)
theorem dX6_statement_147 : decode cX6_statement 147 = .ok (.bipush 20, 2) := dk_16 20 (dk_at dksX6_statement_6 11 rfl rfl)
theorem dX6_statement_149 : decode cX6_statement 149 = .ok (.if_icmp .ge 7, 3) := dk_162 0 7 (dk_at dksX6_statement_6 13 rfl rfl)
theorem dX6_statement_152 : decode cX6_statement 152 = .ok (.iconst 1, 1) := dk_4 (dk_at dksX6_statement_6 16 rfl rfl)
theorem dX6_statement_153 : decode cX6_statement 153 = .ok (.goto 4, 3) := dk_167 0 4 (dk_at dksX6_statement_6 17 rfl rfl)
theorem dX6_statement_156 : decode cX6_statement 156 = .ok (.iconst 0, 1) := dk_3 (dk_at dksX6_statement_6 20 rfl rfl)
theorem dX6_statement_157 : decode cX6_statement 157 = .ok (.invokevirtual 71, 3) := dk_182 0 71 (dk_at dksX6_statement_6 21 rfl rfl)
theorem dX6_statement_160 : decode cX6_statement 160 = .ok (.aload_n 0, 1) := dk_42 (dk_at dksX6_statement_7 0 rfl rfl)
theorem dX6_statement_161 : decode cX6_statement 161 = .ok (.invokevirtual 87, 3) := dk_182 0 87 (dk_at dksX6_statement_7 1 rfl rfl)
theorem dX6_statement_164 : decode cX6_statement 164 = .ok (.aload_n 0, 1) := dk_42 (dk_at dksX6_statement_7 4 rfl rfl)
theorem dX6_statement_165 : decode cX6_statement 165 = .ok (.aload_n 0, 1) := dk_42 (dk_at dksX6_statement_7 5 rfl rfl)
theorem dX6_statement_166 : decode cX6_statement 166 = .ok (.getfield 20, 3) := dk_180 0 20 (dk_at dksX6_statement_7 6 rfl rfl)
theorem dX6_statement_169 : decode cX6_statement 169 = .ok (.bipush 12, 2) := dk_16 12 (dk_at dksX6_statement_7 9 rfl rfl)
theorem dX6_statement_171 : decode cX6_statement 171 = .ok (.invokestatic 117, 3) := dk_184 0 117 (dk_at dksX6_statement_7 11 rfl rfl)
theorem dX6_statement_174 : decode cX6_statement 174 = .ok (.ifCond .eq 22, 3) := dk_153 0 22 (dk_at dksX6_statement_7 14 rfl rfl)
theorem dX6_statement_177 : decode cX6_statement 177 = .ok (.aload_n 0, 1) := dk_42 (dk_at dksX6_statement_7 17 rfl rfl)
theorem dX6_statement_178 : decode cX6_statement 178 = .ok (.getfield 12, 3) := dk_180 0 12 (dk_at dksX6_statement_7 18 rfl rfl)
theorem dX6_statement_181 : decode cX6_statement 181 = .ok (.aload_n 0, 1) := dk_42 (dk_at dksX6_statement_7 21 rfl rfl)
theorem dX6_statement_182 : decode cX6_statement 182 = .ok (.getfield 20, 3) := dk_180 0 20 (dk_at dksX6_statement_8 0 rfl rfl)
theorem dX6_statement_185 : decode cX6_statement 185 = .ok (.invokevirtual 121, 3) := dk_182 0 121 (dk_at dksX6_statement_8 3 rfl rfl)
theorem dX6_statement_188 : decode cX6_statement 188 = .ok (.iconst (-1), 1) := dk_2 (dk_at dksX6_statement_8 6 rfl rfl)
theorem dX6_statement_189 : decode cX6_statement 189 = .ok (.if_icmp .ne 7, 3) := dk_160 0 7 (dk_at dksX6_statement_8 7 rfl rfl)
theorem dX6_statement_192 : decode cX6_statement 192 = .ok (.iconst 1, 1) := dk_4 (dk_at dksX6_statement_8 10 rfl rfl)
theorem dX6_statement_193 : decode cX6_statement 193 = .ok (.goto 4, 3) := dk_167 0 4 (dk_at dksX6_statement_8 11 rfl rfl)
theorem dX6_statement_196 : decode cX6_statement 196 = .ok (.iconst 0, 1) := dk_3 (dk_at dksX6_statement_8 14 rfl rfl)
theorem dX6_statement_197 : decode cX6_statement 197 = .ok (.invokevirtual 71, 3) := dk_182 0 71 (dk_at dksX6_statement_8 15 rfl rfl)
theorem dX6_statement_200 : decode cX6_statement 200 = .ok (.aload_n 0, 1) := dk_42 (dk_at dksX6_statement_8 18 rfl rfl)
theorem dX6_statement_201 : decode cX6_statement 201 = .ok (.getfield 12, 3) := dk_180 0 12 (dk_at dksX6_statement_8 19 rfl rfl)
theorem dX6_statement_204 : decode cX6_statement 204 = .ok (.getfield 108, 3) := dk_180 0 108 (dk_at dksX6_statement_9 0 rfl rfl)
theorem dX6_statement_207 : decode cX6_statement 207 = .ok (.new 125, 3) := dk_187 0 125 (dk_at dksX6_statement_9 3 rfl rfl)
theorem dX6_statement_210 : decode cX6_statement 210 = .ok (.dup, 1) := dk_89 (dk_at dksX6_statement_9 6 rfl rfl)
theorem dX6_statement_211 : decode cX6_statement 211 = .ok (.aload_n 0, 1) := dk_42 (dk_at dksX6_statement_9 7 rfl rfl)
theorem dX6_statement_212 : decode cX6_statement 212 = .ok (.getfield 20, 3) := dk_180 0 20 (dk_at dksX6_statement_9 8 rfl rfl)
theorem dX6_statement_215 : decode cX6_statement 215 = .ok (.invokespecial 127, 3) := dk_183 0 127 (dk_at dksX6_statement_9 11 rfl rfl)
theorem dX6_statement_218 : decode cX6_statement 218 = .ok (.invokevirtual 130, 3) := dk_182 0 130 (dk_at dksX6_statement_9 14 rfl rfl)
theorem dX6_statement_221 : decode cX6_statement 221 = .ok (.pop, 1) := dk_87 (dk_at dksX6_statement_9 17 rfl rfl)
theorem dX6_statement_222 : decode cX6_statement 222 = .ok (.aload_n 0, 1) := dk_42 (dk_at dksX6_statement_9 18 rfl rfl)
theorem dX6_statement_223 : decode cX6_statement 223 = .ok (.invokevirtual 87, 3) := dk_182 0 87 (dk_at dksX6_statement_9 19 rfl rfl)
theorem dX6_statement_226 : decode cX6_statement 226 = .ok (.goto 178, 3) := dk_167 0 178 (dk_at dksX6_statement_10 0 rfl rfl)
theorem dX6_statement_229 : decode cX6_statement 229 = .ok (.aload_n 0, 1) := dk_42 (dk_at dksX6_statement_10 3 rfl rfl)
theorem dX6_statement_230 : decode cX6_statement 230 = .ok (.invokevirtual 87, 3) := dk_182 0 87 (dk_at dksX6_statement_10 4 rfl rfl)
theorem dX6_statement_233 : decode cX6_statement 233 = .ok (.aload_n 0, 1) := dk_42 (dk_at dksX6_statement_10 7 rfl rfl)
theorem dX6_statement_234 : decode cX6_statement 234 = .ok (.aload_n 0, 1) := dk_42 (dk_at dksX6_statement_10 8 rfl rfl)
theorem dX6_statement_235 : decode cX6_statement 235 = .ok (.getfield 20, 3) := dk_180 0 20 (dk_at dksX6_statement_10 9 rfl rfl)
theorem dX6_statement_238 : decode cX6_statement 238 = .ok (.bipush 12, 2) := dk_16 12 (dk_at dksX6_statement_10 12 rfl rfl)
theorem dX6_statement_240 : decode cX6_statement 240 = .ok (.invokestatic 117, 3) := dk_184 0 117 (dk_at dksX6_statement_10 14 rfl rfl)
theorem dX6_statement_243 : decode cX6_statement 243 = .ok (.ifCond .eq 22, 3) := dk_153 0 22 (dk_at dksX6_statement_10 17 rfl rfl)
theorem dX6_statement_246 : decode cX6_statement 246 = .ok (.aload_n 0, 1) := dk_42 (dk_at dksX6_statement_10 20 rfl rfl)
theorem dX6_statement_247 : decode cX6_statement 247 = .ok (.getfield 12, 3) := dk_180 0 12 (dk_at dksX6_statement_10 21 rfl rfl)
theorem dX6_statement_250 : decode cX6_statement 250 = .ok (.aload_n 0, 1) := dk_42 (dk_at dksX6_statement_11 0 rfl rfl)
theorem dX6_statement_251 : decode cX6_statement 251 = .ok (.getfield 20, 3) := dk_180 0 20 (dk_at dksX6_statement_11 1 rfl rfl)
theorem dX6_statement_254 : decode cX6_statement 254 = .ok (.invokevirtual 121, 3) := dk_182 0 121 (dk_at dksX6_statement_11 4 rfl rfl)
theorem dX6_statement_257 : decode cX6_statement 257 = .ok (.iconst (-1), 1) := dk_2 (dk_at dksX6_statement_11 7 rfl rfl)
theorem dX6_statement_258 : decode cX6_statement 258 = .ok (.if_icmp .eq 7, 3) := dk_159 0 7 (dk_at dksX6_statement_11 8 rfl rfl)
theorem dX6_statement_261 : decode cX6_statement 261 = .ok (.iconst 1, 1) := dk_4 (dk_at dksX6_statement_11 11 rfl rfl)
theorem dX6_statement_262 : decode cX6_statement 262 = .ok (.goto 4, 3) := dk_167 0 4 (dk_at dksX6_statement_11 12 rfl rfl)
theorem dX6_statement_265 : decode cX6_statement 265 = .ok (.iconst 0, 1) := dk_3 (dk_at dksX6_statement_11 15 rfl rfl)
theorem dX6_statement_266 : decode cX6_statement 266 = .ok (.invokevirtual 71, 3) := dk_182 0 71 (dk_at dksX6_statement_11 16 rfl rfl)
theorem dX6_statement_269 : decode cX6_statement 269 = .ok (.aload_n 0, 1) := dk_42 (dk_at dksX6_statement_11 19 rfl rfl)
theorem dX6_statement_270 : decode cX6_statement 270 = .ok (.getfield 12, 3) := dk_180 0 12 (dk_at dksX6_statement_11 20 rfl rfl)
theorem dX6_statement_273 : decode cX6_statement 273 = .ok (.getfield 108, 3) := dk_180 0 108 (dk_at dksX6_statement_12 0 rfl rfl)
theorem dX6_statement_276 : decode cX6_statement 276 = .ok (.aload_n 0, 1) := dk_42 (dk_at dksX6_statement_12 3 rfl rfl)
theorem dX6_statement_277 : decode cX6_statement 277 = .ok (.getfield 12, 3) := dk_180 0 12 (dk_at dksX6_statement_12 4 rfl rfl)
theorem dX6_statement_280 : decode cX6_statement 280 = .ok (.aload_n 0, 1) := dk_42 (dk_at dksX6_statement_12 7 rfl rfl)
theorem dX6_statement_281 : decode cX6_statement 281 = .ok (.getfield 20, 3) := dk_180 0 20 (dk_at dksX6_statement_12 8 rfl rfl)
theorem dX6_statement_284 : decode cX6_statement 284 = .ok (.invokevirtual 121, 3) := dk_182 0 121 (dk_at dksX6_statement_12 11 rfl rfl)
theorem dX6_statement_287 : decode cX6_statement 287 = .ok (.invokevirtual 133, 3) := dk_182 0 133 (dk_at dksX6_statement_12 14 rfl rfl)
theorem dX6_statement_290 : decode cX6_statement 290 = .ok (.checkcast 125, 3) := dk_192 0 125 (dk_at dksX6_statement_12 17 rfl rfl)
theorem dX6_statement_293 : decode cX6_statement 293 = .ok (.iconst 1, 1) := dk_4 (dk_at dksX6_statement_12 20 rfl rfl)
theorem dX6_statement_294 : decode cX6_statement 294 = .ok (.putfield 137, 3) := dk_181 0 137 (dk_at dksX6_statement_12 21 rfl rfl)
theorem dX6_statement_297 : decode cX6_statement 297 = .ok (.aload_n 0, 1) := dk_42 (dk_at dksX6_statement_13 0 rfl rfl)
theorem dX6_statement_298 : decode cX6_statement 298 = .ok (.invokevirtual 87, 3) := dk_182 0 87 (dk_at dksX6_statement_13 1 rfl rfl)
theorem dX6_statement_301 : decode cX6_statement 301 = .ok (.goto 103, 3) := dk_167 0 103 (dk_at dksX6_statement_13 4 rfl rfl)
theorem dX6_statement_304 : decode cX6_statement 304 = .ok (.aload_n 0, 1) := dk_42 (dk_at dksX6_statement_13 7 rfl rfl)
theorem dX6_statement_305 : decode cX6_statement 305 = .ok (.aload_n 0, 1) := dk_42 (dk_at dksX6_statement_13 8 rfl rfl)
theorem dX6_statement_306 : decode cX6_statement 306 = .ok (.getfield 12, 3) := dk_180 0 12 (dk_at dksX6_statement_13 9 rfl rfl)
theorem dX6_statement_309 : decode cX6_statement 309 = .ok (.getfield 141, 3) := dk_180 0 141 (dk_at dksX6_statement_13 12 rfl rfl)
theorem dX6_statement_312 : decode cX6_statement 312 = .ok (.invokevirtual 112, 3) := dk_182 0 112 (dk_at dksX6_statement_13 15 rfl rfl)
theorem dX6_statement_315 : decode cX6_statement 315 = .ok (.bipush 8, 2) := dk_16 8 (dk_at dksX6_statement_13 18 rfl rfl)
theorem dX6_statement_317 : decode cX6_statement 317 = .ok (.if_icmp .ge 7, 3) := dk_162 0 7 (dk_at dksX6_statement_13 20 rfl rfl)
theorem dX6_statement_320 : decode cX6_statement 320 = .ok (.iconst 1, 1) := dk_4 (dk_at dksX6_statement_13 23 rfl rfl)
theorem dX6_statement_321 : decode cX6_statement 321 = .ok (.goto 4, 3) := dk_167 0 4 (dk_at dksX6_statement_14 0 rfl rfl)
theorem dX6_statement_324 : decode cX6_statement 324 = .ok (.iconst 0, 1) := dk_3 (dk_at dksX6_statement_14 3 rfl rfl)
theorem dX6_statement_325 : decode cX6_statement 325 = .ok (.invokevirtual 71, 3) := dk_182 0 71 (dk_at dksX6_statement_14 4 rfl rfl)
theorem dX6_statement_328 : decode cX6_statement 328 = .ok (.aload_n 0, 1) := dk_42 (dk_at dksX6_statement_14 7 rfl rfl)
theorem dX6_statement_329 : decode cX6_statement 329 = .ok (.invokevirtual 87, 3) := dk_182 0 87 (dk_at dksX6_statement_14 8 rfl rfl)
theorem dX6_statement_332 : decode cX6_statement 332 = .ok (.aload_n 0, 1) := dk_42 (dk_at dksX6_statement_14 11 rfl rfl)
theorem dX6_statement_333 : decode cX6_statement 333 = .ok (.getfield 12, 3) := dk_180 0 12 (dk_at dksX6_statement_14 12 rfl rfl)
theorem dX6_statement_336 : decode cX6_statement 336 = .ok (.getfield 141, 3) := dk_180 0 141 (dk_at dksX6_statement_14 15 rfl rfl)
theorem dX6_statement_339 : decode cX6_statement 339 = .ok (.aload_n 0, 1) := dk_42 (dk_at dksX6_statement_14 18 rfl rfl)
theorem dX6_statement_340 : decode cX6_statement 340 = .ok (.invokevirtual 144, 3) := dk_182 0 144 (dk_at dksX6_statement_14 19 rfl rfl)
theorem dX6_statement_343 : decode cX6_statement 343 = .ok (.invokevirtual 130, 3) := dk_182 0 130 (dk_at dksX6_statement_15 0 rfl rfl)
theorem dX6_statement_346 : decode cX6_statement 346 = .ok (.pop, 1) := dk_87 (dk_at dksX6_statement_15 3 rfl rfl)
theorem dX6_statement_347 : decode cX6_statement 347 = .ok (.goto 57, 3) := dk_167 0 57 (dk_at dksX6_statement_15 4 rfl rfl)
theorem dX6_statement_350 : decode cX6_statement 350 = .ok (.aload_n 0, 1) := dk_42 (dk_at dksX6_statement_15 7 rfl rfl)
theorem dX6_statement_351 : decode cX6_statement 351 = .ok (.invokevirtual 87, 3) := dk_182 0 87 (dk_at dksX6_statement_15 8 rfl rfl)
theorem dX6_statement_354 : decode cX6_statement 354 = .ok (.aload_n 0, 1) := dk_42 (dk_at dksX6_statement_15 11 rfl rfl)
theorem dX6_statement_355 : decode cX6_statement 355 = .ok (.getfield 12, 3) := dk_180 0 12 (dk_at dksX6_statement_15 12 rfl rfl)
theorem dX6_statement_358 : decode cX6_statement 358 = .ok (.aload_n 0, 1) := dk_42 (dk_at dksX6_statement_15 15 rfl rfl)
theorem dX6_statement_359 : decode cX6_statement 359 = .ok (.iconst 0, 1) := dk_3 (dk_at dksX6_statement_15 16 rfl rfl)
theorem dX6_statement_360 : decode cX6_statement 360 = .ok (.sipush 999, 3) := dk_17 3 231 (dk_at dksX6_statement_15 17 rfl rfl)
theorem dX6_statement_363 : decode cX6_statement 363 = .ok (.invokevirtual 147, 3) := dk_182 0 147 (dk_at dksX6_statement_15 20 rfl rfl)
theorem dX6_statement_366 : decode cX6_statement 366 = .ok (.putfield 151, 3) := dk_181 0 151 (dk_at dksX6_statement_16 0 rfl rfl)
theorem dX6_statement_369 : decode cX6_statement 369 = .ok (.aload_n 0, 1) := dk_42 (dk_at dksX6_statement_16 3 rfl rfl)
theorem dX6_statement_370 : decode cX6_statement 370 = .ok (.getfield 12, 3) := dk_180 0 12 (dk_at dksX6_statement_16 4 rfl rfl)
theorem dX6_statement_373 : decode cX6_statement 373 = .ok (.aload_n 0, 1) := dk_42 (dk_at dksX6_statement_16 7 rfl rfl)
theorem dX6_statement_374 : decode cX6_statement 374 = .ok (.iconst 1, 1) := dk_4 (dk_at dksX6_statement_16 8 rfl rfl)
theorem dX6_statement_375 : decode cX6_statement 375 = .ok (.bipush 99, 2) := dk_16 99 (dk_at dksX6_statement_16 9 rfl rfl)
theorem dX6_statement_377 : decode cX6_statement 377 = .ok (.invokevirtual 147, 3) := dk_182 0 147 (dk_at dksX6_statement_16 11 rfl rfl)
theorem dX6_statement_380 : decode cX6_statement 380 = .ok (.putfield 152, 3) := dk_181 0 152 (dk_at dksX6_statement_16 14 rfl rfl)
theorem dX6_statement_383 : decode cX6_statement 383 = .ok (.aload_n 0, 1) := dk_42 (dk_at dksX6_statement_16 17 rfl rfl)
theorem dX6_statement_384 : decode cX6_statement 384 = .ok (.getfield 12, 3) := dk_180 0 12 (dk_at dksX6_statement_16 18 rfl rfl)
theorem dX6_statement_387 : decode cX6_statement 387 = .ok (.aload_n 0, 1) := dk_42 (dk_at dksX6_statement_16 21 rfl rfl)
theorem dX6_statement_388 : decode cX6_statement 388 = .ok (.iconst 1, 1) := dk_4 (dk_at dksX6_statement_16 22 rfl rfl)
theorem dX6_statement_389 : decode cX6_statement 389 = .ok (.iconst 4, 1) := dk_7 (dk_at dksX6_statement_16 23 rfl rfl)
theorem dX6_statement_390 : decode cX6_statement 390 = .ok (.invokevirtual 147, 3) := dk_182 0 147 (dk_at dksX6_statement_17 0 rfl rfl)
theorem dX6_statement_393 : decode cX6_statement 393 = .ok (.putfield 155, 3) := dk_181 0 155 (dk_at dksX6_statement_17 3 rfl rfl)
theorem dX6_statement_396 : decode cX6_statement 396 = .ok (.goto 8, 3) := dk_167 0 8 (dk_at dksX6_statement_17 6 rfl rfl)
theorem dX6_statement_399 : decode cX6_statement 399 = .ok (.aload_n 0, 1) := dk_42 (dk_at dksX6_statement_17 9 rfl rfl)
theorem dX6_statement_400 : decode cX6_statement 400 = .ok (.iconst 0, 1) := dk_3 (dk_at dksX6_statement_17 10 rfl rfl)
theorem dX6_statement_401 : decode cX6_statement 401 = .ok (.invokevirtual 71, 3) := dk_182 0 71 (dk_at dksX6_statement_17 11 rfl rfl)
theorem dX6_statement_404 : decode cX6_statement 404 = .ok (.return_, 1) := dk_177 (dk_at dksX6_statement_17 14 rfl rfl)
abbrev cX6_require : ByteArray := prog_8_method_5_code
def yX6_require : MethodName := ⟨RX6, "require", "(Z)V"⟩
def dkwX6_require_0 : List UInt8 := [27, 154, 0, 15, 187, 0, 60, 89, 42, 180, 0, 39, 183, 0, 62, 191, 177]
abbrev dktX6_require_0 : List UInt8 := dkwX6_require_0 ++ []
theorem dksX6_require_0 : cX6_require.data.toList.drop 0 = dktX6_require_0 := by decide +kernel
theorem dX6_require_0 : decode cX6_require 0 = .ok (.iload_n 1, 1) := dk_27 (dk_at dksX6_require_0 0 rfl rfl)
theorem dX6_require_1 : decode cX6_require 1 = .ok (.ifCond .ne 15, 3) := dk_154 0 15 (dk_at dksX6_require_0 1 rfl rfl)
theorem dX6_require_4 : decode cX6_require 4 = .ok (.new 60, 3) := dk_187 0 60 (dk_at dksX6_require_0 4 rfl rfl)
theorem dX6_require_7 : decode cX6_require 7 = .ok (.dup, 1) := dk_89 (dk_at dksX6_require_0 7 rfl rfl)
theorem dX6_require_8 : decode cX6_require 8 = .ok (.aload_n 0, 1) := dk_42 (dk_at dksX6_require_0 8 rfl rfl)
theorem dX6_require_9 : decode cX6_require 9 = .ok (.getfield 39, 3) := dk_180 0 39 (dk_at dksX6_require_0 9 rfl rfl)
theorem dX6_require_12 : decode cX6_require 12 = .ok (.invokespecial 62, 3) := dk_183 0 62 (dk_at dksX6_require_0 12 rfl rfl)
theorem dX6_require_15 : decode cX6_require 15 = .ok (.athrow, 1) := dk_191 (dk_at dksX6_require_0 15 rfl rfl)
theorem dX6_require_16 : decode cX6_require 16 = .ok (.return_, 1) := dk_177 (dk_at dksX6_require_0 16 rfl rfl)
abbrev cX6_rule : ByteArray := prog_8_method_10_code
def yX6_rule : MethodName := ⟨RX6, "rule", "()LBatchRenamer$Rule;"⟩
def dkwX6_rule_4 : List UInt8 := [181, 0, 177, 43, 176]
abbrev dktX6_rule_4 : List UInt8 := dkwX6_rule_4 ++ []
def dkwX6_rule_3 : List UInt8 := [182, 0, 98, 153, 0, 22, 42, 182, 0, 87, 43, 42, 4, 43, 180, 0, 174, 182, 0, 147, 4, 100]
abbrev dktX6_rule_3 : List UInt8 := dkwX6_rule_3 ++ dktX6_rule_4
def dkwX6_rule_2 : List UInt8 := [182, 0, 168, 153, 0, 7, 4, 167, 0, 4, 3, 182, 0, 71, 42, 182, 0, 87, 42, 180, 0, 20, 18, 172]
abbrev dktX6_rule_2 : List UInt8 := dkwX6_rule_2 ++ dktX6_rule_3
def dkwX6_rule_1 : List UInt8 := [42, 42, 180, 0, 20, 182, 0, 65, 133, 10, 20, 0, 166, 184, 0, 83, 153, 0, 18, 43, 42, 180, 0, 20]
abbrev dktX6_rule_1 : List UInt8 := dkwX6_rule_1 ++ dktX6_rule_2
def dkwX6_rule_0 : List UInt8 := [42, 42, 182, 0, 160, 182, 0, 71, 187, 0, 163, 89, 42, 180, 0, 20, 183, 0, 165, 76, 42, 182, 0, 87]
abbrev dktX6_rule_0 : List UInt8 := dkwX6_rule_0 ++ dktX6_rule_1
theorem dksX6_rule_0 : cX6_rule.data.toList.drop 0 = dktX6_rule_0 := by decide +kernel
theorem dksX6_rule_1 : cX6_rule.data.toList.drop 24 = dktX6_rule_1 := dk_seg dksX6_rule_0 24 rfl rfl
theorem dksX6_rule_2 : cX6_rule.data.toList.drop 48 = dktX6_rule_2 := dk_seg dksX6_rule_1 24 rfl rfl
theorem dksX6_rule_3 : cX6_rule.data.toList.drop 72 = dktX6_rule_3 := dk_seg dksX6_rule_2 24 rfl rfl
theorem dksX6_rule_4 : cX6_rule.data.toList.drop 94 = dktX6_rule_4 := dk_seg dksX6_rule_3 22 rfl rfl
theorem dX6_rule_0 : decode cX6_rule 0 = .ok (.aload_n 0, 1) := dk_42 (dk_at dksX6_rule_0 0 rfl rfl)
theorem dX6_rule_1 : decode cX6_rule 1 = .ok (.aload_n 0, 1) := dk_42 (dk_at dksX6_rule_0 1 rfl rfl)
theorem dX6_rule_2 : decode cX6_rule 2 = .ok (.invokevirtual 160, 3) := dk_182 0 160 (dk_at dksX6_rule_0 2 rfl rfl)
theorem dX6_rule_5 : decode cX6_rule 5 = .ok (.invokevirtual 71, 3) := dk_182 0 71 (dk_at dksX6_rule_0 5 rfl rfl)
theorem dX6_rule_8 : decode cX6_rule 8 = .ok (.new 163, 3) := dk_187 0 163 (dk_at dksX6_rule_0 8 rfl rfl)
theorem dX6_rule_11 : decode cX6_rule 11 = .ok (.dup, 1) := dk_89 (dk_at dksX6_rule_0 11 rfl rfl)
theorem dX6_rule_12 : decode cX6_rule 12 = .ok (.aload_n 0, 1) := dk_42 (dk_at dksX6_rule_0 12 rfl rfl)
theorem dX6_rule_13 : decode cX6_rule 13 = .ok (.getfield 20, 3) := dk_180 0 20 (dk_at dksX6_rule_0 13 rfl rfl)
theorem dX6_rule_16 : decode cX6_rule 16 = .ok (.invokespecial 165, 3) := dk_183 0 165 (dk_at dksX6_rule_0 16 rfl rfl)
theorem dX6_rule_19 : decode cX6_rule 19 = .ok (.astore_n 1, 1) := dk_76 (dk_at dksX6_rule_0 19 rfl rfl)
theorem dX6_rule_20 : decode cX6_rule 20 = .ok (.aload_n 0, 1) := dk_42 (dk_at dksX6_rule_0 20 rfl rfl)
theorem dX6_rule_21 : decode cX6_rule 21 = .ok (.invokevirtual 87, 3) := dk_182 0 87 (dk_at dksX6_rule_0 21 rfl rfl)
theorem dX6_rule_24 : decode cX6_rule 24 = .ok (.aload_n 0, 1) := dk_42 (dk_at dksX6_rule_1 0 rfl rfl)
theorem dX6_rule_25 : decode cX6_rule 25 = .ok (.aload_n 0, 1) := dk_42 (dk_at dksX6_rule_1 1 rfl rfl)
theorem dX6_rule_26 : decode cX6_rule 26 = .ok (.getfield 20, 3) := dk_180 0 20 (dk_at dksX6_rule_1 2 rfl rfl)
theorem dX6_rule_29 : decode cX6_rule 29 = .ok (.invokevirtual 65, 3) := dk_182 0 65 (dk_at dksX6_rule_1 5 rfl rfl)
theorem dX6_rule_32 : decode cX6_rule 32 = .ok (.i2l, 1) := dk_133 (dk_at dksX6_rule_1 8 rfl rfl)
theorem dX6_rule_33 : decode cX6_rule 33 = .ok (.lconst 1, 1) := dk_10 (dk_at dksX6_rule_1 9 rfl rfl)
theorem dX6_rule_34 : decode cX6_rule 34 = .ok (.ldc2_w 166, 3) := dk_20 0 166 (dk_at dksX6_rule_1 10 rfl rfl)
theorem dX6_rule_37 : decode cX6_rule 37 = .ok (.invokestatic 83, 3) := dk_184 0 83 (dk_at dksX6_rule_1 13 rfl rfl)
theorem dX6_rule_40 : decode cX6_rule 40 = .ok (.ifCond .eq 18, 3) := dk_153 0 18 (dk_at dksX6_rule_1 16 rfl rfl)
theorem dX6_rule_43 : decode cX6_rule 43 = .ok (.aload_n 1, 1) := dk_43 (dk_at dksX6_rule_1 19 rfl rfl)
theorem dX6_rule_44 : decode cX6_rule 44 = .ok (.aload_n 0, 1) := dk_42 (dk_at dksX6_rule_1 20 rfl rfl)
theorem dX6_rule_45 : decode cX6_rule 45 = .ok (.getfield 20, 3) := dk_180 0 20 (dk_at dksX6_rule_1 21 rfl rfl)
theorem dX6_rule_48 : decode cX6_rule 48 = .ok (.invokevirtual 168, 3) := dk_182 0 168 (dk_at dksX6_rule_2 0 rfl rfl)
theorem dX6_rule_51 : decode cX6_rule 51 = .ok (.ifCond .eq 7, 3) := dk_153 0 7 (dk_at dksX6_rule_2 3 rfl rfl)
theorem dX6_rule_54 : decode cX6_rule 54 = .ok (.iconst 1, 1) := dk_4 (dk_at dksX6_rule_2 6 rfl rfl)
theorem dX6_rule_55 : decode cX6_rule 55 = .ok (.goto 4, 3) := dk_167 0 4 (dk_at dksX6_rule_2 7 rfl rfl)
theorem dX6_rule_58 : decode cX6_rule 58 = .ok (.iconst 0, 1) := dk_3 (dk_at dksX6_rule_2 10 rfl rfl)
theorem dX6_rule_59 : decode cX6_rule 59 = .ok (.invokevirtual 71, 3) := dk_182 0 71 (dk_at dksX6_rule_2 11 rfl rfl)
theorem dX6_rule_62 : decode cX6_rule 62 = .ok (.aload_n 0, 1) := dk_42 (dk_at dksX6_rule_2 14 rfl rfl)
theorem dX6_rule_63 : decode cX6_rule 63 = .ok (.invokevirtual 87, 3) := dk_182 0 87 (dk_at dksX6_rule_2 15 rfl rfl)
theorem dX6_rule_66 : decode cX6_rule 66 = .ok (.aload_n 0, 1) := dk_42 (dk_at dksX6_rule_2 18 rfl rfl)
theorem dX6_rule_67 : decode cX6_rule 67 = .ok (.getfield 20, 3) := dk_180 0 20 (dk_at dksX6_rule_2 19 rfl rfl)
theorem dX6_rule_70 : decode cX6_rule 70 = .ok (.ldc 172, 2) := dk_18 172 (dk_at dksX6_rule_2 22 rfl rfl)
theorem dX6_rule_72 : decode cX6_rule 72 = .ok (.invokevirtual 98, 3) := dk_182 0 98 (dk_at dksX6_rule_3 0 rfl rfl)
theorem dX6_rule_75 : decode cX6_rule 75 = .ok (.ifCond .eq 22, 3) := dk_153 0 22 (dk_at dksX6_rule_3 3 rfl rfl)
theorem dX6_rule_78 : decode cX6_rule 78 = .ok (.aload_n 0, 1) := dk_42 (dk_at dksX6_rule_3 6 rfl rfl)
theorem dX6_rule_79 : decode cX6_rule 79 = .ok (.invokevirtual 87, 3) := dk_182 0 87 (dk_at dksX6_rule_3 7 rfl rfl)
theorem dX6_rule_82 : decode cX6_rule 82 = .ok (.aload_n 1, 1) := dk_43 (dk_at dksX6_rule_3 10 rfl rfl)
theorem dX6_rule_83 : decode cX6_rule 83 = .ok (.aload_n 0, 1) := dk_42 (dk_at dksX6_rule_3 11 rfl rfl)
theorem dX6_rule_84 : decode cX6_rule 84 = .ok (.iconst 1, 1) := dk_4 (dk_at dksX6_rule_3 12 rfl rfl)
theorem dX6_rule_85 : decode cX6_rule 85 = .ok (.aload_n 1, 1) := dk_43 (dk_at dksX6_rule_3 13 rfl rfl)
theorem dX6_rule_86 : decode cX6_rule 86 = .ok (.getfield 174, 3) := dk_180 0 174 (dk_at dksX6_rule_3 14 rfl rfl)
theorem dX6_rule_89 : decode cX6_rule 89 = .ok (.invokevirtual 147, 3) := dk_182 0 147 (dk_at dksX6_rule_3 17 rfl rfl)
theorem dX6_rule_92 : decode cX6_rule 92 = .ok (.iconst 1, 1) := dk_4 (dk_at dksX6_rule_3 20 rfl rfl)
theorem dX6_rule_93 : decode cX6_rule 93 = .ok (.isub, 1) := dk_100 (dk_at dksX6_rule_3 21 rfl rfl)
theorem dX6_rule_94 : decode cX6_rule 94 = .ok (.putfield 177, 3) := dk_181 0 177 (dk_at dksX6_rule_4 0 rfl rfl)
theorem dX6_rule_97 : decode cX6_rule 97 = .ok (.aload_n 1, 1) := dk_43 (dk_at dksX6_rule_4 3 rfl rfl)
theorem dX6_rule_98 : decode cX6_rule 98 = .ok (.areturn, 1) := dk_176 (dk_at dksX6_rule_4 4 rfl rfl)
abbrev cX6_isPattern : ByteArray := prog_8_method_9_code
def yX6_isPattern : MethodName := ⟨RX6, "isPattern", "()Z"⟩
def dkwX6_isPattern_3 : List UInt8 := [184, 0, 83, 153, 0, 12, 27, 7, 163, 0, 7, 4, 167, 0, 4, 3, 172]
abbrev dktX6_isPattern_3 : List UInt8 := dkwX6_isPattern_3 ++ []
def dkwX6_isPattern_2 : List UInt8 := [167, 0, 4, 4, 96, 60, 132, 2, 1, 167, 255, 205, 42, 180, 0, 20, 182, 0, 65, 133, 10, 20, 0, 158]
abbrev dktX6_isPattern_2 : List UInt8 := dkwX6_isPattern_2 ++ dktX6_isPattern_3
def dkwX6_isPattern_1 : List UInt8 := [16, 37, 160, 0, 5, 3, 172, 27, 42, 180, 0, 20, 28, 182, 0, 75, 184, 0, 32, 153, 0, 7, 3]
abbrev dktX6_isPattern_1 : List UInt8 := dkwX6_isPattern_1 ++ dktX6_isPattern_2
def dkwX6_isPattern_0 : List UInt8 := [3, 60, 3, 61, 28, 42, 180, 0, 20, 182, 0, 65, 162, 0, 46, 42, 180, 0, 20, 28, 182, 0, 75]
abbrev dktX6_isPattern_0 : List UInt8 := dkwX6_isPattern_0 ++ dktX6_isPattern_1
theorem dksX6_isPattern_0 : cX6_isPattern.data.toList.drop 0 = dktX6_isPattern_0 := by decide +kernel
theorem dksX6_isPattern_1 : cX6_isPattern.data.toList.drop 23 = dktX6_isPattern_1 := dk_seg dksX6_isPattern_0 23 rfl rfl
theorem dksX6_isPattern_2 : cX6_isPattern.data.toList.drop 46 = dktX6_isPattern_2 := dk_seg dksX6_isPattern_1 23 rfl rfl
theorem dksX6_isPattern_3 : cX6_isPattern.data.toList.drop 70 = dktX6_isPattern_3 := dk_seg dksX6_isPattern_2 24 rfl rfl
theorem dX6_isPattern_0 : decode cX6_isPattern 0 = .ok (.iconst 0, 1) := dk_3 (dk_at dksX6_isPattern_0 0 rfl rfl)
theorem dX6_isPattern_1 : decode cX6_isPattern 1 = .ok (.istore_n 1, 1) := dk_60 (dk_at dksX6_isPattern_0 1 rfl rfl)
theorem dX6_isPattern_2 : decode cX6_isPattern 2 = .ok (.iconst 0, 1) := dk_3 (dk_at dksX6_isPattern_0 2 rfl rfl)
theorem dX6_isPattern_3 : decode cX6_isPattern 3 = .ok (.istore_n 2, 1) := dk_61 (dk_at dksX6_isPattern_0 3 rfl rfl)
theorem dX6_isPattern_4 : decode cX6_isPattern 4 = .ok (.iload_n 2, 1) := dk_28 (dk_at dksX6_isPattern_0 4 rfl rfl)
theorem dX6_isPattern_5 : decode cX6_isPattern 5 = .ok (.aload_n 0, 1) := dk_42 (dk_at dksX6_isPattern_0 5 rfl rfl)
theorem dX6_isPattern_6 : decode cX6_isPattern 6 = .ok (.getfield 20, 3) := dk_180 0 20 (dk_at dksX6_isPattern_0 6 rfl rfl)
theorem dX6_isPattern_9 : decode cX6_isPattern 9 = .ok (.invokevirtual 65, 3) := dk_182 0 65 (dk_at dksX6_isPattern_0 9 rfl rfl)
theorem dX6_isPattern_12 : decode cX6_isPattern 12 = .ok (.if_icmp .ge 46, 3) := dk_162 0 46 (dk_at dksX6_isPattern_0 12 rfl rfl)
theorem dX6_isPattern_15 : decode cX6_isPattern 15 = .ok (.aload_n 0, 1) := dk_42 (dk_at dksX6_isPattern_0 15 rfl rfl)
theorem dX6_isPattern_16 : decode cX6_isPattern 16 = .ok (.getfield 20, 3) := dk_180 0 20 (dk_at dksX6_isPattern_0 16 rfl rfl)
theorem dX6_isPattern_19 : decode cX6_isPattern 19 = .ok (.iload_n 2, 1) := dk_28 (dk_at dksX6_isPattern_0 19 rfl rfl)
theorem dX6_isPattern_20 : decode cX6_isPattern 20 = .ok (.invokevirtual 75, 3) := dk_182 0 75 (dk_at dksX6_isPattern_0 20 rfl rfl)
theorem dX6_isPattern_23 : decode cX6_isPattern 23 = .ok (.bipush 37, 2) := dk_16 37 (dk_at dksX6_isPattern_1 0 rfl rfl)
theorem dX6_isPattern_25 : decode cX6_isPattern 25 = .ok (.if_icmp .ne 5, 3) := dk_160 0 5 (dk_at dksX6_isPattern_1 2 rfl rfl)
theorem dX6_isPattern_28 : decode cX6_isPattern 28 = .ok (.iconst 0, 1) := dk_3 (dk_at dksX6_isPattern_1 5 rfl rfl)
theorem dX6_isPattern_29 : decode cX6_isPattern 29 = .ok (.ireturn, 1) := dk_172 (dk_at dksX6_isPattern_1 6 rfl rfl)
theorem dX6_isPattern_30 : decode cX6_isPattern 30 = .ok (.iload_n 1, 1) := dk_27 (dk_at dksX6_isPattern_1 7 rfl rfl)
theorem dX6_isPattern_31 : decode cX6_isPattern 31 = .ok (.aload_n 0, 1) := dk_42 (dk_at dksX6_isPattern_1 8 rfl rfl)
theorem dX6_isPattern_32 : decode cX6_isPattern 32 = .ok (.getfield 20, 3) := dk_180 0 20 (dk_at dksX6_isPattern_1 9 rfl rfl)
theorem dX6_isPattern_35 : decode cX6_isPattern 35 = .ok (.iload_n 2, 1) := dk_28 (dk_at dksX6_isPattern_1 12 rfl rfl)
theorem dX6_isPattern_36 : decode cX6_isPattern 36 = .ok (.invokevirtual 75, 3) := dk_182 0 75 (dk_at dksX6_isPattern_1 13 rfl rfl)
theorem dX6_isPattern_39 : decode cX6_isPattern 39 = .ok (.invokestatic 32, 3) := dk_184 0 32 (dk_at dksX6_isPattern_1 16 rfl rfl)
theorem dX6_isPattern_42 : decode cX6_isPattern 42 = .ok (.ifCond .eq 7, 3) := dk_153 0 7 (dk_at dksX6_isPattern_1 19 rfl rfl)
theorem dX6_isPattern_45 : decode cX6_isPattern 45 = .ok (.iconst 0, 1) := dk_3 (dk_at dksX6_isPattern_1 22 rfl rfl)
theorem dX6_isPattern_46 : decode cX6_isPattern 46 = .ok (.goto 4, 3) := dk_167 0 4 (dk_at dksX6_isPattern_2 0 rfl rfl)
theorem dX6_isPattern_49 : decode cX6_isPattern 49 = .ok (.iconst 1, 1) := dk_4 (dk_at dksX6_isPattern_2 3 rfl rfl)
theorem dX6_isPattern_50 : decode cX6_isPattern 50 = .ok (.iadd, 1) := dk_96 (dk_at dksX6_isPattern_2 4 rfl rfl)
theorem dX6_isPattern_51 : decode cX6_isPattern 51 = .ok (.istore_n 1, 1) := dk_60 (dk_at dksX6_isPattern_2 5 rfl rfl)
theorem dX6_isPattern_52 : decode cX6_isPattern 52 = .ok (.iinc 2 1, 3) := dk_132 2 1 (dk_at dksX6_isPattern_2 6 rfl rfl)
theorem dX6_isPattern_55 : decode cX6_isPattern 55 = .ok (.goto (-51), 3) := dk_167 255 205 (dk_at dksX6_isPattern_2 9 rfl rfl)
theorem dX6_isPattern_58 : decode cX6_isPattern 58 = .ok (.aload_n 0, 1) := dk_42 (dk_at dksX6_isPattern_2 12 rfl rfl)
theorem dX6_isPattern_59 : decode cX6_isPattern 59 = .ok (.getfield 20, 3) := dk_180 0 20 (dk_at dksX6_isPattern_2 13 rfl rfl)
theorem dX6_isPattern_62 : decode cX6_isPattern 62 = .ok (.invokevirtual 65, 3) := dk_182 0 65 (dk_at dksX6_isPattern_2 16 rfl rfl)
theorem dX6_isPattern_65 : decode cX6_isPattern 65 = .ok (.i2l, 1) := dk_133 (dk_at dksX6_isPattern_2 19 rfl rfl)
theorem dX6_isPattern_66 : decode cX6_isPattern 66 = .ok (.lconst 1, 1) := dk_10 (dk_at dksX6_isPattern_2 20 rfl rfl)
theorem dX6_isPattern_67 : decode cX6_isPattern 67 = .ok (.ldc2_w 158, 3) := dk_20 0 158 (dk_at dksX6_isPattern_2 21 rfl rfl)
theorem dX6_isPattern_70 : decode cX6_isPattern 70 = .ok (.invokestatic 83, 3) := dk_184 0 83 (dk_at dksX6_isPattern_3 0 rfl rfl)
theorem dX6_isPattern_73 : decode cX6_isPattern 73 = .ok (.ifCond .eq 12, 3) := dk_153 0 12 (dk_at dksX6_isPattern_3 3 rfl rfl)
theorem dX6_isPattern_76 : decode cX6_isPattern 76 = .ok (.iload_n 1, 1) := dk_27 (dk_at dksX6_isPattern_3 6 rfl rfl)
theorem dX6_isPattern_77 : decode cX6_isPattern 77 = .ok (.iconst 4, 1) := dk_7 (dk_at dksX6_isPattern_3 7 rfl rfl)
theorem dX6_isPattern_78 : decode cX6_isPattern 78 = .ok (.if_icmp .gt 7, 3) := dk_163 0 7 (dk_at dksX6_isPattern_3 8 rfl rfl)
theorem dX6_isPattern_81 : decode cX6_isPattern 81 = .ok (.iconst 1, 1) := dk_4 (dk_at dksX6_isPattern_3 11 rfl rfl)
theorem dX6_isPattern_82 : decode cX6_isPattern 82 = .ok (.goto 4, 3) := dk_167 0 4 (dk_at dksX6_isPattern_3 12 rfl rfl)
theorem dX6_isPattern_85 : decode cX6_isPattern 85 = .ok (.iconst 0, 1) := dk_3 (dk_at dksX6_isPattern_3 15 rfl rfl)
theorem dX6_isPattern_86 : decode cX6_isPattern 86 = .ok (.ireturn, 1) := dk_172 (dk_at dksX6_isPattern_3 16 rfl rfl)
abbrev cX6_number : ByteArray := prog_8_method_6_code
def yX6_number : MethodName := ⟨RX6, "number", "(II)I"⟩
def dkwX6_number_4 : List UInt8 := [27, 133, 28, 133, 184, 0, 83, 182, 0, 71, 42, 182, 0, 87, 29, 172]
abbrev dktX6_number_4 : List UInt8 := dkwX6_number_4 ++ []
def dkwX6_number_3 : List UInt8 := [104, 42, 180, 0, 20, 21, 4, 182, 0, 75, 96, 16, 48, 100, 62, 132, 4, 1, 167, 255, 200, 42, 29, 133]
abbrev dktX6_number_3 : List UInt8 := dkwX6_number_3 ++ dktX6_number_4
def dkwX6_number_2 : List UInt8 := [180, 0, 20, 21, 4, 182, 0, 75, 133, 20, 0, 79, 20, 0, 81, 184, 0, 83, 182, 0, 71, 16, 10, 29]
abbrev dktX6_number_2 : List UInt8 := dkwX6_number_2 ++ dktX6_number_3
def dkwX6_number_1 : List UInt8 := [3, 182, 0, 71, 3, 62, 3, 54, 4, 21, 4, 42, 180, 0, 20, 182, 0, 65, 162, 0, 50, 42, 42]
abbrev dktX6_number_1 : List UInt8 := dkwX6_number_1 ++ dktX6_number_2
def dkwX6_number_0 : List UInt8 := [42, 42, 180, 0, 42, 5, 160, 0, 18, 42, 180, 0, 20, 182, 0, 65, 6, 163, 0, 7, 4, 167, 0, 4]
abbrev dktX6_number_0 : List UInt8 := dkwX6_number_0 ++ dktX6_number_1
theorem dksX6_number_0 : cX6_number.data.toList.drop 0 = dktX6_number_0 := by decide +kernel
theorem dksX6_number_1 : cX6_number.data.toList.drop 24 = dktX6_number_1 := dk_seg dksX6_number_0 24 rfl rfl
theorem dksX6_number_2 : cX6_number.data.toList.drop 47 = dktX6_number_2 := dk_seg dksX6_number_1 23 rfl rfl
theorem dksX6_number_3 : cX6_number.data.toList.drop 71 = dktX6_number_3 := dk_seg dksX6_number_2 24 rfl rfl
theorem dksX6_number_4 : cX6_number.data.toList.drop 95 = dktX6_number_4 := dk_seg dksX6_number_3 24 rfl rfl
theorem dX6_number_0 : decode cX6_number 0 = .ok (.aload_n 0, 1) := dk_42 (dk_at dksX6_number_0 0 rfl rfl)
theorem dX6_number_1 : decode cX6_number 1 = .ok (.aload_n 0, 1) := dk_42 (dk_at dksX6_number_0 1 rfl rfl)
theorem dX6_number_2 : decode cX6_number 2 = .ok (.getfield 42, 3) := dk_180 0 42 (dk_at dksX6_number_0 2 rfl rfl)
theorem dX6_number_5 : decode cX6_number 5 = .ok (.iconst 2, 1) := dk_5 (dk_at dksX6_number_0 5 rfl rfl)
theorem dX6_number_6 : decode cX6_number 6 = .ok (.if_icmp .ne 18, 3) := dk_160 0 18 (dk_at dksX6_number_0 6 rfl rfl)
theorem dX6_number_9 : decode cX6_number 9 = .ok (.aload_n 0, 1) := dk_42 (dk_at dksX6_number_0 9 rfl rfl)
theorem dX6_number_10 : decode cX6_number 10 = .ok (.getfield 20, 3) := dk_180 0 20 (dk_at dksX6_number_0 10 rfl rfl)
theorem dX6_number_13 : decode cX6_number 13 = .ok (.invokevirtual 65, 3) := dk_182 0 65 (dk_at dksX6_number_0 13 rfl rfl)
theorem dX6_number_16 : decode cX6_number 16 = .ok (.iconst 3, 1) := dk_6 (dk_at dksX6_number_0 16 rfl rfl)
theorem dX6_number_17 : decode cX6_number 17 = .ok (.if_icmp .gt 7, 3) := dk_163 0 7 (dk_at dksX6_number_0 17 rfl rfl)
theorem dX6_number_20 : decode cX6_number 20 = .ok (.iconst 1, 1) := dk_4 (dk_at dksX6_number_0 20 rfl rfl)
theorem dX6_number_21 : decode cX6_number 21 = .ok (.goto 4, 3) := dk_167 0 4 (dk_at dksX6_number_0 21 rfl rfl)
theorem dX6_number_24 : decode cX6_number 24 = .ok (.iconst 0, 1) := dk_3 (dk_at dksX6_number_1 0 rfl rfl)
theorem dX6_number_25 : decode cX6_number 25 = .ok (.invokevirtual 71, 3) := dk_182 0 71 (dk_at dksX6_number_1 1 rfl rfl)
theorem dX6_number_28 : decode cX6_number 28 = .ok (.iconst 0, 1) := dk_3 (dk_at dksX6_number_1 4 rfl rfl)
theorem dX6_number_29 : decode cX6_number 29 = .ok (.istore_n 3, 1) := dk_62 (dk_at dksX6_number_1 5 rfl rfl)
theorem dX6_number_30 : decode cX6_number 30 = .ok (.iconst 0, 1) := dk_3 (dk_at dksX6_number_1 6 rfl rfl)
theorem dX6_number_31 : decode cX6_number 31 = .ok (.istore 4, 2) := dk_54 4 (dk_at dksX6_number_1 7 rfl rfl)
theorem dX6_number_33 : decode cX6_number 33 = .ok (.iload 4, 2) := dk_21 4 (dk_at dksX6_number_1 9 rfl rfl)
theorem dX6_number_35 : decode cX6_number 35 = .ok (.aload_n 0, 1) := dk_42 (dk_at dksX6_number_1 11 rfl rfl)
theorem dX6_number_36 : decode cX6_number 36 = .ok (.getfield 20, 3) := dk_180 0 20 (dk_at dksX6_number_1 12 rfl rfl)
theorem dX6_number_39 : decode cX6_number 39 = .ok (.invokevirtual 65, 3) := dk_182 0 65 (dk_at dksX6_number_1 15 rfl rfl)
theorem dX6_number_42 : decode cX6_number 42 = .ok (.if_icmp .ge 50, 3) := dk_162 0 50 (dk_at dksX6_number_1 18 rfl rfl)
theorem dX6_number_45 : decode cX6_number 45 = .ok (.aload_n 0, 1) := dk_42 (dk_at dksX6_number_1 21 rfl rfl)
theorem dX6_number_46 : decode cX6_number 46 = .ok (.aload_n 0, 1) := dk_42 (dk_at dksX6_number_1 22 rfl rfl)
theorem dX6_number_47 : decode cX6_number 47 = .ok (.getfield 20, 3) := dk_180 0 20 (dk_at dksX6_number_2 0 rfl rfl)
theorem dX6_number_50 : decode cX6_number 50 = .ok (.iload 4, 2) := dk_21 4 (dk_at dksX6_number_2 3 rfl rfl)
theorem dX6_number_52 : decode cX6_number 52 = .ok (.invokevirtual 75, 3) := dk_182 0 75 (dk_at dksX6_number_2 5 rfl rfl)
theorem dX6_number_55 : decode cX6_number 55 = .ok (.i2l, 1) := dk_133 (dk_at dksX6_number_2 8 rfl rfl)
theorem dX6_number_56 : decode cX6_number 56 = .ok (.ldc2_w 79, 3) := dk_20 0 79 (dk_at dksX6_number_2 9 rfl rfl)
theorem dX6_number_59 : decode cX6_number 59 = .ok (.ldc2_w 81, 3) := dk_20 0 81 (dk_at dksX6_number_2 12 rfl rfl)
theorem dX6_number_62 : decode cX6_number 62 = .ok (.invokestatic 83, 3) := dk_184 0 83 (dk_at dksX6_number_2 15 rfl rfl)
theorem dX6_number_65 : decode cX6_number 65 = .ok (.invokevirtual 71, 3) := dk_182 0 71 (dk_at dksX6_number_2 18 rfl rfl)
theorem dX6_number_68 : decode cX6_number 68 = .ok (.bipush 10, 2) := dk_16 10 (dk_at dksX6_number_2 21 rfl rfl)
theorem dX6_number_70 : decode cX6_number 70 = .ok (.iload_n 3, 1) := dk_29 (dk_at dksX6_number_2 23 rfl rfl)
theorem dX6_number_71 : decode cX6_number 71 = .ok (.imul, 1) := dk_104 (dk_at dksX6_number_3 0 rfl rfl)
theorem dX6_number_72 : decode cX6_number 72 = .ok (.aload_n 0, 1) := dk_42 (dk_at dksX6_number_3 1 rfl rfl)
theorem dX6_number_73 : decode cX6_number 73 = .ok (.getfield 20, 3) := dk_180 0 20 (dk_at dksX6_number_3 2 rfl rfl)
theorem dX6_number_76 : decode cX6_number 76 = .ok (.iload 4, 2) := dk_21 4 (dk_at dksX6_number_3 5 rfl rfl)
theorem dX6_number_78 : decode cX6_number 78 = .ok (.invokevirtual 75, 3) := dk_182 0 75 (dk_at dksX6_number_3 7 rfl rfl)
theorem dX6_number_81 : decode cX6_number 81 = .ok (.iadd, 1) := dk_96 (dk_at dksX6_number_3 10 rfl rfl)
theorem dX6_number_82 : decode cX6_number 82 = .ok (.bipush 48, 2) := dk_16 48 (dk_at dksX6_number_3 11 rfl rfl)
theorem dX6_number_84 : decode cX6_number 84 = .ok (.isub, 1) := dk_100 (dk_at dksX6_number_3 13 rfl rfl)
theorem dX6_number_85 : decode cX6_number 85 = .ok (.istore_n 3, 1) := dk_62 (dk_at dksX6_number_3 14 rfl rfl)
theorem dX6_number_86 : decode cX6_number 86 = .ok (.iinc 4 1, 3) := dk_132 4 1 (dk_at dksX6_number_3 15 rfl rfl)
theorem dX6_number_89 : decode cX6_number 89 = .ok (.goto (-56), 3) := dk_167 255 200 (dk_at dksX6_number_3 18 rfl rfl)
theorem dX6_number_92 : decode cX6_number 92 = .ok (.aload_n 0, 1) := dk_42 (dk_at dksX6_number_3 21 rfl rfl)
theorem dX6_number_93 : decode cX6_number 93 = .ok (.iload_n 3, 1) := dk_29 (dk_at dksX6_number_3 22 rfl rfl)
theorem dX6_number_94 : decode cX6_number 94 = .ok (.i2l, 1) := dk_133 (dk_at dksX6_number_3 23 rfl rfl)
theorem dX6_number_95 : decode cX6_number 95 = .ok (.iload_n 1, 1) := dk_27 (dk_at dksX6_number_4 0 rfl rfl)
theorem dX6_number_96 : decode cX6_number 96 = .ok (.i2l, 1) := dk_133 (dk_at dksX6_number_4 1 rfl rfl)
theorem dX6_number_97 : decode cX6_number 97 = .ok (.iload_n 2, 1) := dk_28 (dk_at dksX6_number_4 2 rfl rfl)
theorem dX6_number_98 : decode cX6_number 98 = .ok (.i2l, 1) := dk_133 (dk_at dksX6_number_4 3 rfl rfl)
theorem dX6_number_99 : decode cX6_number 99 = .ok (.invokestatic 83, 3) := dk_184 0 83 (dk_at dksX6_number_4 4 rfl rfl)
theorem dX6_number_102 : decode cX6_number 102 = .ok (.invokevirtual 71, 3) := dk_182 0 71 (dk_at dksX6_number_4 7 rfl rfl)
theorem dX6_number_105 : decode cX6_number 105 = .ok (.aload_n 0, 1) := dk_42 (dk_at dksX6_number_4 10 rfl rfl)
theorem dX6_number_106 : decode cX6_number 106 = .ok (.invokevirtual 87, 3) := dk_182 0 87 (dk_at dksX6_number_4 11 rfl rfl)
theorem dX6_number_109 : decode cX6_number 109 = .ok (.iload_n 3, 1) := dk_29 (dk_at dksX6_number_4 14 rfl rfl)
theorem dX6_number_110 : decode cX6_number 110 = .ok (.ireturn, 1) := dk_172 (dk_at dksX6_number_4 15 rfl rfl)
abbrev cX6_whole : ByteArray := prog_8_method_12_code
def yX6_whole : MethodName := ⟨RX6, "whole", "()Ljava/lang/String;"⟩
def dkwX6_whole_2 : List UInt8 := [182, 0, 52, 87, 132, 4, 1, 167, 255, 223, 43, 182, 0, 56, 176]
abbrev dktX6_whole_2 : List UInt8 := dkwX6_whole_2 ++ []
def dkwX6_whole_1 : List UInt8 := [162, 0, 33, 44, 21, 4, 51, 54, 5, 43, 21, 5, 156, 0, 8, 16, 32, 167, 0, 6, 21, 5, 146]
abbrev dktX6_whole_1 : List UInt8 := dkwX6_whole_1 ++ dktX6_whole_2
def dkwX6_whole_0 : List UInt8 := [187, 0, 49, 89, 183, 0, 51, 76, 42, 180, 0, 24, 77, 44, 190, 62, 3, 54, 4, 21, 4, 29]
abbrev dktX6_whole_0 : List UInt8 := dkwX6_whole_0 ++ dktX6_whole_1
theorem dksX6_whole_0 : cX6_whole.data.toList.drop 0 = dktX6_whole_0 := by decide +kernel
theorem dksX6_whole_1 : cX6_whole.data.toList.drop 22 = dktX6_whole_1 := dk_seg dksX6_whole_0 22 rfl rfl
theorem dksX6_whole_2 : cX6_whole.data.toList.drop 45 = dktX6_whole_2 := dk_seg dksX6_whole_1 23 rfl rfl
theorem dX6_whole_0 : decode cX6_whole 0 = .ok (.new 49, 3) := dk_187 0 49 (dk_at dksX6_whole_0 0 rfl rfl)
theorem dX6_whole_3 : decode cX6_whole 3 = .ok (.dup, 1) := dk_89 (dk_at dksX6_whole_0 3 rfl rfl)
theorem dX6_whole_4 : decode cX6_whole 4 = .ok (.invokespecial 51, 3) := dk_183 0 51 (dk_at dksX6_whole_0 4 rfl rfl)
theorem dX6_whole_7 : decode cX6_whole 7 = .ok (.astore_n 1, 1) := dk_76 (dk_at dksX6_whole_0 7 rfl rfl)
theorem dX6_whole_8 : decode cX6_whole 8 = .ok (.aload_n 0, 1) := dk_42 (dk_at dksX6_whole_0 8 rfl rfl)
theorem dX6_whole_9 : decode cX6_whole 9 = .ok (.getfield 24, 3) := dk_180 0 24 (dk_at dksX6_whole_0 9 rfl rfl)
theorem dX6_whole_12 : decode cX6_whole 12 = .ok (.astore_n 2, 1) := dk_77 (dk_at dksX6_whole_0 12 rfl rfl)
theorem dX6_whole_13 : decode cX6_whole 13 = .ok (.aload_n 2, 1) := dk_44 (dk_at dksX6_whole_0 13 rfl rfl)
theorem dX6_whole_14 : decode cX6_whole 14 = .ok (.arraylength, 1) := dk_190 (dk_at dksX6_whole_0 14 rfl rfl)
theorem dX6_whole_15 : decode cX6_whole 15 = .ok (.istore_n 3, 1) := dk_62 (dk_at dksX6_whole_0 15 rfl rfl)
theorem dX6_whole_16 : decode cX6_whole 16 = .ok (.iconst 0, 1) := dk_3 (dk_at dksX6_whole_0 16 rfl rfl)
theorem dX6_whole_17 : decode cX6_whole 17 = .ok (.istore 4, 2) := dk_54 4 (dk_at dksX6_whole_0 17 rfl rfl)
theorem dX6_whole_19 : decode cX6_whole 19 = .ok (.iload 4, 2) := dk_21 4 (dk_at dksX6_whole_0 19 rfl rfl)
theorem dX6_whole_21 : decode cX6_whole 21 = .ok (.iload_n 3, 1) := dk_29 (dk_at dksX6_whole_0 21 rfl rfl)
theorem dX6_whole_22 : decode cX6_whole 22 = .ok (.if_icmp .ge 33, 3) := dk_162 0 33 (dk_at dksX6_whole_1 0 rfl rfl)
theorem dX6_whole_25 : decode cX6_whole 25 = .ok (.aload_n 2, 1) := dk_44 (dk_at dksX6_whole_1 3 rfl rfl)
theorem dX6_whole_26 : decode cX6_whole 26 = .ok (.iload 4, 2) := dk_21 4 (dk_at dksX6_whole_1 4 rfl rfl)
theorem dX6_whole_28 : decode cX6_whole 28 = .ok (.baload, 1) := dk_51 (dk_at dksX6_whole_1 6 rfl rfl)
theorem dX6_whole_29 : decode cX6_whole 29 = .ok (.istore 5, 2) := dk_54 5 (dk_at dksX6_whole_1 7 rfl rfl)
theorem dX6_whole_31 : decode cX6_whole 31 = .ok (.aload_n 1, 1) := dk_43 (dk_at dksX6_whole_1 9 rfl rfl)
theorem dX6_whole_32 : decode cX6_whole 32 = .ok (.iload 5, 2) := dk_21 5 (dk_at dksX6_whole_1 10 rfl rfl)
theorem dX6_whole_34 : decode cX6_whole 34 = .ok (.ifCond .ge 8, 3) := dk_156 0 8 (dk_at dksX6_whole_1 12 rfl rfl)
theorem dX6_whole_37 : decode cX6_whole 37 = .ok (.bipush 32, 2) := dk_16 32 (dk_at dksX6_whole_1 15 rfl rfl)
theorem dX6_whole_39 : decode cX6_whole 39 = .ok (.goto 6, 3) := dk_167 0 6 (dk_at dksX6_whole_1 17 rfl rfl)
theorem dX6_whole_42 : decode cX6_whole 42 = .ok (.iload 5, 2) := dk_21 5 (dk_at dksX6_whole_1 20 rfl rfl)
theorem dX6_whole_44 : decode cX6_whole 44 = .ok (.i2c, 1) := dk_146 (dk_at dksX6_whole_1 22 rfl rfl)
theorem dX6_whole_45 : decode cX6_whole 45 = .ok (.invokevirtual 52, 3) := dk_182 0 52 (dk_at dksX6_whole_2 0 rfl rfl)
theorem dX6_whole_48 : decode cX6_whole 48 = .ok (.pop, 1) := dk_87 (dk_at dksX6_whole_2 3 rfl rfl)
theorem dX6_whole_49 : decode cX6_whole 49 = .ok (.iinc 4 1, 3) := dk_132 4 1 (dk_at dksX6_whole_2 4 rfl rfl)
theorem dX6_whole_52 : decode cX6_whole 52 = .ok (.goto (-33), 3) := dk_167 255 223 (dk_at dksX6_whole_2 7 rfl rfl)
theorem dX6_whole_55 : decode cX6_whole 55 = .ok (.aload_n 1, 1) := dk_43 (dk_at dksX6_whole_2 10 rfl rfl)
theorem dX6_whole_56 : decode cX6_whole 56 = .ok (.invokevirtual 56, 3) := dk_182 0 56 (dk_at dksX6_whole_2 11 rfl rfl)
theorem dX6_whole_59 : decode cX6_whole 59 = .ok (.areturn, 1) := dk_176 (dk_at dksX6_whole_2 14 rfl rfl)
abbrev cX6_wholeRule : ByteArray := prog_8_method_11_code
def yX6_wholeRule : MethodName := ⟨RX6, "wholeRule", "()LBatchRenamer$Rule;"⟩
def dkwX6_wholeRule_1 : List UInt8 := [182, 0, 71, 43, 176]
abbrev dktX6_wholeRule_1 : List UInt8 := dkwX6_wholeRule_1 ++ []
def dkwX6_wholeRule_0 : List UInt8 := [42, 182, 0, 87, 42, 182, 0, 144, 76, 42, 42, 180, 0, 42, 154, 0, 7, 4, 167, 0, 4, 3]
abbrev dktX6_wholeRule_0 : List UInt8 := dkwX6_wholeRule_0 ++ dktX6_wholeRule_1
theorem dksX6_wholeRule_0 : cX6_wholeRule.data.toList.drop 0 = dktX6_wholeRule_0 := by decide +kernel
theorem dksX6_wholeRule_1 : cX6_wholeRule.data.toList.drop 22 = dktX6_wholeRule_1 := dk_seg dksX6_wholeRule_0 22 rfl rfl
theorem dX6_wholeRule_0 : decode cX6_wholeRule 0 = .ok (.aload_n 0, 1) := dk_42 (dk_at dksX6_wholeRule_0 0 rfl rfl)
theorem dX6_wholeRule_1 : decode cX6_wholeRule 1 = .ok (.invokevirtual 87, 3) := dk_182 0 87 (dk_at dksX6_wholeRule_0 1 rfl rfl)
theorem dX6_wholeRule_4 : decode cX6_wholeRule 4 = .ok (.aload_n 0, 1) := dk_42 (dk_at dksX6_wholeRule_0 4 rfl rfl)
theorem dX6_wholeRule_5 : decode cX6_wholeRule 5 = .ok (.invokevirtual 144, 3) := dk_182 0 144 (dk_at dksX6_wholeRule_0 5 rfl rfl)
theorem dX6_wholeRule_8 : decode cX6_wholeRule 8 = .ok (.astore_n 1, 1) := dk_76 (dk_at dksX6_wholeRule_0 8 rfl rfl)
theorem dX6_wholeRule_9 : decode cX6_wholeRule 9 = .ok (.aload_n 0, 1) := dk_42 (dk_at dksX6_wholeRule_0 9 rfl rfl)
theorem dX6_wholeRule_10 : decode cX6_wholeRule 10 = .ok (.aload_n 0, 1) := dk_42 (dk_at dksX6_wholeRule_0 10 rfl rfl)
theorem dX6_wholeRule_11 : decode cX6_wholeRule 11 = .ok (.getfield 42, 3) := dk_180 0 42 (dk_at dksX6_wholeRule_0 11 rfl rfl)
theorem dX6_wholeRule_14 : decode cX6_wholeRule 14 = .ok (.ifCond .ne 7, 3) := dk_154 0 7 (dk_at dksX6_wholeRule_0 14 rfl rfl)
theorem dX6_wholeRule_17 : decode cX6_wholeRule 17 = .ok (.iconst 1, 1) := dk_4 (dk_at dksX6_wholeRule_0 17 rfl rfl)
theorem dX6_wholeRule_18 : decode cX6_wholeRule 18 = .ok (.goto 4, 3) := dk_167 0 4 (dk_at dksX6_wholeRule_0 18 rfl rfl)
theorem dX6_wholeRule_21 : decode cX6_wholeRule 21 = .ok (.iconst 0, 1) := dk_3 (dk_at dksX6_wholeRule_0 21 rfl rfl)
theorem dX6_wholeRule_22 : decode cX6_wholeRule 22 = .ok (.invokevirtual 71, 3) := dk_182 0 71 (dk_at dksX6_wholeRule_1 0 rfl rfl)
theorem dX6_wholeRule_25 : decode cX6_wholeRule 25 = .ok (.aload_n 1, 1) := dk_43 (dk_at dksX6_wholeRule_1 3 rfl rfl)
theorem dX6_wholeRule_26 : decode cX6_wholeRule 26 = .ok (.areturn, 1) := dk_176 (dk_at dksX6_wholeRule_1 4 rfl rfl)
theorem q156 : (Jvm.Cond.initialized "BatchRenamer$Parser") ∈ lw_all := lw_g (lw_at lw_m1 27 rfl) rfl
theorem q599 : (Jvm.Cond.fieldLinkNest "BatchRenamer$Parser" (108 : Nat) "BatchRenamer$Board" "files" "Ljava/util/ArrayList;" "BatchRenamer") ∈ lw_tbl := lw_at lw_m2 230 rfl
theorem q603 : (Jvm.Cond.fieldLinkNest "BatchRenamer$Parser" (141 : Nat) "BatchRenamer$Board" "rules" "Ljava/util/ArrayList;" "BatchRenamer") ∈ lw_tbl := lw_at lw_m2 234 rfl
theorem q612 : (Jvm.Cond.fieldLinkNest "BatchRenamer$Parser" (151 : Nat) "BatchRenamer$Board" "start" "I" "BatchRenamer") ∈ lw_tbl := lw_at lw_m3 3 rfl
theorem q616 : (Jvm.Cond.fieldLinkNest "BatchRenamer$Parser" (152 : Nat) "BatchRenamer$Board" "step" "I" "BatchRenamer") ∈ lw_tbl := lw_at lw_m3 7 rfl
theorem q620 : (Jvm.Cond.fieldLinkNest "BatchRenamer$Parser" (155 : Nat) "BatchRenamer$Board" "digits" "I" "BatchRenamer") ∈ lw_tbl := lw_at lw_m3 11 rfl
theorem q830 : (Jvm.Cond.selects "BatchRenamer$Parser" ({ cls := "java/lang/Object", name := "equals", desc := "(Ljava/lang/Object;)Z" } : Jvm.MethodName) ({ cls := "java/lang/Object", name := "equals", desc := "(Ljava/lang/Object;)Z" } : Jvm.MethodName)) ∈ lw_all := lw_g (lw_at lw_m3 221 rfl) rfl
theorem q866 : (Jvm.Cond.selects "BatchRenamer$Parser" ({ cls := "java/lang/Object", name := "getClass", desc := "()Ljava/lang/Class;" } : Jvm.MethodName) ({ cls := "java/lang/Object", name := "getClass", desc := "()Ljava/lang/Class;" } : Jvm.MethodName)) ∈ lw_all := lw_g (lw_at lw_m4 17 rfl) rfl
theorem q1214 : (Jvm.Cond.fieldLinkNest "BatchRenamer$Parser" (137 : Nat) "BatchRenamer$Entry" "isKept" "Z" "BatchRenamer") ∈ lw_tbl := lw_at lw_m5 125 rfl
theorem q1528 : (Jvm.Cond.instantiable "BatchRenamer$Parser" (6 : Nat)) ∈ lw_all := lw_g (lw_at lw_m6 199 rfl) rfl
theorem q1530 : (Jvm.Cond.instanceMethod ({ cls := "BatchRenamer$Parser", name := "<init>", desc := "([B)V" } : Jvm.MethodName)) ∈ lw_all := lw_g (lw_at lw_m6 201 rfl) rfl
theorem q1531 : (Jvm.Cond.code ({ cls := "BatchRenamer$Parser", name := "<init>", desc := "([B)V" } : Jvm.MethodName) prog_8_method_1_code (2 : Nat) (Option.none : Option Jvm.ClassFile.FieldType)) ∈ lw_all := lw_g (lw_at lw_m6 202 rfl) rfl
theorem q1532 : (Jvm.Cond.methodLink "BatchRenamer$Parser" (3 : Nat) ({ cls := "java/lang/Object", name := "<init>", desc := "()V" } : Jvm.MethodName)) ∈ lw_all := lw_g (lw_at lw_m6 203 rfl) rfl
theorem q1533 : (Jvm.Cond.classLink "BatchRenamer$Parser" (9 : Nat) "BatchRenamer$Board") ∈ lw_all := lw_g (lw_at lw_m6 204 rfl) rfl
theorem q1534 : (Jvm.Cond.methodLinkNest "BatchRenamer$Parser" (11 : Nat) ({ cls := "BatchRenamer$Board", name := "<init>", desc := "()V" } : Jvm.MethodName) "BatchRenamer") ∈ lw_tbl := lw_at lw_m6 205 rfl
theorem q1535 : (Jvm.Cond.stringRef "BatchRenamer$Parser" (18 : Nat) "") ∈ lw_tbl := lw_at lw_m6 206 rfl
theorem q1536 : (Jvm.Cond.fieldLink "BatchRenamer$Parser" (24 : Nat) "BatchRenamer$Parser" "text" "[B") ∈ lw_all := lw_g (lw_at lw_m6 207 rfl) rfl
theorem q1537 : (Jvm.Cond.fieldLink "BatchRenamer$Parser" (12 : Nat) "BatchRenamer$Parser" "parsed" "LBatchRenamer$Board;") ∈ lw_all := lw_g (lw_at lw_m6 208 rfl) rfl
theorem q1538 : (Jvm.Cond.fieldLink "BatchRenamer$Parser" (39 : Nat) "BatchRenamer$Parser" "start" "I") ∈ lw_all := lw_g (lw_at lw_m6 209 rfl) rfl
theorem q1539 : (Jvm.Cond.fieldLink "BatchRenamer$Parser" (28 : Nat) "BatchRenamer$Parser" "next" "I") ∈ lw_all := lw_g (lw_at lw_m6 210 rfl) rfl
theorem q1540 : (Jvm.Cond.fieldLink "BatchRenamer$Parser" (42 : Nat) "BatchRenamer$Parser" "token" "I") ∈ lw_all := lw_g (lw_at lw_m6 211 rfl) rfl
theorem q1541 : (Jvm.Cond.fieldLink "BatchRenamer$Parser" (20 : Nat) "BatchRenamer$Parser" "chunk" "Ljava/lang/String;") ∈ lw_all := lw_g (lw_at lw_m6 212 rfl) rfl
theorem q1542 : (Jvm.Cond.laysFinal "BatchRenamer$Parser" "BatchRenamer$Parser" "text" "[B") ∈ lw_all := lw_g (lw_at lw_m6 213 rfl) rfl
theorem q1543 : (Jvm.Cond.soleField "BatchRenamer$Parser" "text") ∈ lw_all := lw_g (lw_at lw_m6 214 rfl) rfl
theorem q1544 : (Jvm.Cond.laysFinal "BatchRenamer$Parser" "BatchRenamer$Parser" "parsed" "LBatchRenamer$Board;") ∈ lw_all := lw_g (lw_at lw_m6 215 rfl) rfl
theorem q1545 : (Jvm.Cond.soleField "BatchRenamer$Parser" "parsed") ∈ lw_all := lw_g (lw_at lw_m6 216 rfl) rfl
theorem q1546 : (Jvm.Cond.lays "BatchRenamer$Parser" "BatchRenamer$Parser" "start" "I") ∈ lw_all := lw_g (lw_at lw_m6 217 rfl) rfl
theorem q1547 : (Jvm.Cond.soleField "BatchRenamer$Parser" "start") ∈ lw_all := lw_g (lw_at lw_m6 218 rfl) rfl
theorem q1548 : (Jvm.Cond.lays "BatchRenamer$Parser" "BatchRenamer$Parser" "next" "I") ∈ lw_all := lw_g (lw_at lw_m6 219 rfl) rfl
theorem q1549 : (Jvm.Cond.soleField "BatchRenamer$Parser" "next") ∈ lw_all := lw_g (lw_at lw_m6 220 rfl) rfl
theorem q1550 : (Jvm.Cond.lays "BatchRenamer$Parser" "BatchRenamer$Parser" "token" "I") ∈ lw_all := lw_g (lw_at lw_m6 221 rfl) rfl
theorem q1551 : (Jvm.Cond.soleField "BatchRenamer$Parser" "token") ∈ lw_all := lw_g (lw_at lw_m6 222 rfl) rfl
theorem q1552 : (Jvm.Cond.lays "BatchRenamer$Parser" "BatchRenamer$Parser" "chunk" "Ljava/lang/String;") ∈ lw_all := lw_g (lw_at lw_m6 223 rfl) rfl
theorem q1553 : (Jvm.Cond.soleField "BatchRenamer$Parser" "chunk") ∈ lw_all := lw_g (lw_at lw_m6 224 rfl) rfl
theorem q1554 : (Jvm.Cond.superclass "BatchRenamer$Parser" "java/lang/Object") ∈ lw_all := lw_g (lw_at lw_m6 225 rfl) rfl
theorem q1556 : (Jvm.Cond.instanceMethod ({ cls := "BatchRenamer$Parser", name := "parse", desc := "()LBatchRenamer$Board;" } : Jvm.MethodName)) ∈ lw_all := lw_g (lw_at lw_m6 227 rfl) rfl
theorem q1557 : (Jvm.Cond.selects "BatchRenamer$Parser" ({ cls := "BatchRenamer$Parser", name := "parse", desc := "()LBatchRenamer$Board;" } : Jvm.MethodName) ({ cls := "BatchRenamer$Parser", name := "parse", desc := "()LBatchRenamer$Board;" } : Jvm.MethodName)) ∈ lw_all := lw_g (lw_at lw_m6 228 rfl) rfl
theorem q1558 : (Jvm.Cond.code ({ cls := "BatchRenamer$Parser", name := "parse", desc := "()LBatchRenamer$Board;" } : Jvm.MethodName) prog_8_method_7_code (1 : Nat) (Option.some (Jvm.ClassFile.FieldType.object "BatchRenamer$Board"))) ∈ lw_all := lw_g (lw_at lw_m6 229 rfl) rfl
theorem q1559 : (Jvm.Cond.methodLink "BatchRenamer$Parser" (87 : Nat) ({ cls := "BatchRenamer$Parser", name := "advance", desc := "()V" } : Jvm.MethodName)) ∈ lw_all := lw_g (lw_at lw_m6 230 rfl) rfl
theorem q1560 : (Jvm.Cond.privateMethod ({ cls := "BatchRenamer$Parser", name := "advance", desc := "()V" } : Jvm.MethodName)) ∈ lw_tbl := lw_at lw_m6 231 rfl
theorem q1561 : (Jvm.Cond.instanceMethod ({ cls := "BatchRenamer$Parser", name := "advance", desc := "()V" } : Jvm.MethodName)) ∈ lw_all := lw_g (lw_at lw_m6 232 rfl) rfl
theorem q1562 : (Jvm.Cond.code ({ cls := "BatchRenamer$Parser", name := "advance", desc := "()V" } : Jvm.MethodName) prog_8_method_4_code (2 : Nat) (Option.none : Option Jvm.ClassFile.FieldType)) ∈ lw_all := lw_g (lw_at lw_m6 233 rfl) rfl
theorem q1563 : (Jvm.Cond.methodLink "BatchRenamer$Parser" (36 : Nat) ({ cls := "BatchRenamer$Parser", name := "isNext", desc := "(C)Z" } : Jvm.MethodName)) ∈ lw_all := lw_g (lw_at lw_m6 234 rfl) rfl
theorem q1564 : (Jvm.Cond.privateMethod ({ cls := "BatchRenamer$Parser", name := "isNext", desc := "(C)Z" } : Jvm.MethodName)) ∈ lw_tbl := lw_at lw_m6 235 rfl
theorem q1565 : (Jvm.Cond.instanceMethod ({ cls := "BatchRenamer$Parser", name := "isNext", desc := "(C)Z" } : Jvm.MethodName)) ∈ lw_all := lw_g (lw_at lw_m6 236 rfl) rfl
theorem q1566 : (Jvm.Cond.code ({ cls := "BatchRenamer$Parser", name := "isNext", desc := "(C)Z" } : Jvm.MethodName) prog_8_method_2_code (2 : Nat) (Option.some Jvm.ClassFile.FieldType.boolean)) ∈ lw_all := lw_g (lw_at lw_m6 237 rfl) rfl
theorem q1567 : (Jvm.Cond.methodLink "BatchRenamer$Parser" (45 : Nat) ({ cls := "BatchRenamer$Parser", name := "isInChunk", desc := "()Z" } : Jvm.MethodName)) ∈ lw_all := lw_g (lw_at lw_m6 238 rfl) rfl
theorem q1568 : (Jvm.Cond.privateMethod ({ cls := "BatchRenamer$Parser", name := "isInChunk", desc := "()Z" } : Jvm.MethodName)) ∈ lw_tbl := lw_at lw_m6 239 rfl
theorem q1569 : (Jvm.Cond.instanceMethod ({ cls := "BatchRenamer$Parser", name := "isInChunk", desc := "()Z" } : Jvm.MethodName)) ∈ lw_all := lw_g (lw_at lw_m7 0 rfl) rfl
theorem q1570 : (Jvm.Cond.code ({ cls := "BatchRenamer$Parser", name := "isInChunk", desc := "()Z" } : Jvm.MethodName) prog_8_method_3_code (2 : Nat) (Option.some Jvm.ClassFile.FieldType.boolean)) ∈ lw_all := lw_g (lw_at lw_m7 1 rfl) rfl
theorem q1571 : (Jvm.Cond.methodLinkNest "BatchRenamer$Parser" (32 : Nat) ({ cls := "BatchRenamer", name := "isPlain", desc := "(C)Z" } : Jvm.MethodName) "BatchRenamer") ∈ lw_tbl := lw_at lw_m7 2 rfl
theorem q1578 : (Jvm.Cond.classLink "BatchRenamer$Parser" (49 : Nat) "java/lang/StringBuilder") ∈ lw_all := lw_g (lw_at lw_m7 9 rfl) rfl
theorem q1579 : (Jvm.Cond.methodLink "BatchRenamer$Parser" (51 : Nat) ({ cls := "java/lang/StringBuilder", name := "<init>", desc := "()V" } : Jvm.MethodName)) ∈ lw_all := lw_g (lw_at lw_m7 10 rfl) rfl
theorem q1580 : (Jvm.Cond.methodLink "BatchRenamer$Parser" (52 : Nat) ({ cls := "java/lang/StringBuilder", name := "append", desc := "(C)Ljava/lang/StringBuilder;" } : Jvm.MethodName)) ∈ lw_all := lw_g (lw_at lw_m7 11 rfl) rfl
theorem q1593 : (Jvm.Cond.methodLink "BatchRenamer$Parser" (56 : Nat) ({ cls := "java/lang/StringBuilder", name := "toString", desc := "()Ljava/lang/String;" } : Jvm.MethodName)) ∈ lw_all := lw_g (lw_at lw_m7 24 rfl) rfl
theorem q1594 : (Jvm.Cond.methodLink "BatchRenamer$Parser" (90 : Nat) ({ cls := "BatchRenamer$Parser", name := "statement", desc := "()V" } : Jvm.MethodName)) ∈ lw_all := lw_g (lw_at lw_m7 25 rfl) rfl
theorem q1595 : (Jvm.Cond.privateMethod ({ cls := "BatchRenamer$Parser", name := "statement", desc := "()V" } : Jvm.MethodName)) ∈ lw_tbl := lw_at lw_m7 26 rfl
theorem q1596 : (Jvm.Cond.instanceMethod ({ cls := "BatchRenamer$Parser", name := "statement", desc := "()V" } : Jvm.MethodName)) ∈ lw_all := lw_g (lw_at lw_m7 27 rfl) rfl
theorem q1597 : (Jvm.Cond.code ({ cls := "BatchRenamer$Parser", name := "statement", desc := "()V" } : Jvm.MethodName) prog_8_method_8_code (3 : Nat) (Option.none : Option Jvm.ClassFile.FieldType)) ∈ lw_all := lw_g (lw_at lw_m7 28 rfl) rfl
theorem q1598 : (Jvm.Cond.methodLink "BatchRenamer$Parser" (93 : Nat) ({ cls := "java/lang/String", name := "hashCode", desc := "()I" } : Jvm.MethodName)) ∈ lw_all := lw_g (lw_at lw_m7 29 rfl) rfl
theorem q1655 : (Jvm.Cond.stringRef "BatchRenamer$Parser" (96 : Nat) "file") ∈ lw_tbl := lw_at lw_m7 86 rfl
theorem q1656 : (Jvm.Cond.methodLink "BatchRenamer$Parser" (98 : Nat) ({ cls := "java/lang/String", name := "equals", desc := "(Ljava/lang/Object;)Z" } : Jvm.MethodName)) ∈ lw_all := lw_g (lw_at lw_m7 87 rfl) rfl
theorem q1657 : (Jvm.Cond.stringRef "BatchRenamer$Parser" (102 : Nat) "keep") ∈ lw_tbl := lw_at lw_m7 88 rfl
theorem q1658 : (Jvm.Cond.stringRef "BatchRenamer$Parser" (104 : Nat) "rule") ∈ lw_tbl := lw_at lw_m7 89 rfl
theorem q1659 : (Jvm.Cond.stringRef "BatchRenamer$Parser" (106 : Nat) "count") ∈ lw_tbl := lw_at lw_m7 90 rfl
theorem q1660 : (Jvm.Cond.methodLink "BatchRenamer$Parser" (112 : Nat) ({ cls := "java/util/ArrayList", name := "size", desc := "()I" } : Jvm.MethodName)) ∈ lw_all := lw_g (lw_at lw_m7 91 rfl) rfl
theorem q1661 : (Jvm.Cond.methodLink "BatchRenamer$Parser" (71 : Nat) ({ cls := "BatchRenamer$Parser", name := "require", desc := "(Z)V" } : Jvm.MethodName)) ∈ lw_all := lw_g (lw_at lw_m7 92 rfl) rfl
theorem q1662 : (Jvm.Cond.privateMethod ({ cls := "BatchRenamer$Parser", name := "require", desc := "(Z)V" } : Jvm.MethodName)) ∈ lw_tbl := lw_at lw_m7 93 rfl
theorem q1663 : (Jvm.Cond.instanceMethod ({ cls := "BatchRenamer$Parser", name := "require", desc := "(Z)V" } : Jvm.MethodName)) ∈ lw_all := lw_g (lw_at lw_m7 94 rfl) rfl
theorem q1664 : (Jvm.Cond.code ({ cls := "BatchRenamer$Parser", name := "require", desc := "(Z)V" } : Jvm.MethodName) prog_8_method_5_code (2 : Nat) (Option.none : Option Jvm.ClassFile.FieldType)) ∈ lw_all := lw_g (lw_at lw_m7 95 rfl) rfl
theorem q1665 : (Jvm.Cond.classLink "BatchRenamer$Parser" (60 : Nat) "BatchRenamer$TextException") ∈ lw_all := lw_g (lw_at lw_m7 96 rfl) rfl
theorem q1674 : (Jvm.Cond.methodLink "BatchRenamer$Parser" (62 : Nat) ({ cls := "BatchRenamer$TextException", name := "<init>", desc := "(I)V" } : Jvm.MethodName)) ∈ lw_all := lw_g (lw_at lw_m7 105 rfl) rfl
theorem q1689 : (Jvm.Cond.methodLinkNest "BatchRenamer$Parser" (117 : Nat) ({ cls := "BatchRenamer", name := "isName", desc := "(Ljava/lang/String;I)Z" } : Jvm.MethodName) "BatchRenamer") ∈ lw_tbl := lw_at lw_m7 120 rfl
theorem q1694 : (Jvm.Cond.methodLink "BatchRenamer$Parser" (121 : Nat) ({ cls := "BatchRenamer$Board", name := "find", desc := "(Ljava/lang/String;)I" } : Jvm.MethodName)) ∈ lw_all := lw_g (lw_at lw_m7 125 rfl) rfl
theorem q1695 : (Jvm.Cond.classLink "BatchRenamer$Parser" (125 : Nat) "BatchRenamer$Entry") ∈ lw_all := lw_g (lw_at lw_m7 126 rfl) rfl
theorem q1696 : (Jvm.Cond.methodLink "BatchRenamer$Parser" (127 : Nat) ({ cls := "BatchRenamer$Entry", name := "<init>", desc := "(Ljava/lang/String;)V" } : Jvm.MethodName)) ∈ lw_all := lw_g (lw_at lw_m7 127 rfl) rfl
theorem q1697 : (Jvm.Cond.methodLink "BatchRenamer$Parser" (130 : Nat) ({ cls := "java/util/ArrayList", name := "add", desc := "(Ljava/lang/Object;)Z" } : Jvm.MethodName)) ∈ lw_all := lw_g (lw_at lw_m7 128 rfl) rfl
theorem q1698 : (Jvm.Cond.methodLink "BatchRenamer$Parser" (133 : Nat) ({ cls := "java/util/ArrayList", name := "get", desc := "(I)Ljava/lang/Object;" } : Jvm.MethodName)) ∈ lw_all := lw_g (lw_at lw_m7 129 rfl) rfl
theorem q1699 : (Jvm.Cond.methodLink "BatchRenamer$Parser" (144 : Nat) ({ cls := "BatchRenamer$Parser", name := "rule", desc := "()LBatchRenamer$Rule;" } : Jvm.MethodName)) ∈ lw_all := lw_g (lw_at lw_m7 130 rfl) rfl
theorem q1700 : (Jvm.Cond.privateMethod ({ cls := "BatchRenamer$Parser", name := "rule", desc := "()LBatchRenamer$Rule;" } : Jvm.MethodName)) ∈ lw_tbl := lw_at lw_m7 131 rfl
theorem q1701 : (Jvm.Cond.instanceMethod ({ cls := "BatchRenamer$Parser", name := "rule", desc := "()LBatchRenamer$Rule;" } : Jvm.MethodName)) ∈ lw_all := lw_g (lw_at lw_m7 132 rfl) rfl
theorem q1702 : (Jvm.Cond.code ({ cls := "BatchRenamer$Parser", name := "rule", desc := "()LBatchRenamer$Rule;" } : Jvm.MethodName) prog_8_method_10_code (2 : Nat) (Option.some (Jvm.ClassFile.FieldType.object "BatchRenamer$Rule"))) ∈ lw_all := lw_g (lw_at lw_m7 133 rfl) rfl
theorem q1703 : (Jvm.Cond.methodLink "BatchRenamer$Parser" (160 : Nat) ({ cls := "BatchRenamer$Parser", name := "isPattern", desc := "()Z" } : Jvm.MethodName)) ∈ lw_all := lw_g (lw_at lw_m7 134 rfl) rfl
theorem q1704 : (Jvm.Cond.privateMethod ({ cls := "BatchRenamer$Parser", name := "isPattern", desc := "()Z" } : Jvm.MethodName)) ∈ lw_tbl := lw_at lw_m7 135 rfl
theorem q1705 : (Jvm.Cond.instanceMethod ({ cls := "BatchRenamer$Parser", name := "isPattern", desc := "()Z" } : Jvm.MethodName)) ∈ lw_all := lw_g (lw_at lw_m7 136 rfl) rfl
theorem q1706 : (Jvm.Cond.code ({ cls := "BatchRenamer$Parser", name := "isPattern", desc := "()Z" } : Jvm.MethodName) prog_8_method_9_code (3 : Nat) (Option.some Jvm.ClassFile.FieldType.boolean)) ∈ lw_all := lw_g (lw_at lw_m7 137 rfl) rfl
theorem q1707 : (Jvm.Cond.methodLink "BatchRenamer$Parser" (65 : Nat) ({ cls := "java/lang/String", name := "length", desc := "()I" } : Jvm.MethodName)) ∈ lw_all := lw_g (lw_at lw_m7 138 rfl) rfl
theorem q1708 : (Jvm.Cond.methodLink "BatchRenamer$Parser" (75 : Nat) ({ cls := "java/lang/String", name := "charAt", desc := "(I)C" } : Jvm.MethodName)) ∈ lw_all := lw_g (lw_at lw_m7 139 rfl) rfl
theorem q1709 : (Jvm.Cond.constantLong "BatchRenamer$Parser" (158 : Nat) (12 : Int64)) ∈ lw_all := lw_g (lw_at lw_m7 140 rfl) rfl
theorem q1710 : (Jvm.Cond.methodLinkNest "BatchRenamer$Parser" (83 : Nat) ({ cls := "BatchRenamer", name := "in", desc := "(JJJ)Z" } : Jvm.MethodName) "BatchRenamer") ∈ lw_tbl := lw_at lw_m7 141 rfl
theorem q1711 : (Jvm.Cond.classLink "BatchRenamer$Parser" (163 : Nat) "BatchRenamer$Rule") ∈ lw_all := lw_g (lw_at lw_m7 142 rfl) rfl
theorem q1712 : (Jvm.Cond.methodLink "BatchRenamer$Parser" (165 : Nat) ({ cls := "BatchRenamer$Rule", name := "<init>", desc := "(Ljava/lang/String;)V" } : Jvm.MethodName)) ∈ lw_all := lw_g (lw_at lw_m7 143 rfl) rfl
theorem q1722 : (Jvm.Cond.fieldLinkNest "BatchRenamer$Parser" (174 : Nat) "BatchRenamer$Rule" "wildcards" "I" "BatchRenamer") ∈ lw_tbl := lw_at lw_m7 153 rfl
theorem q1725 : (Jvm.Cond.fieldLinkNest "BatchRenamer$Parser" (177 : Nat) "BatchRenamer$Rule" "by" "I" "BatchRenamer") ∈ lw_tbl := lw_at lw_m7 156 rfl
theorem q1737 : (Jvm.Cond.constantLong "BatchRenamer$Parser" (166 : Nat) (16 : Int64)) ∈ lw_all := lw_g (lw_at lw_m7 168 rfl) rfl
theorem q1738 : (Jvm.Cond.methodLink "BatchRenamer$Parser" (168 : Nat) ({ cls := "BatchRenamer$Rule", name := "takes", desc := "(Ljava/lang/String;)Z" } : Jvm.MethodName)) ∈ lw_all := lw_g (lw_at lw_m7 169 rfl) rfl
theorem q1769 : (Jvm.Cond.stringRef "BatchRenamer$Parser" (172 : Nat) "by") ∈ lw_tbl := lw_at lw_m7 200 rfl
theorem q1770 : (Jvm.Cond.methodLink "BatchRenamer$Parser" (147 : Nat) ({ cls := "BatchRenamer$Parser", name := "number", desc := "(II)I" } : Jvm.MethodName)) ∈ lw_all := lw_g (lw_at lw_m7 201 rfl) rfl
theorem q1771 : (Jvm.Cond.privateMethod ({ cls := "BatchRenamer$Parser", name := "number", desc := "(II)I" } : Jvm.MethodName)) ∈ lw_tbl := lw_at lw_m7 202 rfl
theorem q1772 : (Jvm.Cond.instanceMethod ({ cls := "BatchRenamer$Parser", name := "number", desc := "(II)I" } : Jvm.MethodName)) ∈ lw_all := lw_g (lw_at lw_m7 203 rfl) rfl
theorem q1773 : (Jvm.Cond.code ({ cls := "BatchRenamer$Parser", name := "number", desc := "(II)I" } : Jvm.MethodName) prog_8_method_6_code (5 : Nat) (Option.some Jvm.ClassFile.FieldType.int)) ∈ lw_all := lw_g (lw_at lw_m7 204 rfl) rfl
theorem q1774 : (Jvm.Cond.constantLong "BatchRenamer$Parser" (79 : Nat) (48 : Int64)) ∈ lw_all := lw_g (lw_at lw_m7 205 rfl) rfl
theorem q1775 : (Jvm.Cond.constantLong "BatchRenamer$Parser" (81 : Nat) (57 : Int64)) ∈ lw_all := lw_g (lw_at lw_m7 206 rfl) rfl
theorem q2062 : (Jvm.Cond.instanceMethod ({ cls := "BatchRenamer$Parser", name := "whole", desc := "()Ljava/lang/String;" } : Jvm.MethodName)) ∈ lw_all := lw_g (lw_at lw_m9 13 rfl) rfl
theorem q2063 : (Jvm.Cond.selects "BatchRenamer$Parser" ({ cls := "BatchRenamer$Parser", name := "whole", desc := "()Ljava/lang/String;" } : Jvm.MethodName) ({ cls := "BatchRenamer$Parser", name := "whole", desc := "()Ljava/lang/String;" } : Jvm.MethodName)) ∈ lw_all := lw_g (lw_at lw_m9 14 rfl) rfl
theorem q2064 : (Jvm.Cond.code ({ cls := "BatchRenamer$Parser", name := "whole", desc := "()Ljava/lang/String;" } : Jvm.MethodName) prog_8_method_12_code (6 : Nat) (Option.some (Jvm.ClassFile.FieldType.object "java/lang/String"))) ∈ lw_all := lw_g (lw_at lw_m9 15 rfl) rfl
theorem q2104 : (Jvm.Cond.instanceMethod ({ cls := "BatchRenamer$Parser", name := "wholeRule", desc := "()LBatchRenamer$Rule;" } : Jvm.MethodName)) ∈ lw_all := lw_g (lw_at lw_m9 55 rfl) rfl
theorem q2105 : (Jvm.Cond.selects "BatchRenamer$Parser" ({ cls := "BatchRenamer$Parser", name := "wholeRule", desc := "()LBatchRenamer$Rule;" } : Jvm.MethodName) ({ cls := "BatchRenamer$Parser", name := "wholeRule", desc := "()LBatchRenamer$Rule;" } : Jvm.MethodName)) ∈ lw_all := lw_g (lw_at lw_m9 56 rfl) rfl
theorem q2106 : (Jvm.Cond.code ({ cls := "BatchRenamer$Parser", name := "wholeRule", desc := "()LBatchRenamer$Rule;" } : Jvm.MethodName) prog_8_method_11_code (2 : Nat) (Option.some (Jvm.ClassFile.FieldType.object "BatchRenamer$Rule"))) ∈ lw_all := lw_g (lw_at lw_m9 57 rfl) rfl
theorem q2913 : (Jvm.Cond.castable "BatchRenamer$Parser" "java/lang/Object") ∈ lw_tbl := lw_at lw_m12 144 rfl
theorem in_X6 : ∀ w ∈ wsX60, w ∈ lw_all := lw_in wsX60 [1542, 1544, 1546, 1548, 1550, 1552] (by decide +kernel) (by decide +kernel)

/-! BatchRenamer$TextException -/
def RX7 : String := "BatchRenamer$TextException"
def TX7 : u_T := fun k => match k with
  | 0 => ("java/lang/Throwable", "cause", "Ljava/lang/Throwable;", false)
  | 1 => ("java/lang/Throwable", "stackTrace", "[Ljava/lang/StackTraceElement;", false)
  | 2 => ("java/lang/Throwable", "suppressedExceptions", "Ljava/util/List;", false)
  | 3 => ("java/lang/Throwable", "detailMessage", "Ljava/lang/String;", false)
  | 4 => ("java/lang/Throwable", "backtrace", "Ljava/lang/Object;", false)
  | 5 => ("java/lang/Throwable", "depth", "I", false)
  | _ => ("BatchRenamer$TextException", "offset", "I", true)
def tyX7 : Nat → FieldType := fun k => match k with
  | 0 => .object "java/lang/Throwable"
  | 1 => .array (.object "java/lang/StackTraceElement")
  | 2 => .object "java/util/List"
  | 3 => .object "java/lang/String"
  | 4 => .object "java/lang/Object"
  | 5 => .int
  | _ => .int
abbrev wsX70 : List Cond := u_ws RX7 TX7 7
theorem nmX7 : ∀ a, a < 7 → ∀ b, b < 7 → a ≠ b → (TX7 a).2.1 ≠ (TX7 b).2.1 := by decide +kernel
theorem tyX7_ok : ∀ k, k < 7 → parseFieldDescriptor (TX7 k).2.2.1 = some (tyX7 k) := by decide +kernel
abbrev cX7_init : ByteArray := prog_15_method_1_code
def yX7_init : MethodName := ⟨RX7, "<init>", "(I)V"⟩
def dkwX7_init_0 : List UInt8 := [42, 1, 1, 3, 3, 183, 0, 1, 42, 27, 181, 0, 7, 177]
abbrev dktX7_init_0 : List UInt8 := dkwX7_init_0 ++ []
theorem dksX7_init_0 : cX7_init.data.toList.drop 0 = dktX7_init_0 := by decide +kernel
theorem dX7_init_0 : decode cX7_init 0 = .ok (.aload_n 0, 1) := dk_42 (dk_at dksX7_init_0 0 rfl rfl)
theorem dX7_init_1 : decode cX7_init 1 = .ok (.aconst_null, 1) := dk_1 (dk_at dksX7_init_0 1 rfl rfl)
theorem dX7_init_2 : decode cX7_init 2 = .ok (.aconst_null, 1) := dk_1 (dk_at dksX7_init_0 2 rfl rfl)
theorem dX7_init_3 : decode cX7_init 3 = .ok (.iconst 0, 1) := dk_3 (dk_at dksX7_init_0 3 rfl rfl)
theorem dX7_init_4 : decode cX7_init 4 = .ok (.iconst 0, 1) := dk_3 (dk_at dksX7_init_0 4 rfl rfl)
theorem dX7_init_5 : decode cX7_init 5 = .ok (.invokespecial 1, 3) := dk_183 0 1 (dk_at dksX7_init_0 5 rfl rfl)
theorem dX7_init_8 : decode cX7_init 8 = .ok (.aload_n 0, 1) := dk_42 (dk_at dksX7_init_0 8 rfl rfl)
theorem dX7_init_9 : decode cX7_init 9 = .ok (.iload_n 1, 1) := dk_27 (dk_at dksX7_init_0 9 rfl rfl)
theorem dX7_init_10 : decode cX7_init 10 = .ok (.putfield 7, 3) := dk_181 0 7 (dk_at dksX7_init_0 10 rfl rfl)
theorem dX7_init_13 : decode cX7_init 13 = .ok (.return_, 1) := dk_177 (dk_at dksX7_init_0 13 rfl rfl)
theorem q157 : (Jvm.Cond.initialized "BatchRenamer$TextException") ∈ lw_all := lw_g (lw_at lw_m1 28 rfl) rfl
theorem q233 : (Jvm.Cond.selects "BatchRenamer$TextException" ({ cls := "java/lang/Throwable", name := "fillInStackTrace", desc := "()Ljava/lang/Throwable;" } : Jvm.MethodName) ({ cls := "java/lang/Throwable", name := "fillInStackTrace", desc := "()Ljava/lang/Throwable;" } : Jvm.MethodName)) ∈ lw_all := lw_g (lw_at lw_m1 104 rfl) rfl
theorem q835 : (Jvm.Cond.selects "BatchRenamer$TextException" ({ cls := "java/lang/Object", name := "equals", desc := "(Ljava/lang/Object;)Z" } : Jvm.MethodName) ({ cls := "java/lang/Object", name := "equals", desc := "(Ljava/lang/Object;)Z" } : Jvm.MethodName)) ∈ lw_all := lw_g (lw_at lw_m3 226 rfl) rfl
theorem q871 : (Jvm.Cond.selects "BatchRenamer$TextException" ({ cls := "java/lang/Object", name := "getClass", desc := "()Ljava/lang/Class;" } : Jvm.MethodName) ({ cls := "java/lang/Object", name := "getClass", desc := "()Ljava/lang/Class;" } : Jvm.MethodName)) ∈ lw_all := lw_g (lw_at lw_m4 22 rfl) rfl
theorem q1666 : (Jvm.Cond.instantiable "BatchRenamer$TextException" (7 : Nat)) ∈ lw_all := lw_g (lw_at lw_m7 97 rfl) rfl
theorem q1667 : (Jvm.Cond.castable "BatchRenamer$TextException" "BatchRenamer$TextException") ∈ lw_tbl := lw_at lw_m7 98 rfl
theorem q1668 : (Jvm.Cond.selects "BatchRenamer$TextException" ({ cls := "java/lang/Throwable", name := "fillInStackTrace", desc := "(I)Ljava/lang/Throwable;" } : Jvm.MethodName) ({ cls := "java/lang/Throwable", name := "fillInStackTrace", desc := "(I)Ljava/lang/Throwable;" } : Jvm.MethodName)) ∈ lw_all := lw_g (lw_at lw_m7 99 rfl) rfl
theorem q1669 : (Jvm.Cond.lays "BatchRenamer$TextException" "java/lang/Throwable" "cause" "Ljava/lang/Throwable;") ∈ lw_all := lw_g (lw_at lw_m7 100 rfl) rfl
theorem q1670 : (Jvm.Cond.lays "BatchRenamer$TextException" "java/lang/Throwable" "stackTrace" "[Ljava/lang/StackTraceElement;") ∈ lw_all := lw_g (lw_at lw_m7 101 rfl) rfl
theorem q1671 : (Jvm.Cond.lays "BatchRenamer$TextException" "java/lang/Throwable" "suppressedExceptions" "Ljava/util/List;") ∈ lw_all := lw_g (lw_at lw_m7 102 rfl) rfl
theorem q1672 : (Jvm.Cond.lays "BatchRenamer$TextException" "java/lang/Throwable" "detailMessage" "Ljava/lang/String;") ∈ lw_all := lw_g (lw_at lw_m7 103 rfl) rfl
theorem q1673 : (Jvm.Cond.lays "BatchRenamer$TextException" "java/lang/Throwable" "backtrace" "Ljava/lang/Object;") ∈ lw_all := lw_g (lw_at lw_m7 104 rfl) rfl
theorem q1675 : (Jvm.Cond.instanceMethod ({ cls := "BatchRenamer$TextException", name := "<init>", desc := "(I)V" } : Jvm.MethodName)) ∈ lw_all := lw_g (lw_at lw_m7 106 rfl) rfl
theorem q1676 : (Jvm.Cond.code ({ cls := "BatchRenamer$TextException", name := "<init>", desc := "(I)V" } : Jvm.MethodName) prog_15_method_1_code (2 : Nat) (Option.none : Option Jvm.ClassFile.FieldType)) ∈ lw_all := lw_g (lw_at lw_m7 107 rfl) rfl
theorem q1677 : (Jvm.Cond.methodLink "BatchRenamer$TextException" (1 : Nat) ({ cls := "java/lang/Exception", name := "<init>", desc := "(Ljava/lang/String;Ljava/lang/Throwable;ZZ)V" } : Jvm.MethodName)) ∈ lw_all := lw_g (lw_at lw_m7 108 rfl) rfl
theorem q1683 : (Jvm.Cond.fieldLink "BatchRenamer$TextException" (7 : Nat) "BatchRenamer$TextException" "offset" "I") ∈ lw_all := lw_g (lw_at lw_m7 114 rfl) rfl
theorem q1685 : (Jvm.Cond.laysFinal "BatchRenamer$TextException" "BatchRenamer$TextException" "offset" "I") ∈ lw_all := lw_g (lw_at lw_m7 116 rfl) rfl
theorem q1686 : (Jvm.Cond.soleField "BatchRenamer$TextException" "offset") ∈ lw_all := lw_g (lw_at lw_m7 117 rfl) rfl
theorem q1687 : (Jvm.Cond.lays "BatchRenamer$TextException" "java/lang/Throwable" "depth" "I") ∈ lw_all := lw_g (lw_at lw_m7 118 rfl) rfl
theorem q1688 : (Jvm.Cond.superclass "BatchRenamer$TextException" "java/lang/Exception") ∈ lw_all := lw_g (lw_at lw_m7 119 rfl) rfl
theorem q2915 : (Jvm.Cond.castable "BatchRenamer$TextException" "java/lang/Object") ∈ lw_tbl := lw_at lw_m12 146 rfl
theorem in_X7 : ∀ w ∈ wsX70, w ∈ lw_all := lw_in wsX70 [1669, 1670, 1671, 1672, 1673, 1687, 1685] (by decide +kernel) (by decide +kernel)

/-! BatchRenamer$Entry -/
def RX8 : String := "BatchRenamer$Entry"
def TX8 : u_T := fun k => match k with
  | 0 => ("BatchRenamer$Entry", "name", "Ljava/lang/String;", false)
  | _ => ("BatchRenamer$Entry", "isKept", "Z", false)
def tyX8 : Nat → FieldType := fun k => match k with
  | 0 => .object "java/lang/String"
  | _ => .boolean
abbrev wsX80 : List Cond := u_ws RX8 TX8 2
theorem nmX8 : ∀ a, a < 2 → ∀ b, b < 2 → a ≠ b → (TX8 a).2.1 ≠ (TX8 b).2.1 := by decide +kernel
theorem tyX8_ok : ∀ k, k < 2 → parseFieldDescriptor (TX8 k).2.2.1 = some (tyX8 k) := by decide +kernel
abbrev cX8_init : ByteArray := prog_4_method_1_code
def yX8_init : MethodName := ⟨RX8, "<init>", "(Ljava/lang/String;)V"⟩
def dkwX8_init_0 : List UInt8 := [42, 183, 0, 1, 42, 43, 181, 0, 7, 177]
abbrev dktX8_init_0 : List UInt8 := dkwX8_init_0 ++ []
theorem dksX8_init_0 : cX8_init.data.toList.drop 0 = dktX8_init_0 := by decide +kernel
theorem dX8_init_0 : decode cX8_init 0 = .ok (.aload_n 0, 1) := dk_42 (dk_at dksX8_init_0 0 rfl rfl)
theorem dX8_init_1 : decode cX8_init 1 = .ok (.invokespecial 1, 3) := dk_183 0 1 (dk_at dksX8_init_0 1 rfl rfl)
theorem dX8_init_4 : decode cX8_init 4 = .ok (.aload_n 0, 1) := dk_42 (dk_at dksX8_init_0 4 rfl rfl)
theorem dX8_init_5 : decode cX8_init 5 = .ok (.aload_n 1, 1) := dk_43 (dk_at dksX8_init_0 5 rfl rfl)
theorem dX8_init_6 : decode cX8_init 6 = .ok (.putfield 7, 3) := dk_181 0 7 (dk_at dksX8_init_0 6 rfl rfl)
theorem dX8_init_9 : decode cX8_init 9 = .ok (.return_, 1) := dk_177 (dk_at dksX8_init_0 9 rfl rfl)
theorem q159 : (Jvm.Cond.initialized "BatchRenamer$Entry") ∈ lw_all := lw_g (lw_at lw_m1 30 rfl) rfl
theorem q826 : (Jvm.Cond.selects "BatchRenamer$Entry" ({ cls := "java/lang/Object", name := "equals", desc := "(Ljava/lang/Object;)Z" } : Jvm.MethodName) ({ cls := "java/lang/Object", name := "equals", desc := "(Ljava/lang/Object;)Z" } : Jvm.MethodName)) ∈ lw_all := lw_g (lw_at lw_m3 217 rfl) rfl
theorem q862 : (Jvm.Cond.selects "BatchRenamer$Entry" ({ cls := "java/lang/Object", name := "getClass", desc := "()Ljava/lang/Class;" } : Jvm.MethodName) ({ cls := "java/lang/Object", name := "getClass", desc := "()Ljava/lang/Class;" } : Jvm.MethodName)) ∈ lw_all := lw_g (lw_at lw_m4 13 rfl) rfl
theorem q1202 : (Jvm.Cond.instantiable "BatchRenamer$Entry" (2 : Nat)) ∈ lw_all := lw_g (lw_at lw_m5 113 rfl) rfl
theorem q1204 : (Jvm.Cond.instanceMethod ({ cls := "BatchRenamer$Entry", name := "<init>", desc := "(Ljava/lang/String;)V" } : Jvm.MethodName)) ∈ lw_all := lw_g (lw_at lw_m5 115 rfl) rfl
theorem q1205 : (Jvm.Cond.code ({ cls := "BatchRenamer$Entry", name := "<init>", desc := "(Ljava/lang/String;)V" } : Jvm.MethodName) prog_4_method_1_code (2 : Nat) (Option.none : Option Jvm.ClassFile.FieldType)) ∈ lw_all := lw_g (lw_at lw_m5 116 rfl) rfl
theorem q1206 : (Jvm.Cond.methodLink "BatchRenamer$Entry" (1 : Nat) ({ cls := "java/lang/Object", name := "<init>", desc := "()V" } : Jvm.MethodName)) ∈ lw_all := lw_g (lw_at lw_m5 117 rfl) rfl
theorem q1207 : (Jvm.Cond.fieldLink "BatchRenamer$Entry" (7 : Nat) "BatchRenamer$Entry" "name" "Ljava/lang/String;") ∈ lw_all := lw_g (lw_at lw_m5 118 rfl) rfl
theorem q1216 : (Jvm.Cond.lays "BatchRenamer$Entry" "BatchRenamer$Entry" "name" "Ljava/lang/String;") ∈ lw_all := lw_g (lw_at lw_m5 127 rfl) rfl
theorem q1217 : (Jvm.Cond.soleField "BatchRenamer$Entry" "name") ∈ lw_all := lw_g (lw_at lw_m5 128 rfl) rfl
theorem q1218 : (Jvm.Cond.lays "BatchRenamer$Entry" "BatchRenamer$Entry" "isKept" "Z") ∈ lw_all := lw_g (lw_at lw_m5 129 rfl) rfl
theorem q1219 : (Jvm.Cond.soleField "BatchRenamer$Entry" "isKept") ∈ lw_all := lw_g (lw_at lw_m5 130 rfl) rfl
theorem q1220 : (Jvm.Cond.superclass "BatchRenamer$Entry" "java/lang/Object") ∈ lw_all := lw_g (lw_at lw_m5 131 rfl) rfl
theorem q2916 : (Jvm.Cond.castable "BatchRenamer$Entry" "java/lang/Object") ∈ lw_tbl := lw_at lw_m12 147 rfl
theorem in_X8 : ∀ w ∈ wsX80, w ∈ lw_all := lw_in wsX80 [1216, 1218] (by decide +kernel) (by decide +kernel)

/-! BatchRenamer$Rule -/
def RX9 : String := "BatchRenamer$Rule"
def TX9 : u_T := fun k => match k with
  | 0 => ("BatchRenamer$Rule", "pattern", "Ljava/lang/String;", true)
  | 1 => ("BatchRenamer$Rule", "pieces", "[LBatchRenamer$Piece;", true)
  | 2 => ("BatchRenamer$Rule", "size", "I", false)
  | 3 => ("BatchRenamer$Rule", "wildcards", "I", false)
  | _ => ("BatchRenamer$Rule", "by", "I", false)
def tyX9 : Nat → FieldType := fun k => match k with
  | 0 => .object "java/lang/String"
  | 1 => .array (.object "BatchRenamer$Piece")
  | 2 => .int
  | 3 => .int
  | _ => .int
abbrev wsX90 : List Cond := u_ws RX9 TX9 5
theorem nmX9 : ∀ a, a < 5 → ∀ b, b < 5 → a ≠ b → (TX9 a).2.1 ≠ (TX9 b).2.1 := by decide +kernel
theorem tyX9_ok : ∀ k, k < 5 → parseFieldDescriptor (TX9 k).2.2.1 = some (tyX9 k) := by decide +kernel
abbrev cX9_reads : ByteArray := prog_13_method_5_code
def yX9_reads : MethodName := ⟨RX9, "reads", "(LBatchRenamer$Reading;Ljava/lang/String;)Z"⟩
def dkwX9_reads_0 : List UInt8 := [43, 44, 181, 0, 66, 42, 43, 3, 3, 3, 182, 0, 71, 172]
abbrev dktX9_reads_0 : List UInt8 := dkwX9_reads_0 ++ []
theorem dksX9_reads_0 : cX9_reads.data.toList.drop 0 = dktX9_reads_0 := by decide +kernel
theorem dX9_reads_0 : decode cX9_reads 0 = .ok (.aload_n 1, 1) := dk_43 (dk_at dksX9_reads_0 0 rfl rfl)
theorem dX9_reads_1 : decode cX9_reads 1 = .ok (.aload_n 2, 1) := dk_44 (dk_at dksX9_reads_0 1 rfl rfl)
theorem dX9_reads_2 : decode cX9_reads 2 = .ok (.putfield 66, 3) := dk_181 0 66 (dk_at dksX9_reads_0 2 rfl rfl)
theorem dX9_reads_5 : decode cX9_reads 5 = .ok (.aload_n 0, 1) := dk_42 (dk_at dksX9_reads_0 5 rfl rfl)
theorem dX9_reads_6 : decode cX9_reads 6 = .ok (.aload_n 1, 1) := dk_43 (dk_at dksX9_reads_0 6 rfl rfl)
theorem dX9_reads_7 : decode cX9_reads 7 = .ok (.iconst 0, 1) := dk_3 (dk_at dksX9_reads_0 7 rfl rfl)
theorem dX9_reads_8 : decode cX9_reads 8 = .ok (.iconst 0, 1) := dk_3 (dk_at dksX9_reads_0 8 rfl rfl)
theorem dX9_reads_9 : decode cX9_reads 9 = .ok (.iconst 0, 1) := dk_3 (dk_at dksX9_reads_0 9 rfl rfl)
theorem dX9_reads_10 : decode cX9_reads 10 = .ok (.invokevirtual 71, 3) := dk_182 0 71 (dk_at dksX9_reads_0 10 rfl rfl)
theorem dX9_reads_13 : decode cX9_reads 13 = .ok (.ireturn, 1) := dk_172 (dk_at dksX9_reads_0 13 rfl rfl)
abbrev cX9_reads_2 : ByteArray := prog_13_method_6_code
def yX9_reads_2 : MethodName := ⟨RX9, "reads", "(LBatchRenamer$Reading;III)Z"⟩
def dkwX9_reads_2_9 : List UInt8 := [132, 9, 1, 167, 255, 199, 3, 172]
abbrev dktX9_reads_2_9 : List UInt8 := dkwX9_reads_2_9 ++ []
def dkwX9_reads_2_8 : List UInt8 := [153, 0, 23, 43, 180, 0, 75, 21, 8, 21, 7, 79, 43, 180, 0, 79, 21, 8, 21, 9, 79, 4, 172]
abbrev dktX9_reads_2_8 : List UInt8 := dkwX9_reads_2_8 ++ dktX9_reads_2_9
def dkwX9_reads_2_7 : List UInt8 := [182, 0, 25, 163, 0, 50, 42, 43, 21, 6, 4, 96, 21, 7, 21, 9, 96, 21, 8, 4, 96, 182, 0, 71]
abbrev dktX9_reads_2_7 : List UInt8 := dkwX9_reads_2_7 ++ dktX9_reads_2_8
def dkwX9_reads_2_6 : List UInt8 := [182, 0, 25, 160, 0, 7, 4, 167, 0, 4, 3, 172, 3, 54, 9, 21, 7, 21, 9, 96, 25, 5]
abbrev dktX9_reads_2_6 : List UInt8 := dkwX9_reads_2_6 ++ dktX9_reads_2_7
def dkwX9_reads_2_5 : List UInt8 := [132, 7, 1, 167, 255, 154, 21, 6, 42, 180, 0, 21, 182, 0, 25, 160, 0, 19, 21, 7, 25, 5]
abbrev dktX9_reads_2_5 : List UInt8 := dkwX9_reads_2_5 ++ dktX9_reads_2_6
def dkwX9_reads_2_4 : List UInt8 := [180, 0, 21, 21, 6, 182, 0, 34, 25, 5, 21, 7, 182, 0, 34, 159, 0, 5, 3, 172, 132, 6, 1]
abbrev dktX9_reads_2_4 : List UInt8 := dkwX9_reads_2_4 ++ dktX9_reads_2_5
def dkwX9_reads_2_3 : List UInt8 := [180, 0, 75, 21, 8, 21, 7, 79, 43, 180, 0, 79, 21, 8, 4, 79, 132, 8, 1, 167, 0, 24, 42]
abbrev dktX9_reads_2_3 : List UInt8 := dkwX9_reads_2_3 ++ dktX9_reads_2_4
def dkwX9_reads_2_2 : List UInt8 := [182, 0, 25, 160, 0, 5, 3, 172, 42, 180, 0, 21, 21, 6, 182, 0, 34, 16, 63, 160, 0, 26, 43]
abbrev dktX9_reads_2_2 : List UInt8 := dkwX9_reads_2_2 ++ dktX9_reads_2_3
def dkwX9_reads_2_1 : List UInt8 := [182, 0, 25, 162, 0, 96, 42, 180, 0, 21, 21, 6, 182, 0, 34, 16, 42, 159, 0, 82, 21, 7, 25, 5]
abbrev dktX9_reads_2_1 : List UInt8 := dkwX9_reads_2_1 ++ dktX9_reads_2_2
def dkwX9_reads_2_0 : List UInt8 := [43, 180, 0, 66, 58, 5, 28, 54, 6, 29, 54, 7, 21, 4, 54, 8, 21, 6, 42, 180, 0, 21]
abbrev dktX9_reads_2_0 : List UInt8 := dkwX9_reads_2_0 ++ dktX9_reads_2_1
theorem dksX9_reads_2_0 : cX9_reads_2.data.toList.drop 0 = dktX9_reads_2_0 := by decide +kernel
theorem dksX9_reads_2_1 : cX9_reads_2.data.toList.drop 22 = dktX9_reads_2_1 := dk_seg dksX9_reads_2_0 22 rfl rfl
theorem dksX9_reads_2_2 : cX9_reads_2.data.toList.drop 46 = dktX9_reads_2_2 := dk_seg dksX9_reads_2_1 24 rfl rfl
theorem dksX9_reads_2_3 : cX9_reads_2.data.toList.drop 69 = dktX9_reads_2_3 := dk_seg dksX9_reads_2_2 23 rfl rfl
theorem dksX9_reads_2_4 : cX9_reads_2.data.toList.drop 92 = dktX9_reads_2_4 := dk_seg dksX9_reads_2_3 23 rfl rfl
theorem dksX9_reads_2_5 : cX9_reads_2.data.toList.drop 115 = dktX9_reads_2_5 := dk_seg dksX9_reads_2_4 23 rfl rfl
theorem dksX9_reads_2_6 : cX9_reads_2.data.toList.drop 137 = dktX9_reads_2_6 := dk_seg dksX9_reads_2_5 22 rfl rfl
theorem dksX9_reads_2_7 : cX9_reads_2.data.toList.drop 159 = dktX9_reads_2_7 := dk_seg dksX9_reads_2_6 22 rfl rfl
theorem dksX9_reads_2_8 : cX9_reads_2.data.toList.drop 183 = dktX9_reads_2_8 := dk_seg dksX9_reads_2_7 24 rfl rfl
theorem dksX9_reads_2_9 : cX9_reads_2.data.toList.drop 206 = dktX9_reads_2_9 := dk_seg dksX9_reads_2_8 23 rfl rfl
theorem dX9_reads_2_0 : decode cX9_reads_2 0 = .ok (.aload_n 1, 1) := dk_43 (dk_at dksX9_reads_2_0 0 rfl rfl)
theorem dX9_reads_2_1 : decode cX9_reads_2 1 = .ok (.getfield 66, 3) := dk_180 0 66 (dk_at dksX9_reads_2_0 1 rfl rfl)
theorem dX9_reads_2_4 : decode cX9_reads_2 4 = .ok (.astore 5, 2) := dk_58 5 (dk_at dksX9_reads_2_0 4 rfl rfl)
theorem dX9_reads_2_6 : decode cX9_reads_2 6 = .ok (.iload_n 2, 1) := dk_28 (dk_at dksX9_reads_2_0 6 rfl rfl)
theorem dX9_reads_2_7 : decode cX9_reads_2 7 = .ok (.istore 6, 2) := dk_54 6 (dk_at dksX9_reads_2_0 7 rfl rfl)
theorem dX9_reads_2_9 : decode cX9_reads_2 9 = .ok (.iload_n 3, 1) := dk_29 (dk_at dksX9_reads_2_0 9 rfl rfl)
theorem dX9_reads_2_10 : decode cX9_reads_2 10 = .ok (.istore 7, 2) := dk_54 7 (dk_at dksX9_reads_2_0 10 rfl rfl)
theorem dX9_reads_2_12 : decode cX9_reads_2 12 = .ok (.iload 4, 2) := dk_21 4 (dk_at dksX9_reads_2_0 12 rfl rfl)
theorem dX9_reads_2_14 : decode cX9_reads_2 14 = .ok (.istore 8, 2) := dk_54 8 (dk_at dksX9_reads_2_0 14 rfl rfl)
theorem dX9_reads_2_16 : decode cX9_reads_2 16 = .ok (.iload 6, 2) := dk_21 6 (dk_at dksX9_reads_2_0 16 rfl rfl)
theorem dX9_reads_2_18 : decode cX9_reads_2 18 = .ok (.aload_n 0, 1) := dk_42 (dk_at dksX9_reads_2_0 18 rfl rfl)
theorem dX9_reads_2_19 : decode cX9_reads_2 19 = .ok (.getfield 21, 3) := dk_180 0 21 (dk_at dksX9_reads_2_0 19 rfl rfl)
theorem dX9_reads_2_22 : decode cX9_reads_2 22 = .ok (.invokevirtual 25, 3) := dk_182 0 25 (dk_at dksX9_reads_2_1 0 rfl rfl)
theorem dX9_reads_2_25 : decode cX9_reads_2 25 = .ok (.if_icmp .ge 96, 3) := dk_162 0 96 (dk_at dksX9_reads_2_1 3 rfl rfl)
theorem dX9_reads_2_28 : decode cX9_reads_2 28 = .ok (.aload_n 0, 1) := dk_42 (dk_at dksX9_reads_2_1 6 rfl rfl)
theorem dX9_reads_2_29 : decode cX9_reads_2 29 = .ok (.getfield 21, 3) := dk_180 0 21 (dk_at dksX9_reads_2_1 7 rfl rfl)
theorem dX9_reads_2_32 : decode cX9_reads_2 32 = .ok (.iload 6, 2) := dk_21 6 (dk_at dksX9_reads_2_1 10 rfl rfl)
theorem dX9_reads_2_34 : decode cX9_reads_2 34 = .ok (.invokevirtual 34, 3) := dk_182 0 34 (dk_at dksX9_reads_2_1 12 rfl rfl)
theorem dX9_reads_2_37 : decode cX9_reads_2 37 = .ok (.bipush 42, 2) := dk_16 42 (dk_at dksX9_reads_2_1 15 rfl rfl)
theorem dX9_reads_2_39 : decode cX9_reads_2 39 = .ok (.if_icmp .eq 82, 3) := dk_159 0 82 (dk_at dksX9_reads_2_1 17 rfl rfl)
theorem dX9_reads_2_42 : decode cX9_reads_2 42 = .ok (.iload 7, 2) := dk_21 7 (dk_at dksX9_reads_2_1 20 rfl rfl)
theorem dX9_reads_2_44 : decode cX9_reads_2 44 = .ok (.aload 5, 2) := dk_25 5 (dk_at dksX9_reads_2_1 22 rfl rfl)
theorem dX9_reads_2_46 : decode cX9_reads_2 46 = .ok (.invokevirtual 25, 3) := dk_182 0 25 (dk_at dksX9_reads_2_2 0 rfl rfl)
theorem dX9_reads_2_49 : decode cX9_reads_2 49 = .ok (.if_icmp .ne 5, 3) := dk_160 0 5 (dk_at dksX9_reads_2_2 3 rfl rfl)
theorem dX9_reads_2_52 : decode cX9_reads_2 52 = .ok (.iconst 0, 1) := dk_3 (dk_at dksX9_reads_2_2 6 rfl rfl)
theorem dX9_reads_2_53 : decode cX9_reads_2 53 = .ok (.ireturn, 1) := dk_172 (dk_at dksX9_reads_2_2 7 rfl rfl)
theorem dX9_reads_2_54 : decode cX9_reads_2 54 = .ok (.aload_n 0, 1) := dk_42 (dk_at dksX9_reads_2_2 8 rfl rfl)
theorem dX9_reads_2_55 : decode cX9_reads_2 55 = .ok (.getfield 21, 3) := dk_180 0 21 (dk_at dksX9_reads_2_2 9 rfl rfl)
theorem dX9_reads_2_58 : decode cX9_reads_2 58 = .ok (.iload 6, 2) := dk_21 6 (dk_at dksX9_reads_2_2 12 rfl rfl)
theorem dX9_reads_2_60 : decode cX9_reads_2 60 = .ok (.invokevirtual 34, 3) := dk_182 0 34 (dk_at dksX9_reads_2_2 14 rfl rfl)
theorem dX9_reads_2_63 : decode cX9_reads_2 63 = .ok (.bipush 63, 2) := dk_16 63 (dk_at dksX9_reads_2_2 17 rfl rfl)
theorem dX9_reads_2_65 : decode cX9_reads_2 65 = .ok (.if_icmp .ne 26, 3) := dk_160 0 26 (dk_at dksX9_reads_2_2 19 rfl rfl)
theorem dX9_reads_2_68 : decode cX9_reads_2 68 = .ok (.aload_n 1, 1) := dk_43 (dk_at dksX9_reads_2_2 22 rfl rfl)
theorem dX9_reads_2_69 : decode cX9_reads_2 69 = .ok (.getfield 75, 3) := dk_180 0 75 (dk_at dksX9_reads_2_3 0 rfl rfl)
theorem dX9_reads_2_72 : decode cX9_reads_2 72 = .ok (.iload 8, 2) := dk_21 8 (dk_at dksX9_reads_2_3 3 rfl rfl)
theorem dX9_reads_2_74 : decode cX9_reads_2 74 = .ok (.iload 7, 2) := dk_21 7 (dk_at dksX9_reads_2_3 5 rfl rfl)
theorem dX9_reads_2_76 : decode cX9_reads_2 76 = .ok (.iastore, 1) := dk_79 (dk_at dksX9_reads_2_3 7 rfl rfl)
theorem dX9_reads_2_77 : decode cX9_reads_2 77 = .ok (.aload_n 1, 1) := dk_43 (dk_at dksX9_reads_2_3 8 rfl rfl)
theorem dX9_reads_2_78 : decode cX9_reads_2 78 = .ok (.getfield 79, 3) := dk_180 0 79 (dk_at dksX9_reads_2_3 9 rfl rfl)
theorem dX9_reads_2_81 : decode cX9_reads_2 81 = .ok (.iload 8, 2) := dk_21 8 (dk_at dksX9_reads_2_3 12 rfl rfl)
theorem dX9_reads_2_83 : decode cX9_reads_2 83 = .ok (.iconst 1, 1) := dk_4 (dk_at dksX9_reads_2_3 14 rfl rfl)
theorem dX9_reads_2_84 : decode cX9_reads_2 84 = .ok (.iastore, 1) := dk_79 (dk_at dksX9_reads_2_3 15 rfl rfl)
theorem dX9_reads_2_85 : decode cX9_reads_2 85 = .ok (.iinc 8 1, 3) := dk_132 8 1 (dk_at dksX9_reads_2_3 16 rfl rfl)
theorem dX9_reads_2_88 : decode cX9_reads_2 88 = .ok (.goto 24, 3) := dk_167 0 24 (dk_at dksX9_reads_2_3 19 rfl rfl)
theorem dX9_reads_2_91 : decode cX9_reads_2 91 = .ok (.aload_n 0, 1) := dk_42 (dk_at dksX9_reads_2_3 22 rfl rfl)
theorem dX9_reads_2_92 : decode cX9_reads_2 92 = .ok (.getfield 21, 3) := dk_180 0 21 (dk_at dksX9_reads_2_4 0 rfl rfl)
theorem dX9_reads_2_95 : decode cX9_reads_2 95 = .ok (.iload 6, 2) := dk_21 6 (dk_at dksX9_reads_2_4 3 rfl rfl)
theorem dX9_reads_2_97 : decode cX9_reads_2 97 = .ok (.invokevirtual 34, 3) := dk_182 0 34 (dk_at dksX9_reads_2_4 5 rfl rfl)
theorem dX9_reads_2_100 : decode cX9_reads_2 100 = .ok (.aload 5, 2) := dk_25 5 (dk_at dksX9_reads_2_4 8 rfl rfl)
theorem dX9_reads_2_102 : decode cX9_reads_2 102 = .ok (.iload 7, 2) := dk_21 7 (dk_at dksX9_reads_2_4 10 rfl rfl)
theorem dX9_reads_2_104 : decode cX9_reads_2 104 = .ok (.invokevirtual 34, 3) := dk_182 0 34 (dk_at dksX9_reads_2_4 12 rfl rfl)
theorem dX9_reads_2_107 : decode cX9_reads_2 107 = .ok (.if_icmp .eq 5, 3) := dk_159 0 5 (dk_at dksX9_reads_2_4 15 rfl rfl)
theorem dX9_reads_2_110 : decode cX9_reads_2 110 = .ok (.iconst 0, 1) := dk_3 (dk_at dksX9_reads_2_4 18 rfl rfl)
theorem dX9_reads_2_111 : decode cX9_reads_2 111 = .ok (.ireturn, 1) := dk_172 (dk_at dksX9_reads_2_4 19 rfl rfl)
theorem dX9_reads_2_112 : decode cX9_reads_2 112 = .ok (.iinc 6 1, 3) := dk_132 6 1 (dk_at dksX9_reads_2_4 20 rfl rfl)
theorem dX9_reads_2_115 : decode cX9_reads_2 115 = .ok (.iinc 7 1, 3) := dk_132 7 1 (dk_at dksX9_reads_2_5 0 rfl rfl)
theorem dX9_reads_2_118 : decode cX9_reads_2 118 = .ok (.goto (-102), 3) := dk_167 255 154 (dk_at dksX9_reads_2_5 3 rfl rfl)
theorem dX9_reads_2_121 : decode cX9_reads_2 121 = .ok (.iload 6, 2) := dk_21 6 (dk_at dksX9_reads_2_5 6 rfl rfl)
theorem dX9_reads_2_123 : decode cX9_reads_2 123 = .ok (.aload_n 0, 1) := dk_42 (dk_at dksX9_reads_2_5 8 rfl rfl)
theorem dX9_reads_2_124 : decode cX9_reads_2 124 = .ok (.getfield 21, 3) := dk_180 0 21 (dk_at dksX9_reads_2_5 9 rfl rfl)
theorem dX9_reads_2_127 : decode cX9_reads_2 127 = .ok (.invokevirtual 25, 3) := dk_182 0 25 (dk_at dksX9_reads_2_5 12 rfl rfl)
theorem dX9_reads_2_130 : decode cX9_reads_2 130 = .ok (.if_icmp .ne 19, 3) := dk_160 0 19 (dk_at dksX9_reads_2_5 15 rfl rfl)
theorem dX9_reads_2_133 : decode cX9_reads_2 133 = .ok (.iload 7, 2) := dk_21 7 (dk_at dksX9_reads_2_5 18 rfl rfl)
theorem dX9_reads_2_135 : decode cX9_reads_2 135 = .ok (.aload 5, 2) := dk_25 5 (dk_at dksX9_reads_2_5 20 rfl rfl)
theorem dX9_reads_2_137 : decode cX9_reads_2 137 = .ok (.invokevirtual 25, 3) := dk_182 0 25 (dk_at dksX9_reads_2_6 0 rfl rfl)
theorem dX9_reads_2_140 : decode cX9_reads_2 140 = .ok (.if_icmp .ne 7, 3) := dk_160 0 7 (dk_at dksX9_reads_2_6 3 rfl rfl)
theorem dX9_reads_2_143 : decode cX9_reads_2 143 = .ok (.iconst 1, 1) := dk_4 (dk_at dksX9_reads_2_6 6 rfl rfl)
theorem dX9_reads_2_144 : decode cX9_reads_2 144 = .ok (.goto 4, 3) := dk_167 0 4 (dk_at dksX9_reads_2_6 7 rfl rfl)
theorem dX9_reads_2_147 : decode cX9_reads_2 147 = .ok (.iconst 0, 1) := dk_3 (dk_at dksX9_reads_2_6 10 rfl rfl)
theorem dX9_reads_2_148 : decode cX9_reads_2 148 = .ok (.ireturn, 1) := dk_172 (dk_at dksX9_reads_2_6 11 rfl rfl)
theorem dX9_reads_2_149 : decode cX9_reads_2 149 = .ok (.iconst 0, 1) := dk_3 (dk_at dksX9_reads_2_6 12 rfl rfl)
theorem dX9_reads_2_150 : decode cX9_reads_2 150 = .ok (.istore 9, 2) := dk_54 9 (dk_at dksX9_reads_2_6 13 rfl rfl)
theorem dX9_reads_2_152 : decode cX9_reads_2 152 = .ok (.iload 7, 2) := dk_21 7 (dk_at dksX9_reads_2_6 15 rfl rfl)
theorem dX9_reads_2_154 : decode cX9_reads_2 154 = .ok (.iload 9, 2) := dk_21 9 (dk_at dksX9_reads_2_6 17 rfl rfl)
theorem dX9_reads_2_156 : decode cX9_reads_2 156 = .ok (.iadd, 1) := dk_96 (dk_at dksX9_reads_2_6 19 rfl rfl)
theorem dX9_reads_2_157 : decode cX9_reads_2 157 = .ok (.aload 5, 2) := dk_25 5 (dk_at dksX9_reads_2_6 20 rfl rfl)
theorem dX9_reads_2_159 : decode cX9_reads_2 159 = .ok (.invokevirtual 25, 3) := dk_182 0 25 (dk_at dksX9_reads_2_7 0 rfl rfl)
theorem dX9_reads_2_162 : decode cX9_reads_2 162 = .ok (.if_icmp .gt 50, 3) := dk_163 0 50 (dk_at dksX9_reads_2_7 3 rfl rfl)
theorem dX9_reads_2_165 : decode cX9_reads_2 165 = .ok (.aload_n 0, 1) := dk_42 (dk_at dksX9_reads_2_7 6 rfl rfl)
theorem dX9_reads_2_166 : decode cX9_reads_2 166 = .ok (.aload_n 1, 1) := dk_43 (dk_at dksX9_reads_2_7 7 rfl rfl)
theorem dX9_reads_2_167 : decode cX9_reads_2 167 = .ok (.iload 6, 2) := dk_21 6 (dk_at dksX9_reads_2_7 8 rfl rfl)
theorem dX9_reads_2_169 : decode cX9_reads_2 169 = .ok (.iconst 1, 1) := dk_4 (dk_at dksX9_reads_2_7 10 rfl rfl)
theorem dX9_reads_2_170 : decode cX9_reads_2 170 = .ok (.iadd, 1) := dk_96 (dk_at dksX9_reads_2_7 11 rfl rfl)
theorem dX9_reads_2_171 : decode cX9_reads_2 171 = .ok (.iload 7, 2) := dk_21 7 (dk_at dksX9_reads_2_7 12 rfl rfl)
theorem dX9_reads_2_173 : decode cX9_reads_2 173 = .ok (.iload 9, 2) := dk_21 9 (dk_at dksX9_reads_2_7 14 rfl rfl)
theorem dX9_reads_2_175 : decode cX9_reads_2 175 = .ok (.iadd, 1) := dk_96 (dk_at dksX9_reads_2_7 16 rfl rfl)
theorem dX9_reads_2_176 : decode cX9_reads_2 176 = .ok (.iload 8, 2) := dk_21 8 (dk_at dksX9_reads_2_7 17 rfl rfl)
theorem dX9_reads_2_178 : decode cX9_reads_2 178 = .ok (.iconst 1, 1) := dk_4 (dk_at dksX9_reads_2_7 19 rfl rfl)
theorem dX9_reads_2_179 : decode cX9_reads_2 179 = .ok (.iadd, 1) := dk_96 (dk_at dksX9_reads_2_7 20 rfl rfl)
theorem dX9_reads_2_180 : decode cX9_reads_2 180 = .ok (.invokevirtual 71, 3) := dk_182 0 71 (dk_at dksX9_reads_2_7 21 rfl rfl)
theorem dX9_reads_2_183 : decode cX9_reads_2 183 = .ok (.ifCond .eq 23, 3) := dk_153 0 23 (dk_at dksX9_reads_2_8 0 rfl rfl)
theorem dX9_reads_2_186 : decode cX9_reads_2 186 = .ok (.aload_n 1, 1) := dk_43 (dk_at dksX9_reads_2_8 3 rfl rfl)
theorem dX9_reads_2_187 : decode cX9_reads_2 187 = .ok (.getfield 75, 3) := dk_180 0 75 (dk_at dksX9_reads_2_8 4 rfl rfl)
theorem dX9_reads_2_190 : decode cX9_reads_2 190 = .ok (.iload 8, 2) := dk_21 8 (dk_at dksX9_reads_2_8 7 rfl rfl)
theorem dX9_reads_2_192 : decode cX9_reads_2 192 = .ok (.iload 7, 2) := dk_21 7 (dk_at dksX9_reads_2_8 9 rfl rfl)
theorem dX9_reads_2_194 : decode cX9_reads_2 194 = .ok (.iastore, 1) := dk_79 (dk_at dksX9_reads_2_8 11 rfl rfl)
theorem dX9_reads_2_195 : decode cX9_reads_2 195 = .ok (.aload_n 1, 1) := dk_43 (dk_at dksX9_reads_2_8 12 rfl rfl)
theorem dX9_reads_2_196 : decode cX9_reads_2 196 = .ok (.getfield 79, 3) := dk_180 0 79 (dk_at dksX9_reads_2_8 13 rfl rfl)
theorem dX9_reads_2_199 : decode cX9_reads_2 199 = .ok (.iload 8, 2) := dk_21 8 (dk_at dksX9_reads_2_8 16 rfl rfl)
theorem dX9_reads_2_201 : decode cX9_reads_2 201 = .ok (.iload 9, 2) := dk_21 9 (dk_at dksX9_reads_2_8 18 rfl rfl)
theorem dX9_reads_2_203 : decode cX9_reads_2 203 = .ok (.iastore, 1) := dk_79 (dk_at dksX9_reads_2_8 20 rfl rfl)
theorem dX9_reads_2_204 : decode cX9_reads_2 204 = .ok (.iconst 1, 1) := dk_4 (dk_at dksX9_reads_2_8 21 rfl rfl)
theorem dX9_reads_2_205 : decode cX9_reads_2 205 = .ok (.ireturn, 1) := dk_172 (dk_at dksX9_reads_2_8 22 rfl rfl)
theorem dX9_reads_2_206 : decode cX9_reads_2 206 = .ok (.iinc 9 1, 3) := dk_132 9 1 (dk_at dksX9_reads_2_9 0 rfl rfl)
theorem dX9_reads_2_209 : decode cX9_reads_2 209 = .ok (.goto (-57), 3) := dk_167 255 199 (dk_at dksX9_reads_2_9 3 rfl rfl)
theorem dX9_reads_2_212 : decode cX9_reads_2 212 = .ok (.iconst 0, 1) := dk_3 (dk_at dksX9_reads_2_9 6 rfl rfl)
theorem dX9_reads_2_213 : decode cX9_reads_2 213 = .ok (.ireturn, 1) := dk_172 (dk_at dksX9_reads_2_9 7 rfl rfl)
abbrev cX9_group : ByteArray := prog_13_method_8_code
def yX9_group : MethodName := ⟨RX9, "group", "(LBatchRenamer$Reading;)Ljava/lang/String;"⟩
def dkwX9_group_0 : List UInt8 := [42, 180, 0, 17, 2, 160, 0, 8, 18, 96, 167, 0, 11, 43, 42, 180, 0, 17, 182, 0, 98, 176]
abbrev dktX9_group_0 : List UInt8 := dkwX9_group_0 ++ []
theorem dksX9_group_0 : cX9_group.data.toList.drop 0 = dktX9_group_0 := by decide +kernel
theorem dX9_group_0 : decode cX9_group 0 = .ok (.aload_n 0, 1) := dk_42 (dk_at dksX9_group_0 0 rfl rfl)
theorem dX9_group_1 : decode cX9_group 1 = .ok (.getfield 17, 3) := dk_180 0 17 (dk_at dksX9_group_0 1 rfl rfl)
theorem dX9_group_4 : decode cX9_group 4 = .ok (.iconst (-1), 1) := dk_2 (dk_at dksX9_group_0 4 rfl rfl)
theorem dX9_group_5 : decode cX9_group 5 = .ok (.if_icmp .ne 8, 3) := dk_160 0 8 (dk_at dksX9_group_0 5 rfl rfl)
theorem dX9_group_8 : decode cX9_group 8 = .ok (.ldc 96, 2) := dk_18 96 (dk_at dksX9_group_0 8 rfl rfl)
theorem dX9_group_10 : decode cX9_group 10 = .ok (.goto 11, 3) := dk_167 0 11 (dk_at dksX9_group_0 10 rfl rfl)
theorem dX9_group_13 : decode cX9_group 13 = .ok (.aload_n 1, 1) := dk_43 (dk_at dksX9_group_0 13 rfl rfl)
theorem dX9_group_14 : decode cX9_group 14 = .ok (.aload_n 0, 1) := dk_42 (dk_at dksX9_group_0 14 rfl rfl)
theorem dX9_group_15 : decode cX9_group 15 = .ok (.getfield 17, 3) := dk_180 0 17 (dk_at dksX9_group_0 15 rfl rfl)
theorem dX9_group_18 : decode cX9_group 18 = .ok (.invokevirtual 98, 3) := dk_182 0 98 (dk_at dksX9_group_0 18 rfl rfl)
theorem dX9_group_21 : decode cX9_group 21 = .ok (.areturn, 1) := dk_176 (dk_at dksX9_group_0 21 rfl rfl)
abbrev cX9_written : ByteArray := prog_13_method_7_code
def yX9_written : MethodName := ⟨RX9, "written", "(Ljava/lang/StringBuilder;LBatchRenamer$Reading;I)Ljava/lang/String;"⟩
def dkwX9_written_2 : List UInt8 := [182, 0, 88, 29, 164, 0, 10, 43, 29, 4, 96, 182, 0, 82, 43, 182, 0, 92, 176]
abbrev dktX9_written_2 : List UInt8 := dkwX9_written_2 ++ []
def dkwX9_written_1 : List UInt8 := [163, 0, 23, 42, 180, 0, 11, 21, 4, 50, 43, 44, 185, 0, 89, 3, 0, 132, 4, 1, 167, 255, 222, 43]
abbrev dktX9_written_1 : List UInt8 := dkwX9_written_1 ++ dktX9_written_2
def dkwX9_written_0 : List UInt8 := [43, 3, 182, 0, 82, 3, 54, 4, 21, 4, 42, 180, 0, 38, 162, 0, 31, 43, 182, 0, 88, 29]
abbrev dktX9_written_0 : List UInt8 := dkwX9_written_0 ++ dktX9_written_1
theorem dksX9_written_0 : cX9_written.data.toList.drop 0 = dktX9_written_0 := by decide +kernel
theorem dksX9_written_1 : cX9_written.data.toList.drop 22 = dktX9_written_1 := dk_seg dksX9_written_0 22 rfl rfl
theorem dksX9_written_2 : cX9_written.data.toList.drop 46 = dktX9_written_2 := dk_seg dksX9_written_1 24 rfl rfl
theorem dX9_written_0 : decode cX9_written 0 = .ok (.aload_n 1, 1) := dk_43 (dk_at dksX9_written_0 0 rfl rfl)
theorem dX9_written_1 : decode cX9_written 1 = .ok (.iconst 0, 1) := dk_3 (dk_at dksX9_written_0 1 rfl rfl)
theorem dX9_written_2 : decode cX9_written 2 = .ok (.invokevirtual 82, 3) := dk_182 0 82 (dk_at dksX9_written_0 2 rfl rfl)
theorem dX9_written_5 : decode cX9_written 5 = .ok (.iconst 0, 1) := dk_3 (dk_at dksX9_written_0 5 rfl rfl)
theorem dX9_written_6 : decode cX9_written 6 = .ok (.istore 4, 2) := dk_54 4 (dk_at dksX9_written_0 6 rfl rfl)
theorem dX9_written_8 : decode cX9_written 8 = .ok (.iload 4, 2) := dk_21 4 (dk_at dksX9_written_0 8 rfl rfl)
theorem dX9_written_10 : decode cX9_written 10 = .ok (.aload_n 0, 1) := dk_42 (dk_at dksX9_written_0 10 rfl rfl)
theorem dX9_written_11 : decode cX9_written 11 = .ok (.getfield 38, 3) := dk_180 0 38 (dk_at dksX9_written_0 11 rfl rfl)
theorem dX9_written_14 : decode cX9_written 14 = .ok (.if_icmp .ge 31, 3) := dk_162 0 31 (dk_at dksX9_written_0 14 rfl rfl)
theorem dX9_written_17 : decode cX9_written 17 = .ok (.aload_n 1, 1) := dk_43 (dk_at dksX9_written_0 17 rfl rfl)
theorem dX9_written_18 : decode cX9_written 18 = .ok (.invokevirtual 88, 3) := dk_182 0 88 (dk_at dksX9_written_0 18 rfl rfl)
theorem dX9_written_21 : decode cX9_written 21 = .ok (.iload_n 3, 1) := dk_29 (dk_at dksX9_written_0 21 rfl rfl)
theorem dX9_written_22 : decode cX9_written 22 = .ok (.if_icmp .gt 23, 3) := dk_163 0 23 (dk_at dksX9_written_1 0 rfl rfl)
theorem dX9_written_25 : decode cX9_written 25 = .ok (.aload_n 0, 1) := dk_42 (dk_at dksX9_written_1 3 rfl rfl)
theorem dX9_written_26 : decode cX9_written 26 = .ok (.getfield 11, 3) := dk_180 0 11 (dk_at dksX9_written_1 4 rfl rfl)
theorem dX9_written_29 : decode cX9_written 29 = .ok (.iload 4, 2) := dk_21 4 (dk_at dksX9_written_1 7 rfl rfl)
theorem dX9_written_31 : decode cX9_written 31 = .ok (.aaload, 1) := dk_50 (dk_at dksX9_written_1 9 rfl rfl)
theorem dX9_written_32 : decode cX9_written 32 = .ok (.aload_n 1, 1) := dk_43 (dk_at dksX9_written_1 10 rfl rfl)
theorem dX9_written_33 : decode cX9_written 33 = .ok (.aload_n 2, 1) := dk_44 (dk_at dksX9_written_1 11 rfl rfl)
theorem dX9_written_34 : decode cX9_written 34 = .ok (.invokeinterface 89 3, 5) := by decide +kernel
theorem dX9_written_39 : decode cX9_written 39 = .ok (.iinc 4 1, 3) := dk_132 4 1 (dk_at dksX9_written_1 17 rfl rfl)
theorem dX9_written_42 : decode cX9_written 42 = .ok (.goto (-34), 3) := dk_167 255 222 (dk_at dksX9_written_1 20 rfl rfl)
theorem dX9_written_45 : decode cX9_written 45 = .ok (.aload_n 1, 1) := dk_43 (dk_at dksX9_written_1 23 rfl rfl)
theorem dX9_written_46 : decode cX9_written 46 = .ok (.invokevirtual 88, 3) := dk_182 0 88 (dk_at dksX9_written_2 0 rfl rfl)
theorem dX9_written_49 : decode cX9_written 49 = .ok (.iload_n 3, 1) := dk_29 (dk_at dksX9_written_2 3 rfl rfl)
theorem dX9_written_50 : decode cX9_written 50 = .ok (.if_icmp .le 10, 3) := dk_164 0 10 (dk_at dksX9_written_2 4 rfl rfl)
theorem dX9_written_53 : decode cX9_written 53 = .ok (.aload_n 1, 1) := dk_43 (dk_at dksX9_written_2 7 rfl rfl)
theorem dX9_written_54 : decode cX9_written 54 = .ok (.iload_n 3, 1) := dk_29 (dk_at dksX9_written_2 8 rfl rfl)
theorem dX9_written_55 : decode cX9_written 55 = .ok (.iconst 1, 1) := dk_4 (dk_at dksX9_written_2 9 rfl rfl)
theorem dX9_written_56 : decode cX9_written 56 = .ok (.iadd, 1) := dk_96 (dk_at dksX9_written_2 10 rfl rfl)
theorem dX9_written_57 : decode cX9_written 57 = .ok (.invokevirtual 82, 3) := dk_182 0 82 (dk_at dksX9_written_2 11 rfl rfl)
theorem dX9_written_60 : decode cX9_written 60 = .ok (.aload_n 1, 1) := dk_43 (dk_at dksX9_written_2 14 rfl rfl)
theorem dX9_written_61 : decode cX9_written 61 = .ok (.invokevirtual 92, 3) := dk_182 0 92 (dk_at dksX9_written_2 15 rfl rfl)
theorem dX9_written_64 : decode cX9_written 64 = .ok (.areturn, 1) := dk_176 (dk_at dksX9_written_2 18 rfl rfl)
abbrev cX9_init : ByteArray := prog_13_method_1_code
def yX9_init : MethodName := ⟨RX9, "<init>", "(Ljava/lang/String;)V"⟩
def dkwX9_init_3 : List UInt8 := [167, 255, 211, 177]
abbrev dktX9_init_3 : List UInt8 := dkwX9_init_3 ++ []
def dkwX9_init_2 : List UInt8 := [43, 28, 182, 0, 34, 16, 63, 160, 0, 7, 4, 167, 0, 4, 3, 96, 181, 0, 31, 132, 2, 1]
abbrev dktX9_init_2 : List UInt8 := dkwX9_init_2 ++ dktX9_init_3
def dkwX9_init_1 : List UInt8 := [61, 28, 43, 182, 0, 25, 162, 0, 43, 42, 89, 180, 0, 31, 43, 28, 182, 0, 34, 16, 42, 159, 0, 13]
abbrev dktX9_init_1 : List UInt8 := dkwX9_init_1 ++ dktX9_init_2
def dkwX9_init_0 : List UInt8 := [42, 183, 0, 3, 42, 16, 16, 189, 0, 9, 181, 0, 11, 42, 2, 181, 0, 17, 42, 43, 181, 0, 21, 3]
abbrev dktX9_init_0 : List UInt8 := dkwX9_init_0 ++ dktX9_init_1
theorem dksX9_init_0 : cX9_init.data.toList.drop 0 = dktX9_init_0 := by decide +kernel
theorem dksX9_init_1 : cX9_init.data.toList.drop 24 = dktX9_init_1 := dk_seg dksX9_init_0 24 rfl rfl
theorem dksX9_init_2 : cX9_init.data.toList.drop 48 = dktX9_init_2 := dk_seg dksX9_init_1 24 rfl rfl
theorem dksX9_init_3 : cX9_init.data.toList.drop 70 = dktX9_init_3 := dk_seg dksX9_init_2 22 rfl rfl
theorem dX9_init_0 : decode cX9_init 0 = .ok (.aload_n 0, 1) := dk_42 (dk_at dksX9_init_0 0 rfl rfl)
theorem dX9_init_1 : decode cX9_init 1 = .ok (.invokespecial 3, 3) := dk_183 0 3 (dk_at dksX9_init_0 1 rfl rfl)
theorem dX9_init_4 : decode cX9_init 4 = .ok (.aload_n 0, 1) := dk_42 (dk_at dksX9_init_0 4 rfl rfl)
theorem dX9_init_5 : decode cX9_init 5 = .ok (.bipush 16, 2) := dk_16 16 (dk_at dksX9_init_0 5 rfl rfl)
theorem dX9_init_7 : decode cX9_init 7 = .ok (.anewarray 9, 3) := dk_189 0 9 (dk_at dksX9_init_0 7 rfl rfl)
theorem dX9_init_10 : decode cX9_init 10 = .ok (.putfield 11, 3) := dk_181 0 11 (dk_at dksX9_init_0 10 rfl rfl)
theorem dX9_init_13 : decode cX9_init 13 = .ok (.aload_n 0, 1) := dk_42 (dk_at dksX9_init_0 13 rfl rfl)
theorem dX9_init_14 : decode cX9_init 14 = .ok (.iconst (-1), 1) := dk_2 (dk_at dksX9_init_0 14 rfl rfl)
theorem dX9_init_15 : decode cX9_init 15 = .ok (.putfield 17, 3) := dk_181 0 17 (dk_at dksX9_init_0 15 rfl rfl)
theorem dX9_init_18 : decode cX9_init 18 = .ok (.aload_n 0, 1) := dk_42 (dk_at dksX9_init_0 18 rfl rfl)
theorem dX9_init_19 : decode cX9_init 19 = .ok (.aload_n 1, 1) := dk_43 (dk_at dksX9_init_0 19 rfl rfl)
theorem dX9_init_20 : decode cX9_init 20 = .ok (.putfield 21, 3) := dk_181 0 21 (dk_at dksX9_init_0 20 rfl rfl)
theorem dX9_init_23 : decode cX9_init 23 = .ok (.iconst 0, 1) := dk_3 (dk_at dksX9_init_0 23 rfl rfl)
theorem dX9_init_24 : decode cX9_init 24 = .ok (.istore_n 2, 1) := dk_61 (dk_at dksX9_init_1 0 rfl rfl)
theorem dX9_init_25 : decode cX9_init 25 = .ok (.iload_n 2, 1) := dk_28 (dk_at dksX9_init_1 1 rfl rfl)
theorem dX9_init_26 : decode cX9_init 26 = .ok (.aload_n 1, 1) := dk_43 (dk_at dksX9_init_1 2 rfl rfl)
theorem dX9_init_27 : decode cX9_init 27 = .ok (.invokevirtual 25, 3) := dk_182 0 25 (dk_at dksX9_init_1 3 rfl rfl)
theorem dX9_init_30 : decode cX9_init 30 = .ok (.if_icmp .ge 43, 3) := dk_162 0 43 (dk_at dksX9_init_1 6 rfl rfl)
theorem dX9_init_33 : decode cX9_init 33 = .ok (.aload_n 0, 1) := dk_42 (dk_at dksX9_init_1 9 rfl rfl)
theorem dX9_init_34 : decode cX9_init 34 = .ok (.dup, 1) := dk_89 (dk_at dksX9_init_1 10 rfl rfl)
theorem dX9_init_35 : decode cX9_init 35 = .ok (.getfield 31, 3) := dk_180 0 31 (dk_at dksX9_init_1 11 rfl rfl)
theorem dX9_init_38 : decode cX9_init 38 = .ok (.aload_n 1, 1) := dk_43 (dk_at dksX9_init_1 14 rfl rfl)
theorem dX9_init_39 : decode cX9_init 39 = .ok (.iload_n 2, 1) := dk_28 (dk_at dksX9_init_1 15 rfl rfl)
theorem dX9_init_40 : decode cX9_init 40 = .ok (.invokevirtual 34, 3) := dk_182 0 34 (dk_at dksX9_init_1 16 rfl rfl)
theorem dX9_init_43 : decode cX9_init 43 = .ok (.bipush 42, 2) := dk_16 42 (dk_at dksX9_init_1 19 rfl rfl)
theorem dX9_init_45 : decode cX9_init 45 = .ok (.if_icmp .eq 13, 3) := dk_159 0 13 (dk_at dksX9_init_1 21 rfl rfl)
theorem dX9_init_48 : decode cX9_init 48 = .ok (.aload_n 1, 1) := dk_43 (dk_at dksX9_init_2 0 rfl rfl)
theorem dX9_init_49 : decode cX9_init 49 = .ok (.iload_n 2, 1) := dk_28 (dk_at dksX9_init_2 1 rfl rfl)
theorem dX9_init_50 : decode cX9_init 50 = .ok (.invokevirtual 34, 3) := dk_182 0 34 (dk_at dksX9_init_2 2 rfl rfl)
theorem dX9_init_53 : decode cX9_init 53 = .ok (.bipush 63, 2) := dk_16 63 (dk_at dksX9_init_2 5 rfl rfl)
theorem dX9_init_55 : decode cX9_init 55 = .ok (.if_icmp .ne 7, 3) := dk_160 0 7 (dk_at dksX9_init_2 7 rfl rfl)
theorem dX9_init_58 : decode cX9_init 58 = .ok (.iconst 1, 1) := dk_4 (dk_at dksX9_init_2 10 rfl rfl)
theorem dX9_init_59 : decode cX9_init 59 = .ok (.goto 4, 3) := dk_167 0 4 (dk_at dksX9_init_2 11 rfl rfl)
theorem dX9_init_62 : decode cX9_init 62 = .ok (.iconst 0, 1) := dk_3 (dk_at dksX9_init_2 14 rfl rfl)
theorem dX9_init_63 : decode cX9_init 63 = .ok (.iadd, 1) := dk_96 (dk_at dksX9_init_2 15 rfl rfl)
theorem dX9_init_64 : decode cX9_init 64 = .ok (.putfield 31, 3) := dk_181 0 31 (dk_at dksX9_init_2 16 rfl rfl)
theorem dX9_init_67 : decode cX9_init 67 = .ok (.iinc 2 1, 3) := dk_132 2 1 (dk_at dksX9_init_2 19 rfl rfl)
theorem dX9_init_70 : decode cX9_init 70 = .ok (.goto (-45), 3) := dk_167 255 211 (dk_at dksX9_init_3 0 rfl rfl)
theorem dX9_init_73 : decode cX9_init 73 = .ok (.return_, 1) := dk_177 (dk_at dksX9_init_3 3 rfl rfl)
abbrev cX9_takes : ByteArray := prog_13_method_3_code
def yX9_takes : MethodName := ⟨RX9, "takes", "(Ljava/lang/String;)Z"⟩
def dkwX9_takes_3 : List UInt8 := [132, 2, 1, 167, 255, 186, 4, 172]
abbrev dktX9_takes_3 : List UInt8 := dkwX9_takes_3 ++ []
def dkwX9_takes_2 : List UInt8 := [28, 43, 182, 0, 25, 159, 0, 15, 42, 43, 28, 182, 0, 34, 182, 0, 53, 154, 0, 5, 3, 172]
abbrev dktX9_takes_2 : List UInt8 := dkwX9_takes_2 ++ dktX9_takes_3
def dkwX9_takes_1 : List UInt8 := [184, 0, 41, 154, 0, 5, 3, 172, 42, 29, 186, 0, 45, 0, 0, 182, 0, 49, 167, 0, 28, 132, 2, 1]
abbrev dktX9_takes_1 : List UInt8 := dkwX9_takes_1 ++ dktX9_takes_2
def dkwX9_takes_0 : List UInt8 := [3, 61, 28, 43, 182, 0, 25, 162, 0, 68, 43, 28, 182, 0, 34, 62, 29, 16, 37, 159, 0, 25, 29]
abbrev dktX9_takes_0 : List UInt8 := dkwX9_takes_0 ++ dktX9_takes_1
theorem dksX9_takes_0 : cX9_takes.data.toList.drop 0 = dktX9_takes_0 := by decide +kernel
theorem dksX9_takes_1 : cX9_takes.data.toList.drop 23 = dktX9_takes_1 := dk_seg dksX9_takes_0 23 rfl rfl
theorem dksX9_takes_2 : cX9_takes.data.toList.drop 47 = dktX9_takes_2 := dk_seg dksX9_takes_1 24 rfl rfl
theorem dksX9_takes_3 : cX9_takes.data.toList.drop 69 = dktX9_takes_3 := dk_seg dksX9_takes_2 22 rfl rfl
theorem dX9_takes_0 : decode cX9_takes 0 = .ok (.iconst 0, 1) := dk_3 (dk_at dksX9_takes_0 0 rfl rfl)
theorem dX9_takes_1 : decode cX9_takes 1 = .ok (.istore_n 2, 1) := dk_61 (dk_at dksX9_takes_0 1 rfl rfl)
theorem dX9_takes_2 : decode cX9_takes 2 = .ok (.iload_n 2, 1) := dk_28 (dk_at dksX9_takes_0 2 rfl rfl)
theorem dX9_takes_3 : decode cX9_takes 3 = .ok (.aload_n 1, 1) := dk_43 (dk_at dksX9_takes_0 3 rfl rfl)
theorem dX9_takes_4 : decode cX9_takes 4 = .ok (.invokevirtual 25, 3) := dk_182 0 25 (dk_at dksX9_takes_0 4 rfl rfl)
theorem dX9_takes_7 : decode cX9_takes 7 = .ok (.if_icmp .ge 68, 3) := dk_162 0 68 (dk_at dksX9_takes_0 7 rfl rfl)
theorem dX9_takes_10 : decode cX9_takes 10 = .ok (.aload_n 1, 1) := dk_43 (dk_at dksX9_takes_0 10 rfl rfl)
theorem dX9_takes_11 : decode cX9_takes 11 = .ok (.iload_n 2, 1) := dk_28 (dk_at dksX9_takes_0 11 rfl rfl)
theorem dX9_takes_12 : decode cX9_takes 12 = .ok (.invokevirtual 34, 3) := dk_182 0 34 (dk_at dksX9_takes_0 12 rfl rfl)
theorem dX9_takes_15 : decode cX9_takes 15 = .ok (.istore_n 3, 1) := dk_62 (dk_at dksX9_takes_0 15 rfl rfl)
theorem dX9_takes_16 : decode cX9_takes 16 = .ok (.iload_n 3, 1) := dk_29 (dk_at dksX9_takes_0 16 rfl rfl)
theorem dX9_takes_17 : decode cX9_takes 17 = .ok (.bipush 37, 2) := dk_16 37 (dk_at dksX9_takes_0 17 rfl rfl)
theorem dX9_takes_19 : decode cX9_takes 19 = .ok (.if_icmp .eq 25, 3) := dk_159 0 25 (dk_at dksX9_takes_0 19 rfl rfl)
theorem dX9_takes_22 : decode cX9_takes 22 = .ok (.iload_n 3, 1) := dk_29 (dk_at dksX9_takes_0 22 rfl rfl)
theorem dX9_takes_23 : decode cX9_takes 23 = .ok (.invokestatic 41, 3) := dk_184 0 41 (dk_at dksX9_takes_1 0 rfl rfl)
theorem dX9_takes_26 : decode cX9_takes 26 = .ok (.ifCond .ne 5, 3) := dk_154 0 5 (dk_at dksX9_takes_1 3 rfl rfl)
theorem dX9_takes_29 : decode cX9_takes 29 = .ok (.iconst 0, 1) := dk_3 (dk_at dksX9_takes_1 6 rfl rfl)
theorem dX9_takes_30 : decode cX9_takes 30 = .ok (.ireturn, 1) := dk_172 (dk_at dksX9_takes_1 7 rfl rfl)
theorem dX9_takes_31 : decode cX9_takes 31 = .ok (.aload_n 0, 1) := dk_42 (dk_at dksX9_takes_1 8 rfl rfl)
theorem dX9_takes_32 : decode cX9_takes 32 = .ok (.iload_n 3, 1) := dk_29 (dk_at dksX9_takes_1 9 rfl rfl)
theorem dX9_takes_33 : decode cX9_takes 33 = .ok (.invokedynamic 45, 5) := by decide +kernel
theorem dX9_takes_38 : decode cX9_takes 38 = .ok (.invokevirtual 49, 3) := dk_182 0 49 (dk_at dksX9_takes_1 15 rfl rfl)
theorem dX9_takes_41 : decode cX9_takes 41 = .ok (.goto 28, 3) := dk_167 0 28 (dk_at dksX9_takes_1 18 rfl rfl)
theorem dX9_takes_44 : decode cX9_takes 44 = .ok (.iinc 2 1, 3) := dk_132 2 1 (dk_at dksX9_takes_1 21 rfl rfl)
theorem dX9_takes_47 : decode cX9_takes 47 = .ok (.iload_n 2, 1) := dk_28 (dk_at dksX9_takes_2 0 rfl rfl)
theorem dX9_takes_48 : decode cX9_takes 48 = .ok (.aload_n 1, 1) := dk_43 (dk_at dksX9_takes_2 1 rfl rfl)
theorem dX9_takes_49 : decode cX9_takes 49 = .ok (.invokevirtual 25, 3) := dk_182 0 25 (dk_at dksX9_takes_2 2 rfl rfl)
theorem dX9_takes_52 : decode cX9_takes 52 = .ok (.if_icmp .eq 15, 3) := dk_159 0 15 (dk_at dksX9_takes_2 5 rfl rfl)
theorem dX9_takes_55 : decode cX9_takes 55 = .ok (.aload_n 0, 1) := dk_42 (dk_at dksX9_takes_2 8 rfl rfl)
theorem dX9_takes_56 : decode cX9_takes 56 = .ok (.aload_n 1, 1) := dk_43 (dk_at dksX9_takes_2 9 rfl rfl)
theorem dX9_takes_57 : decode cX9_takes 57 = .ok (.iload_n 2, 1) := dk_28 (dk_at dksX9_takes_2 10 rfl rfl)
theorem dX9_takes_58 : decode cX9_takes 58 = .ok (.invokevirtual 34, 3) := dk_182 0 34 (dk_at dksX9_takes_2 11 rfl rfl)
theorem dX9_takes_61 : decode cX9_takes 61 = .ok (.invokevirtual 53, 3) := dk_182 0 53 (dk_at dksX9_takes_2 14 rfl rfl)
theorem dX9_takes_64 : decode cX9_takes 64 = .ok (.ifCond .ne 5, 3) := dk_154 0 5 (dk_at dksX9_takes_2 17 rfl rfl)
theorem dX9_takes_67 : decode cX9_takes 67 = .ok (.iconst 0, 1) := dk_3 (dk_at dksX9_takes_2 20 rfl rfl)
theorem dX9_takes_68 : decode cX9_takes 68 = .ok (.ireturn, 1) := dk_172 (dk_at dksX9_takes_2 21 rfl rfl)
theorem dX9_takes_69 : decode cX9_takes 69 = .ok (.iinc 2 1, 3) := dk_132 2 1 (dk_at dksX9_takes_3 0 rfl rfl)
theorem dX9_takes_72 : decode cX9_takes 72 = .ok (.goto (-70), 3) := dk_167 255 186 (dk_at dksX9_takes_3 3 rfl rfl)
theorem dX9_takes_75 : decode cX9_takes 75 = .ok (.iconst 1, 1) := dk_4 (dk_at dksX9_takes_3 6 rfl rfl)
theorem dX9_takes_76 : decode cX9_takes 76 = .ok (.ireturn, 1) := dk_172 (dk_at dksX9_takes_3 7 rfl rfl)
abbrev cX9_lambda_takes_0 : ByteArray := prog_13_method_11_code
def yX9_lambda_takes_0 : MethodName := ⟨RX9, "lambda$takes$0", "(CLjava/lang/StringBuilder;LBatchRenamer$Reading;)V"⟩
def dkwX9_lambda_takes_0_0 : List UInt8 := [43, 26, 182, 0, 110, 87, 177]
abbrev dktX9_lambda_takes_0_0 : List UInt8 := dkwX9_lambda_takes_0_0 ++ []
theorem dksX9_lambda_takes_0_0 : cX9_lambda_takes_0.data.toList.drop 0 = dktX9_lambda_takes_0_0 := by decide +kernel
theorem dX9_lambda_takes_0_0 : decode cX9_lambda_takes_0 0 = .ok (.aload_n 1, 1) := dk_43 (dk_at dksX9_lambda_takes_0_0 0 rfl rfl)
theorem dX9_lambda_takes_0_1 : decode cX9_lambda_takes_0 1 = .ok (.iload_n 0, 1) := dk_26 (dk_at dksX9_lambda_takes_0_0 1 rfl rfl)
theorem dX9_lambda_takes_0_2 : decode cX9_lambda_takes_0 2 = .ok (.invokevirtual 110, 3) := dk_182 0 110 (dk_at dksX9_lambda_takes_0_0 2 rfl rfl)
theorem dX9_lambda_takes_0_5 : decode cX9_lambda_takes_0 5 = .ok (.pop, 1) := dk_87 (dk_at dksX9_lambda_takes_0_0 5 rfl rfl)
theorem dX9_lambda_takes_0_6 : decode cX9_lambda_takes_0 6 = .ok (.return_, 1) := dk_177 (dk_at dksX9_lambda_takes_0_0 6 rfl rfl)
abbrev cX9_add : ByteArray := prog_13_method_2_code
def yX9_add : MethodName := ⟨RX9, "add", "(LBatchRenamer$Piece;)V"⟩
def dkwX9_add_0 : List UInt8 := [42, 180, 0, 11, 42, 180, 0, 38, 43, 83, 42, 89, 180, 0, 38, 4, 96, 181, 0, 38, 177]
abbrev dktX9_add_0 : List UInt8 := dkwX9_add_0 ++ []
theorem dksX9_add_0 : cX9_add.data.toList.drop 0 = dktX9_add_0 := by decide +kernel
theorem dX9_add_0 : decode cX9_add 0 = .ok (.aload_n 0, 1) := dk_42 (dk_at dksX9_add_0 0 rfl rfl)
theorem dX9_add_1 : decode cX9_add 1 = .ok (.getfield 11, 3) := dk_180 0 11 (dk_at dksX9_add_0 1 rfl rfl)
theorem dX9_add_4 : decode cX9_add 4 = .ok (.aload_n 0, 1) := dk_42 (dk_at dksX9_add_0 4 rfl rfl)
theorem dX9_add_5 : decode cX9_add 5 = .ok (.getfield 38, 3) := dk_180 0 38 (dk_at dksX9_add_0 5 rfl rfl)
theorem dX9_add_8 : decode cX9_add 8 = .ok (.aload_n 1, 1) := dk_43 (dk_at dksX9_add_0 8 rfl rfl)
theorem dX9_add_9 : decode cX9_add 9 = .ok (.aastore, 1) := dk_83 (dk_at dksX9_add_0 9 rfl rfl)
theorem dX9_add_10 : decode cX9_add 10 = .ok (.aload_n 0, 1) := dk_42 (dk_at dksX9_add_0 10 rfl rfl)
theorem dX9_add_11 : decode cX9_add 11 = .ok (.dup, 1) := dk_89 (dk_at dksX9_add_0 11 rfl rfl)
theorem dX9_add_12 : decode cX9_add 12 = .ok (.getfield 38, 3) := dk_180 0 38 (dk_at dksX9_add_0 12 rfl rfl)
theorem dX9_add_15 : decode cX9_add 15 = .ok (.iconst 1, 1) := dk_4 (dk_at dksX9_add_0 15 rfl rfl)
theorem dX9_add_16 : decode cX9_add 16 = .ok (.iadd, 1) := dk_96 (dk_at dksX9_add_0 16 rfl rfl)
theorem dX9_add_17 : decode cX9_add 17 = .ok (.putfield 38, 3) := dk_181 0 38 (dk_at dksX9_add_0 17 rfl rfl)
theorem dX9_add_20 : decode cX9_add 20 = .ok (.return_, 1) := dk_177 (dk_at dksX9_add_0 20 rfl rfl)
abbrev cX9_takes_2 : ByteArray := prog_13_method_4_code
def yX9_takes_2 : MethodName := ⟨RX9, "takes", "(C)Z"⟩
def dkwX9_takes_2_2 : List UInt8 := [182, 0, 49, 4, 172]
abbrev dktX9_takes_2_2 : List UInt8 := dkwX9_takes_2_2 ++ []
def dkwX9_takes_2_1 : List UInt8 := [9, 42, 180, 0, 31, 4, 100, 133, 184, 0, 59, 154, 0, 5, 3, 172, 42, 28, 186, 0, 63, 0, 0]
abbrev dktX9_takes_2_1 : List UInt8 := dkwX9_takes_2_1 ++ dktX9_takes_2_2
def dkwX9_takes_2_0 : List UInt8 := [27, 16, 110, 160, 0, 14, 42, 186, 0, 56, 0, 0, 182, 0, 49, 4, 172, 27, 16, 49, 100, 61, 28, 133]
abbrev dktX9_takes_2_0 : List UInt8 := dkwX9_takes_2_0 ++ dktX9_takes_2_1
theorem dksX9_takes_2_0 : cX9_takes_2.data.toList.drop 0 = dktX9_takes_2_0 := by decide +kernel
theorem dksX9_takes_2_1 : cX9_takes_2.data.toList.drop 24 = dktX9_takes_2_1 := dk_seg dksX9_takes_2_0 24 rfl rfl
theorem dksX9_takes_2_2 : cX9_takes_2.data.toList.drop 47 = dktX9_takes_2_2 := dk_seg dksX9_takes_2_1 23 rfl rfl
theorem dX9_takes_2_0 : decode cX9_takes_2 0 = .ok (.iload_n 1, 1) := dk_27 (dk_at dksX9_takes_2_0 0 rfl rfl)
theorem dX9_takes_2_1 : decode cX9_takes_2 1 = .ok (.bipush 110, 2) := dk_16 110 (dk_at dksX9_takes_2_0 1 rfl rfl)
theorem dX9_takes_2_3 : decode cX9_takes_2 3 = .ok (.if_icmp .ne 14, 3) := dk_160 0 14 (dk_at dksX9_takes_2_0 3 rfl rfl)
theorem dX9_takes_2_6 : decode cX9_takes_2 6 = .ok (.aload_n 0, 1) := dk_42 (dk_at dksX9_takes_2_0 6 rfl rfl)
theorem dX9_takes_2_7 : decode cX9_takes_2 7 = .ok (.invokedynamic 56, 5) := by decide +kernel
theorem dX9_takes_2_12 : decode cX9_takes_2 12 = .ok (.invokevirtual 49, 3) := dk_182 0 49 (dk_at dksX9_takes_2_0 12 rfl rfl)
theorem dX9_takes_2_15 : decode cX9_takes_2 15 = .ok (.iconst 1, 1) := dk_4 (dk_at dksX9_takes_2_0 15 rfl rfl)
theorem dX9_takes_2_16 : decode cX9_takes_2 16 = .ok (.ireturn, 1) := dk_172 (dk_at dksX9_takes_2_0 16 rfl rfl)
theorem dX9_takes_2_17 : decode cX9_takes_2 17 = .ok (.iload_n 1, 1) := dk_27 (dk_at dksX9_takes_2_0 17 rfl rfl)
theorem dX9_takes_2_18 : decode cX9_takes_2 18 = .ok (.bipush 49, 2) := dk_16 49 (dk_at dksX9_takes_2_0 18 rfl rfl)
theorem dX9_takes_2_20 : decode cX9_takes_2 20 = .ok (.isub, 1) := dk_100 (dk_at dksX9_takes_2_0 20 rfl rfl)
theorem dX9_takes_2_21 : decode cX9_takes_2 21 = .ok (.istore_n 2, 1) := dk_61 (dk_at dksX9_takes_2_0 21 rfl rfl)
theorem dX9_takes_2_22 : decode cX9_takes_2 22 = .ok (.iload_n 2, 1) := dk_28 (dk_at dksX9_takes_2_0 22 rfl rfl)
theorem dX9_takes_2_23 : decode cX9_takes_2 23 = .ok (.i2l, 1) := dk_133 (dk_at dksX9_takes_2_0 23 rfl rfl)
theorem dX9_takes_2_24 : decode cX9_takes_2 24 = .ok (.lconst 0, 1) := dk_9 (dk_at dksX9_takes_2_1 0 rfl rfl)
theorem dX9_takes_2_25 : decode cX9_takes_2 25 = .ok (.aload_n 0, 1) := dk_42 (dk_at dksX9_takes_2_1 1 rfl rfl)
theorem dX9_takes_2_26 : decode cX9_takes_2 26 = .ok (.getfield 31, 3) := dk_180 0 31 (dk_at dksX9_takes_2_1 2 rfl rfl)
theorem dX9_takes_2_29 : decode cX9_takes_2 29 = .ok (.iconst 1, 1) := dk_4 (dk_at dksX9_takes_2_1 5 rfl rfl)
theorem dX9_takes_2_30 : decode cX9_takes_2 30 = .ok (.isub, 1) := dk_100 (dk_at dksX9_takes_2_1 6 rfl rfl)
theorem dX9_takes_2_31 : decode cX9_takes_2 31 = .ok (.i2l, 1) := dk_133 (dk_at dksX9_takes_2_1 7 rfl rfl)
theorem dX9_takes_2_32 : decode cX9_takes_2 32 = .ok (.invokestatic 59, 3) := dk_184 0 59 (dk_at dksX9_takes_2_1 8 rfl rfl)
theorem dX9_takes_2_35 : decode cX9_takes_2 35 = .ok (.ifCond .ne 5, 3) := dk_154 0 5 (dk_at dksX9_takes_2_1 11 rfl rfl)
theorem dX9_takes_2_38 : decode cX9_takes_2 38 = .ok (.iconst 0, 1) := dk_3 (dk_at dksX9_takes_2_1 14 rfl rfl)
theorem dX9_takes_2_39 : decode cX9_takes_2 39 = .ok (.ireturn, 1) := dk_172 (dk_at dksX9_takes_2_1 15 rfl rfl)
theorem dX9_takes_2_40 : decode cX9_takes_2 40 = .ok (.aload_n 0, 1) := dk_42 (dk_at dksX9_takes_2_1 16 rfl rfl)
theorem dX9_takes_2_41 : decode cX9_takes_2 41 = .ok (.iload_n 2, 1) := dk_28 (dk_at dksX9_takes_2_1 17 rfl rfl)
theorem dX9_takes_2_42 : decode cX9_takes_2 42 = .ok (.invokedynamic 63, 5) := by decide +kernel
theorem dX9_takes_2_47 : decode cX9_takes_2 47 = .ok (.invokevirtual 49, 3) := dk_182 0 49 (dk_at dksX9_takes_2_2 0 rfl rfl)
theorem dX9_takes_2_50 : decode cX9_takes_2 50 = .ok (.iconst 1, 1) := dk_4 (dk_at dksX9_takes_2_2 3 rfl rfl)
theorem dX9_takes_2_51 : decode cX9_takes_2 51 = .ok (.ireturn, 1) := dk_172 (dk_at dksX9_takes_2_2 4 rfl rfl)
abbrev cX9_lambda_takes_1 : ByteArray := prog_13_method_10_code
def yX9_lambda_takes_1 : MethodName := ⟨RX9, "lambda$takes$1", "(Ljava/lang/StringBuilder;LBatchRenamer$Reading;)V"⟩
def dkwX9_lambda_takes_1_0 : List UInt8 := [43, 42, 182, 0, 106, 177]
abbrev dktX9_lambda_takes_1_0 : List UInt8 := dkwX9_lambda_takes_1_0 ++ []
theorem dksX9_lambda_takes_1_0 : cX9_lambda_takes_1.data.toList.drop 0 = dktX9_lambda_takes_1_0 := by decide +kernel
theorem dX9_lambda_takes_1_0 : decode cX9_lambda_takes_1 0 = .ok (.aload_n 1, 1) := dk_43 (dk_at dksX9_lambda_takes_1_0 0 rfl rfl)
theorem dX9_lambda_takes_1_1 : decode cX9_lambda_takes_1 1 = .ok (.aload_n 0, 1) := dk_42 (dk_at dksX9_lambda_takes_1_0 1 rfl rfl)
theorem dX9_lambda_takes_1_2 : decode cX9_lambda_takes_1 2 = .ok (.invokevirtual 106, 3) := dk_182 0 106 (dk_at dksX9_lambda_takes_1_0 2 rfl rfl)
theorem dX9_lambda_takes_1_5 : decode cX9_lambda_takes_1 5 = .ok (.return_, 1) := dk_177 (dk_at dksX9_lambda_takes_1_0 5 rfl rfl)
abbrev cX9_lambda_takes_2 : ByteArray := prog_13_method_9_code
def yX9_lambda_takes_2 : MethodName := ⟨RX9, "lambda$takes$2", "(ILjava/lang/StringBuilder;LBatchRenamer$Reading;)V"⟩
def dkwX9_lambda_takes_2_0 : List UInt8 := [44, 43, 26, 182, 0, 102, 177]
abbrev dktX9_lambda_takes_2_0 : List UInt8 := dkwX9_lambda_takes_2_0 ++ []
theorem dksX9_lambda_takes_2_0 : cX9_lambda_takes_2.data.toList.drop 0 = dktX9_lambda_takes_2_0 := by decide +kernel
theorem dX9_lambda_takes_2_0 : decode cX9_lambda_takes_2 0 = .ok (.aload_n 2, 1) := dk_44 (dk_at dksX9_lambda_takes_2_0 0 rfl rfl)
theorem dX9_lambda_takes_2_1 : decode cX9_lambda_takes_2 1 = .ok (.aload_n 1, 1) := dk_43 (dk_at dksX9_lambda_takes_2_0 1 rfl rfl)
theorem dX9_lambda_takes_2_2 : decode cX9_lambda_takes_2 2 = .ok (.iload_n 0, 1) := dk_26 (dk_at dksX9_lambda_takes_2_0 2 rfl rfl)
theorem dX9_lambda_takes_2_3 : decode cX9_lambda_takes_2 3 = .ok (.invokevirtual 102, 3) := dk_182 0 102 (dk_at dksX9_lambda_takes_2_0 3 rfl rfl)
theorem dX9_lambda_takes_2_6 : decode cX9_lambda_takes_2 6 = .ok (.return_, 1) := dk_177 (dk_at dksX9_lambda_takes_2_0 6 rfl rfl)
theorem q160 : (Jvm.Cond.initialized "BatchRenamer$Rule") ∈ lw_all := lw_g (lw_at lw_m1 31 rfl) rfl
theorem q573 : (Jvm.Cond.fieldLinkNest "BatchRenamer$Rule" (75 : Nat) "BatchRenamer$Reading" "from" "[I" "BatchRenamer") ∈ lw_tbl := lw_at lw_m2 204 rfl
theorem q576 : (Jvm.Cond.fieldLinkNest "BatchRenamer$Rule" (79 : Nat) "BatchRenamer$Reading" "many" "[I" "BatchRenamer") ∈ lw_tbl := lw_at lw_m2 207 rfl
theorem q579 : (Jvm.Cond.fieldLinkNest "BatchRenamer$Rule" (66 : Nat) "BatchRenamer$Reading" "name" "Ljava/lang/String;" "BatchRenamer") ∈ lw_tbl := lw_at lw_m2 210 rfl
theorem q725 : (Jvm.Cond.instanceMethod ({ cls := "BatchRenamer$Rule", name := "reads", desc := "(LBatchRenamer$Reading;Ljava/lang/String;)Z" } : Jvm.MethodName)) ∈ lw_all := lw_g (lw_at lw_m3 116 rfl) rfl
theorem q726 : (Jvm.Cond.selects "BatchRenamer$Rule" ({ cls := "BatchRenamer$Rule", name := "reads", desc := "(LBatchRenamer$Reading;Ljava/lang/String;)Z" } : Jvm.MethodName) ({ cls := "BatchRenamer$Rule", name := "reads", desc := "(LBatchRenamer$Reading;Ljava/lang/String;)Z" } : Jvm.MethodName)) ∈ lw_all := lw_g (lw_at lw_m3 117 rfl) rfl
theorem q727 : (Jvm.Cond.code ({ cls := "BatchRenamer$Rule", name := "reads", desc := "(LBatchRenamer$Reading;Ljava/lang/String;)Z" } : Jvm.MethodName) prog_13_method_5_code (3 : Nat) (Option.some Jvm.ClassFile.FieldType.boolean)) ∈ lw_all := lw_g (lw_at lw_m3 118 rfl) rfl
theorem q728 : (Jvm.Cond.methodLink "BatchRenamer$Rule" (71 : Nat) ({ cls := "BatchRenamer$Rule", name := "reads", desc := "(LBatchRenamer$Reading;III)Z" } : Jvm.MethodName)) ∈ lw_all := lw_g (lw_at lw_m3 119 rfl) rfl
theorem q729 : (Jvm.Cond.privateMethod ({ cls := "BatchRenamer$Rule", name := "reads", desc := "(LBatchRenamer$Reading;III)Z" } : Jvm.MethodName)) ∈ lw_tbl := lw_at lw_m3 120 rfl
theorem q730 : (Jvm.Cond.instanceMethod ({ cls := "BatchRenamer$Rule", name := "reads", desc := "(LBatchRenamer$Reading;III)Z" } : Jvm.MethodName)) ∈ lw_all := lw_g (lw_at lw_m3 121 rfl) rfl
theorem q731 : (Jvm.Cond.instantiable "BatchRenamer$Rule" (5 : Nat)) ∈ lw_all := lw_g (lw_at lw_m3 122 rfl) rfl
theorem q732 : (Jvm.Cond.code ({ cls := "BatchRenamer$Rule", name := "reads", desc := "(LBatchRenamer$Reading;III)Z" } : Jvm.MethodName) prog_13_method_6_code (10 : Nat) (Option.some Jvm.ClassFile.FieldType.boolean)) ∈ lw_all := lw_g (lw_at lw_m3 123 rfl) rfl
theorem q733 : (Jvm.Cond.methodLink "BatchRenamer$Rule" (25 : Nat) ({ cls := "java/lang/String", name := "length", desc := "()I" } : Jvm.MethodName)) ∈ lw_all := lw_g (lw_at lw_m3 124 rfl) rfl
theorem q734 : (Jvm.Cond.methodLink "BatchRenamer$Rule" (34 : Nat) ({ cls := "java/lang/String", name := "charAt", desc := "(I)C" } : Jvm.MethodName)) ∈ lw_all := lw_g (lw_at lw_m3 125 rfl) rfl
theorem q783 : (Jvm.Cond.instanceMethod ({ cls := "BatchRenamer$Rule", name := "group", desc := "(LBatchRenamer$Reading;)Ljava/lang/String;" } : Jvm.MethodName)) ∈ lw_all := lw_g (lw_at lw_m3 174 rfl) rfl
theorem q784 : (Jvm.Cond.selects "BatchRenamer$Rule" ({ cls := "BatchRenamer$Rule", name := "group", desc := "(LBatchRenamer$Reading;)Ljava/lang/String;" } : Jvm.MethodName) ({ cls := "BatchRenamer$Rule", name := "group", desc := "(LBatchRenamer$Reading;)Ljava/lang/String;" } : Jvm.MethodName)) ∈ lw_all := lw_g (lw_at lw_m3 175 rfl) rfl
theorem q785 : (Jvm.Cond.code ({ cls := "BatchRenamer$Rule", name := "group", desc := "(LBatchRenamer$Reading;)Ljava/lang/String;" } : Jvm.MethodName) prog_13_method_8_code (2 : Nat) (Option.some (Jvm.ClassFile.FieldType.object "java/lang/String"))) ∈ lw_all := lw_g (lw_at lw_m3 176 rfl) rfl
theorem q786 : (Jvm.Cond.stringRef "BatchRenamer$Rule" (96 : Nat) "") ∈ lw_tbl := lw_at lw_m3 177 rfl
theorem q787 : (Jvm.Cond.methodLink "BatchRenamer$Rule" (98 : Nat) ({ cls := "BatchRenamer$Reading", name := "captured", desc := "(I)Ljava/lang/String;" } : Jvm.MethodName)) ∈ lw_all := lw_g (lw_at lw_m3 178 rfl) rfl
theorem q833 : (Jvm.Cond.selects "BatchRenamer$Rule" ({ cls := "java/lang/Object", name := "equals", desc := "(Ljava/lang/Object;)Z" } : Jvm.MethodName) ({ cls := "java/lang/Object", name := "equals", desc := "(Ljava/lang/Object;)Z" } : Jvm.MethodName)) ∈ lw_all := lw_g (lw_at lw_m3 224 rfl) rfl
theorem q869 : (Jvm.Cond.selects "BatchRenamer$Rule" ({ cls := "java/lang/Object", name := "getClass", desc := "()Ljava/lang/Class;" } : Jvm.MethodName) ({ cls := "java/lang/Object", name := "getClass", desc := "()Ljava/lang/Class;" } : Jvm.MethodName)) ∈ lw_all := lw_g (lw_at lw_m4 20 rfl) rfl
theorem q1003 : (Jvm.Cond.instanceMethod ({ cls := "BatchRenamer$Rule", name := "written", desc := "(Ljava/lang/StringBuilder;LBatchRenamer$Reading;I)Ljava/lang/String;" } : Jvm.MethodName)) ∈ lw_all := lw_g (lw_at lw_m4 154 rfl) rfl
theorem q1004 : (Jvm.Cond.selects "BatchRenamer$Rule" ({ cls := "BatchRenamer$Rule", name := "written", desc := "(Ljava/lang/StringBuilder;LBatchRenamer$Reading;I)Ljava/lang/String;" } : Jvm.MethodName) ({ cls := "BatchRenamer$Rule", name := "written", desc := "(Ljava/lang/StringBuilder;LBatchRenamer$Reading;I)Ljava/lang/String;" } : Jvm.MethodName)) ∈ lw_all := lw_g (lw_at lw_m4 155 rfl) rfl
theorem q1005 : (Jvm.Cond.code ({ cls := "BatchRenamer$Rule", name := "written", desc := "(Ljava/lang/StringBuilder;LBatchRenamer$Reading;I)Ljava/lang/String;" } : Jvm.MethodName) prog_13_method_7_code (5 : Nat) (Option.some (Jvm.ClassFile.FieldType.object "java/lang/String"))) ∈ lw_all := lw_g (lw_at lw_m4 156 rfl) rfl
theorem q1006 : (Jvm.Cond.methodLink "BatchRenamer$Rule" (82 : Nat) ({ cls := "java/lang/StringBuilder", name := "setLength", desc := "(I)V" } : Jvm.MethodName)) ∈ lw_all := lw_g (lw_at lw_m4 157 rfl) rfl
theorem q1074 : (Jvm.Cond.methodLink "BatchRenamer$Rule" (88 : Nat) ({ cls := "java/lang/StringBuilder", name := "length", desc := "()I" } : Jvm.MethodName)) ∈ lw_all := lw_g (lw_at lw_m4 225 rfl) rfl
theorem q1075 : (Jvm.Cond.interfaceEntry "BatchRenamer$Rule" (89 : Nat)) ∈ lw_tbl := lw_at lw_m4 226 rfl
theorem q1076 : (Jvm.Cond.methodLink "BatchRenamer$Rule" (89 : Nat) ({ cls := "BatchRenamer$Piece", name := "write", desc := "(Ljava/lang/StringBuilder;LBatchRenamer$Reading;)V" } : Jvm.MethodName)) ∈ lw_all := lw_g (lw_at lw_m4 227 rfl) rfl
theorem q1079 : (Jvm.Cond.methodLink "BatchRenamer$Rule" (92 : Nat) ({ cls := "java/lang/StringBuilder", name := "toString", desc := "()Ljava/lang/String;" } : Jvm.MethodName)) ∈ lw_all := lw_g (lw_at lw_m4 230 rfl) rfl
theorem q1713 : (Jvm.Cond.instanceMethod ({ cls := "BatchRenamer$Rule", name := "<init>", desc := "(Ljava/lang/String;)V" } : Jvm.MethodName)) ∈ lw_all := lw_g (lw_at lw_m7 144 rfl) rfl
theorem q1714 : (Jvm.Cond.code ({ cls := "BatchRenamer$Rule", name := "<init>", desc := "(Ljava/lang/String;)V" } : Jvm.MethodName) prog_13_method_1_code (3 : Nat) (Option.none : Option Jvm.ClassFile.FieldType)) ∈ lw_all := lw_g (lw_at lw_m7 145 rfl) rfl
theorem q1715 : (Jvm.Cond.methodLink "BatchRenamer$Rule" (3 : Nat) ({ cls := "java/lang/Object", name := "<init>", desc := "()V" } : Jvm.MethodName)) ∈ lw_all := lw_g (lw_at lw_m7 146 rfl) rfl
theorem q1716 : (Jvm.Cond.classLink "BatchRenamer$Rule" (9 : Nat) "BatchRenamer$Piece") ∈ lw_all := lw_g (lw_at lw_m7 147 rfl) rfl
theorem q1718 : (Jvm.Cond.fieldLink "BatchRenamer$Rule" (21 : Nat) "BatchRenamer$Rule" "pattern" "Ljava/lang/String;") ∈ lw_all := lw_g (lw_at lw_m7 149 rfl) rfl
theorem q1719 : (Jvm.Cond.fieldLink "BatchRenamer$Rule" (11 : Nat) "BatchRenamer$Rule" "pieces" "[LBatchRenamer$Piece;") ∈ lw_all := lw_g (lw_at lw_m7 150 rfl) rfl
theorem q1720 : (Jvm.Cond.fieldLink "BatchRenamer$Rule" (38 : Nat) "BatchRenamer$Rule" "size" "I") ∈ lw_all := lw_g (lw_at lw_m7 151 rfl) rfl
theorem q1721 : (Jvm.Cond.fieldLink "BatchRenamer$Rule" (31 : Nat) "BatchRenamer$Rule" "wildcards" "I") ∈ lw_all := lw_g (lw_at lw_m7 152 rfl) rfl
theorem q1724 : (Jvm.Cond.fieldLink "BatchRenamer$Rule" (17 : Nat) "BatchRenamer$Rule" "by" "I") ∈ lw_all := lw_g (lw_at lw_m7 155 rfl) rfl
theorem q1726 : (Jvm.Cond.laysFinal "BatchRenamer$Rule" "BatchRenamer$Rule" "pattern" "Ljava/lang/String;") ∈ lw_all := lw_g (lw_at lw_m7 157 rfl) rfl
theorem q1727 : (Jvm.Cond.soleField "BatchRenamer$Rule" "pattern") ∈ lw_all := lw_g (lw_at lw_m7 158 rfl) rfl
theorem q1728 : (Jvm.Cond.laysFinal "BatchRenamer$Rule" "BatchRenamer$Rule" "pieces" "[LBatchRenamer$Piece;") ∈ lw_all := lw_g (lw_at lw_m7 159 rfl) rfl
theorem q1729 : (Jvm.Cond.soleField "BatchRenamer$Rule" "pieces") ∈ lw_all := lw_g (lw_at lw_m7 160 rfl) rfl
theorem q1730 : (Jvm.Cond.lays "BatchRenamer$Rule" "BatchRenamer$Rule" "size" "I") ∈ lw_all := lw_g (lw_at lw_m7 161 rfl) rfl
theorem q1731 : (Jvm.Cond.soleField "BatchRenamer$Rule" "size") ∈ lw_all := lw_g (lw_at lw_m7 162 rfl) rfl
theorem q1732 : (Jvm.Cond.lays "BatchRenamer$Rule" "BatchRenamer$Rule" "wildcards" "I") ∈ lw_all := lw_g (lw_at lw_m7 163 rfl) rfl
theorem q1733 : (Jvm.Cond.soleField "BatchRenamer$Rule" "wildcards") ∈ lw_all := lw_g (lw_at lw_m7 164 rfl) rfl
theorem q1734 : (Jvm.Cond.lays "BatchRenamer$Rule" "BatchRenamer$Rule" "by" "I") ∈ lw_all := lw_g (lw_at lw_m7 165 rfl) rfl
theorem q1735 : (Jvm.Cond.soleField "BatchRenamer$Rule" "by") ∈ lw_all := lw_g (lw_at lw_m7 166 rfl) rfl
theorem q1736 : (Jvm.Cond.superclass "BatchRenamer$Rule" "java/lang/Object") ∈ lw_all := lw_g (lw_at lw_m7 167 rfl) rfl
theorem q1739 : (Jvm.Cond.instanceMethod ({ cls := "BatchRenamer$Rule", name := "takes", desc := "(Ljava/lang/String;)Z" } : Jvm.MethodName)) ∈ lw_all := lw_g (lw_at lw_m7 170 rfl) rfl
theorem q1740 : (Jvm.Cond.selects "BatchRenamer$Rule" ({ cls := "BatchRenamer$Rule", name := "takes", desc := "(Ljava/lang/String;)Z" } : Jvm.MethodName) ({ cls := "BatchRenamer$Rule", name := "takes", desc := "(Ljava/lang/String;)Z" } : Jvm.MethodName)) ∈ lw_all := lw_g (lw_at lw_m7 171 rfl) rfl
theorem q1741 : (Jvm.Cond.code ({ cls := "BatchRenamer$Rule", name := "takes", desc := "(Ljava/lang/String;)Z" } : Jvm.MethodName) prog_13_method_3_code (4 : Nat) (Option.some Jvm.ClassFile.FieldType.boolean)) ∈ lw_all := lw_g (lw_at lw_m7 172 rfl) rfl
theorem q1742 : (Jvm.Cond.methodLinkNest "BatchRenamer$Rule" (41 : Nat) ({ cls := "BatchRenamer", name := "isPlain", desc := "(C)Z" } : Jvm.MethodName) "BatchRenamer") ∈ lw_tbl := lw_at lw_m7 173 rfl
theorem q1743 : (Jvm.Cond.static ({ cls := "BatchRenamer$Rule", name := "lambda$takes$0", desc := "(CLjava/lang/StringBuilder;LBatchRenamer$Reading;)V" } : Jvm.MethodName)) ∈ lw_all := lw_g (lw_at lw_m7 174 rfl) rfl
theorem q1744 : (Jvm.Cond.code ({ cls := "BatchRenamer$Rule", name := "lambda$takes$0", desc := "(CLjava/lang/StringBuilder;LBatchRenamer$Reading;)V" } : Jvm.MethodName) prog_13_method_11_code (3 : Nat) (Option.none : Option Jvm.ClassFile.FieldType)) ∈ lw_all := lw_g (lw_at lw_m7 175 rfl) rfl
theorem q1745 : (Jvm.Cond.methodLink "BatchRenamer$Rule" (110 : Nat) ({ cls := "java/lang/StringBuilder", name := "append", desc := "(C)Ljava/lang/StringBuilder;" } : Jvm.MethodName)) ∈ lw_all := lw_g (lw_at lw_m7 176 rfl) rfl
theorem q1746 : (Jvm.Cond.methodLink "BatchRenamer$Rule" (49 : Nat) ({ cls := "BatchRenamer$Rule", name := "add", desc := "(LBatchRenamer$Piece;)V" } : Jvm.MethodName)) ∈ lw_all := lw_g (lw_at lw_m7 177 rfl) rfl
theorem q1747 : (Jvm.Cond.privateMethod ({ cls := "BatchRenamer$Rule", name := "add", desc := "(LBatchRenamer$Piece;)V" } : Jvm.MethodName)) ∈ lw_tbl := lw_at lw_m7 178 rfl
theorem q1748 : (Jvm.Cond.instanceMethod ({ cls := "BatchRenamer$Rule", name := "add", desc := "(LBatchRenamer$Piece;)V" } : Jvm.MethodName)) ∈ lw_all := lw_g (lw_at lw_m7 179 rfl) rfl
theorem q1749 : (Jvm.Cond.code ({ cls := "BatchRenamer$Rule", name := "add", desc := "(LBatchRenamer$Piece;)V" } : Jvm.MethodName) prog_13_method_2_code (2 : Nat) (Option.none : Option Jvm.ClassFile.FieldType)) ∈ lw_all := lw_g (lw_at lw_m7 180 rfl) rfl
theorem q1750 : (Jvm.Cond.methodLink "BatchRenamer$Rule" (53 : Nat) ({ cls := "BatchRenamer$Rule", name := "takes", desc := "(C)Z" } : Jvm.MethodName)) ∈ lw_all := lw_g (lw_at lw_m7 181 rfl) rfl
theorem q1751 : (Jvm.Cond.privateMethod ({ cls := "BatchRenamer$Rule", name := "takes", desc := "(C)Z" } : Jvm.MethodName)) ∈ lw_tbl := lw_at lw_m7 182 rfl
theorem q1752 : (Jvm.Cond.instanceMethod ({ cls := "BatchRenamer$Rule", name := "takes", desc := "(C)Z" } : Jvm.MethodName)) ∈ lw_all := lw_g (lw_at lw_m7 183 rfl) rfl
theorem q1753 : (Jvm.Cond.code ({ cls := "BatchRenamer$Rule", name := "takes", desc := "(C)Z" } : Jvm.MethodName) prog_13_method_4_code (3 : Nat) (Option.some Jvm.ClassFile.FieldType.boolean)) ∈ lw_all := lw_g (lw_at lw_m7 184 rfl) rfl
theorem q1754 : (Jvm.Cond.static ({ cls := "BatchRenamer$Rule", name := "lambda$takes$1", desc := "(Ljava/lang/StringBuilder;LBatchRenamer$Reading;)V" } : Jvm.MethodName)) ∈ lw_all := lw_g (lw_at lw_m7 185 rfl) rfl
theorem q1755 : (Jvm.Cond.code ({ cls := "BatchRenamer$Rule", name := "lambda$takes$1", desc := "(Ljava/lang/StringBuilder;LBatchRenamer$Reading;)V" } : Jvm.MethodName) prog_13_method_10_code (2 : Nat) (Option.none : Option Jvm.ClassFile.FieldType)) ∈ lw_all := lw_g (lw_at lw_m7 186 rfl) rfl
theorem q1756 : (Jvm.Cond.methodLink "BatchRenamer$Rule" (106 : Nat) ({ cls := "BatchRenamer$Reading", name := "writeCounter", desc := "(Ljava/lang/StringBuilder;)V" } : Jvm.MethodName)) ∈ lw_all := lw_g (lw_at lw_m7 187 rfl) rfl
theorem q1761 : (Jvm.Cond.methodLinkNest "BatchRenamer$Rule" (59 : Nat) ({ cls := "BatchRenamer", name := "in", desc := "(JJJ)Z" } : Jvm.MethodName) "BatchRenamer") ∈ lw_tbl := lw_at lw_m7 192 rfl
theorem q1762 : (Jvm.Cond.static ({ cls := "BatchRenamer$Rule", name := "lambda$takes$2", desc := "(ILjava/lang/StringBuilder;LBatchRenamer$Reading;)V" } : Jvm.MethodName)) ∈ lw_all := lw_g (lw_at lw_m7 193 rfl) rfl
theorem q1763 : (Jvm.Cond.code ({ cls := "BatchRenamer$Rule", name := "lambda$takes$2", desc := "(ILjava/lang/StringBuilder;LBatchRenamer$Reading;)V" } : Jvm.MethodName) prog_13_method_9_code (3 : Nat) (Option.none : Option Jvm.ClassFile.FieldType)) ∈ lw_all := lw_g (lw_at lw_m7 194 rfl) rfl
theorem q1764 : (Jvm.Cond.methodLink "BatchRenamer$Rule" (102 : Nat) ({ cls := "BatchRenamer$Reading", name := "writeCaptured", desc := "(Ljava/lang/StringBuilder;I)V" } : Jvm.MethodName)) ∈ lw_all := lw_g (lw_at lw_m7 195 rfl) rfl
theorem q2917 : (Jvm.Cond.castable "BatchRenamer$Rule" "java/lang/Object") ∈ lw_tbl := lw_at lw_m12 148 rfl
theorem in_X9 : ∀ w ∈ wsX90, w ∈ lw_all := lw_in wsX90 [1726, 1728, 1730, 1732, 1734] (by decide +kernel) (by decide +kernel)

