set_option maxRecDepth 100000
/-! BatchRenamerLaw -/
def RX0 : String := "BatchRenamerLaw"
abbrev cX0_append : ByteArray := method_3_code
def yX0_append : MethodName := ⟨RX0, "append", "(LBatchRenamer;IIIII[J)I"⟩
def dkwX0_append_1 : List UInt8 := [172]
abbrev dktX0_append_1 : List UInt8 := dkwX0_append_1 ++ []
def dkwX0_append_0 : List UInt8 := [25, 6, 3, 42, 27, 28, 29, 21, 4, 21, 5, 182, 0, 7, 133, 80, 167, 0, 7, 58, 7, 4, 172, 3]
abbrev dktX0_append_0 : List UInt8 := dkwX0_append_0 ++ dktX0_append_1
theorem dksX0_append_0 : cX0_append.data.toList.drop 0 = dktX0_append_0 := by decide +kernel
theorem dksX0_append_1 : cX0_append.data.toList.drop 24 = dktX0_append_1 := dk_seg dksX0_append_0 24 rfl rfl
theorem dX0_append_0 : decode cX0_append 0 = .ok (.aload 6, 2) := dk_25 6 (dk_at dksX0_append_0 0 rfl rfl)
theorem dX0_append_2 : decode cX0_append 2 = .ok (.iconst 0, 1) := dk_3 (dk_at dksX0_append_0 2 rfl rfl)
theorem dX0_append_3 : decode cX0_append 3 = .ok (.aload_n 0, 1) := dk_42 (dk_at dksX0_append_0 3 rfl rfl)
theorem dX0_append_4 : decode cX0_append 4 = .ok (.iload_n 1, 1) := dk_27 (dk_at dksX0_append_0 4 rfl rfl)
theorem dX0_append_5 : decode cX0_append 5 = .ok (.iload_n 2, 1) := dk_28 (dk_at dksX0_append_0 5 rfl rfl)
theorem dX0_append_6 : decode cX0_append 6 = .ok (.iload_n 3, 1) := dk_29 (dk_at dksX0_append_0 6 rfl rfl)
theorem dX0_append_7 : decode cX0_append 7 = .ok (.iload 4, 2) := dk_21 4 (dk_at dksX0_append_0 7 rfl rfl)
theorem dX0_append_9 : decode cX0_append 9 = .ok (.iload 5, 2) := dk_21 5 (dk_at dksX0_append_0 9 rfl rfl)
theorem dX0_append_11 : decode cX0_append 11 = .ok (.invokevirtual 7, 3) := dk_182 0 7 (dk_at dksX0_append_0 11 rfl rfl)
theorem dX0_append_14 : decode cX0_append 14 = .ok (.i2l, 1) := dk_133 (dk_at dksX0_append_0 14 rfl rfl)
theorem dX0_append_15 : decode cX0_append 15 = .ok (.lastore, 1) := dk_80 (dk_at dksX0_append_0 15 rfl rfl)
theorem dX0_append_16 : decode cX0_append 16 = .ok (.goto 7, 3) := dk_167 0 7 (dk_at dksX0_append_0 16 rfl rfl)
theorem dX0_append_19 : decode cX0_append 19 = .ok (.astore 7, 2) := dk_58 7 (dk_at dksX0_append_0 19 rfl rfl)
theorem dX0_append_21 : decode cX0_append 21 = .ok (.iconst 1, 1) := dk_4 (dk_at dksX0_append_0 21 rfl rfl)
theorem dX0_append_22 : decode cX0_append 22 = .ok (.ireturn, 1) := dk_172 (dk_at dksX0_append_0 22 rfl rfl)
theorem dX0_append_23 : decode cX0_append 23 = .ok (.iconst 0, 1) := dk_3 (dk_at dksX0_append_0 23 rfl rfl)
theorem dX0_append_24 : decode cX0_append 24 = .ok (.ireturn, 1) := dk_172 (dk_at dksX0_append_1 0 rfl rfl)
abbrev cX0_truncate : ByteArray := method_4_code
def yX0_truncate : MethodName := ⟨RX0, "truncate", "(LBatchRenamer;I)I"⟩
def dkwX0_truncate_0 : List UInt8 := [42, 27, 182, 0, 15, 167, 0, 6, 77, 4, 172, 3, 172]
abbrev dktX0_truncate_0 : List UInt8 := dkwX0_truncate_0 ++ []
theorem dksX0_truncate_0 : cX0_truncate.data.toList.drop 0 = dktX0_truncate_0 := by decide +kernel
theorem dX0_truncate_0 : decode cX0_truncate 0 = .ok (.aload_n 0, 1) := dk_42 (dk_at dksX0_truncate_0 0 rfl rfl)
theorem dX0_truncate_1 : decode cX0_truncate 1 = .ok (.iload_n 1, 1) := dk_27 (dk_at dksX0_truncate_0 1 rfl rfl)
theorem dX0_truncate_2 : decode cX0_truncate 2 = .ok (.invokevirtual 15, 3) := dk_182 0 15 (dk_at dksX0_truncate_0 2 rfl rfl)
theorem dX0_truncate_5 : decode cX0_truncate 5 = .ok (.goto 6, 3) := dk_167 0 6 (dk_at dksX0_truncate_0 5 rfl rfl)
theorem dX0_truncate_8 : decode cX0_truncate 8 = .ok (.astore_n 2, 1) := dk_77 (dk_at dksX0_truncate_0 8 rfl rfl)
theorem dX0_truncate_9 : decode cX0_truncate 9 = .ok (.iconst 1, 1) := dk_4 (dk_at dksX0_truncate_0 9 rfl rfl)
theorem dX0_truncate_10 : decode cX0_truncate 10 = .ok (.ireturn, 1) := dk_172 (dk_at dksX0_truncate_0 10 rfl rfl)
theorem dX0_truncate_11 : decode cX0_truncate 11 = .ok (.iconst 0, 1) := dk_3 (dk_at dksX0_truncate_0 11 rfl rfl)
theorem dX0_truncate_12 : decode cX0_truncate 12 = .ok (.ireturn, 1) := dk_172 (dk_at dksX0_truncate_0 12 rfl rfl)
abbrev cX0_load : ByteArray := method_5_code
def yX0_load : MethodName := ⟨RX0, "load", "(LBatchRenamer;[J)I"⟩
def dkwX0_load_0 : List UInt8 := [43, 3, 42, 182, 0, 21, 133, 80, 167, 0, 6, 77, 4, 172, 3, 172]
abbrev dktX0_load_0 : List UInt8 := dkwX0_load_0 ++ []
theorem dksX0_load_0 : cX0_load.data.toList.drop 0 = dktX0_load_0 := by decide +kernel
theorem dX0_load_0 : decode cX0_load 0 = .ok (.aload_n 1, 1) := dk_43 (dk_at dksX0_load_0 0 rfl rfl)
theorem dX0_load_1 : decode cX0_load 1 = .ok (.iconst 0, 1) := dk_3 (dk_at dksX0_load_0 1 rfl rfl)
theorem dX0_load_2 : decode cX0_load 2 = .ok (.aload_n 0, 1) := dk_42 (dk_at dksX0_load_0 2 rfl rfl)
theorem dX0_load_3 : decode cX0_load 3 = .ok (.invokevirtual 21, 3) := dk_182 0 21 (dk_at dksX0_load_0 3 rfl rfl)
theorem dX0_load_6 : decode cX0_load 6 = .ok (.i2l, 1) := dk_133 (dk_at dksX0_load_0 6 rfl rfl)
theorem dX0_load_7 : decode cX0_load 7 = .ok (.lastore, 1) := dk_80 (dk_at dksX0_load_0 7 rfl rfl)
theorem dX0_load_8 : decode cX0_load 8 = .ok (.goto 6, 3) := dk_167 0 6 (dk_at dksX0_load_0 8 rfl rfl)
theorem dX0_load_11 : decode cX0_load 11 = .ok (.astore_n 2, 1) := dk_77 (dk_at dksX0_load_0 11 rfl rfl)
theorem dX0_load_12 : decode cX0_load 12 = .ok (.iconst 1, 1) := dk_4 (dk_at dksX0_load_0 12 rfl rfl)
theorem dX0_load_13 : decode cX0_load 13 = .ok (.ireturn, 1) := dk_172 (dk_at dksX0_load_0 13 rfl rfl)
theorem dX0_load_14 : decode cX0_load 14 = .ok (.iconst 0, 1) := dk_3 (dk_at dksX0_load_0 14 rfl rfl)
theorem dX0_load_15 : decode cX0_load 15 = .ok (.ireturn, 1) := dk_172 (dk_at dksX0_load_0 15 rfl rfl)
abbrev cX0_isKept : ByteArray := method_6_code
def yX0_isKept : MethodName := ⟨RX0, "isKept", "(LBatchRenamer;I[J)I"⟩
def dkwX0_isKept_0 : List UInt8 := [44, 3, 42, 27, 182, 0, 25, 153, 0, 7, 10, 167, 0, 4, 9, 80, 167, 0, 6, 78, 4, 172, 3, 172]
abbrev dktX0_isKept_0 : List UInt8 := dkwX0_isKept_0 ++ []
theorem dksX0_isKept_0 : cX0_isKept.data.toList.drop 0 = dktX0_isKept_0 := by decide +kernel
theorem dX0_isKept_0 : decode cX0_isKept 0 = .ok (.aload_n 2, 1) := dk_44 (dk_at dksX0_isKept_0 0 rfl rfl)
theorem dX0_isKept_1 : decode cX0_isKept 1 = .ok (.iconst 0, 1) := dk_3 (dk_at dksX0_isKept_0 1 rfl rfl)
theorem dX0_isKept_2 : decode cX0_isKept 2 = .ok (.aload_n 0, 1) := dk_42 (dk_at dksX0_isKept_0 2 rfl rfl)
theorem dX0_isKept_3 : decode cX0_isKept 3 = .ok (.iload_n 1, 1) := dk_27 (dk_at dksX0_isKept_0 3 rfl rfl)
theorem dX0_isKept_4 : decode cX0_isKept 4 = .ok (.invokevirtual 25, 3) := dk_182 0 25 (dk_at dksX0_isKept_0 4 rfl rfl)
theorem dX0_isKept_7 : decode cX0_isKept 7 = .ok (.ifCond .eq 7, 3) := dk_153 0 7 (dk_at dksX0_isKept_0 7 rfl rfl)
theorem dX0_isKept_10 : decode cX0_isKept 10 = .ok (.lconst 1, 1) := dk_10 (dk_at dksX0_isKept_0 10 rfl rfl)
theorem dX0_isKept_11 : decode cX0_isKept 11 = .ok (.goto 4, 3) := dk_167 0 4 (dk_at dksX0_isKept_0 11 rfl rfl)
theorem dX0_isKept_14 : decode cX0_isKept 14 = .ok (.lconst 0, 1) := dk_9 (dk_at dksX0_isKept_0 14 rfl rfl)
theorem dX0_isKept_15 : decode cX0_isKept 15 = .ok (.lastore, 1) := dk_80 (dk_at dksX0_isKept_0 15 rfl rfl)
theorem dX0_isKept_16 : decode cX0_isKept 16 = .ok (.goto 6, 3) := dk_167 0 6 (dk_at dksX0_isKept_0 16 rfl rfl)
theorem dX0_isKept_19 : decode cX0_isKept 19 = .ok (.astore_n 3, 1) := dk_78 (dk_at dksX0_isKept_0 19 rfl rfl)
theorem dX0_isKept_20 : decode cX0_isKept 20 = .ok (.iconst 1, 1) := dk_4 (dk_at dksX0_isKept_0 20 rfl rfl)
theorem dX0_isKept_21 : decode cX0_isKept 21 = .ok (.ireturn, 1) := dk_172 (dk_at dksX0_isKept_0 21 rfl rfl)
theorem dX0_isKept_22 : decode cX0_isKept 22 = .ok (.iconst 0, 1) := dk_3 (dk_at dksX0_isKept_0 22 rfl rfl)
theorem dX0_isKept_23 : decode cX0_isKept 23 = .ok (.ireturn, 1) := dk_172 (dk_at dksX0_isKept_0 23 rfl rfl)
abbrev cX0_length : ByteArray := method_7_code
def yX0_length : MethodName := ⟨RX0, "length", "(LBatchRenamer;I[J)I"⟩
def dkwX0_length_0 : List UInt8 := [44, 3, 42, 27, 182, 0, 31, 133, 80, 167, 0, 6, 78, 4, 172, 3, 172]
abbrev dktX0_length_0 : List UInt8 := dkwX0_length_0 ++ []
theorem dksX0_length_0 : cX0_length.data.toList.drop 0 = dktX0_length_0 := by decide +kernel
theorem dX0_length_0 : decode cX0_length 0 = .ok (.aload_n 2, 1) := dk_44 (dk_at dksX0_length_0 0 rfl rfl)
theorem dX0_length_1 : decode cX0_length 1 = .ok (.iconst 0, 1) := dk_3 (dk_at dksX0_length_0 1 rfl rfl)
theorem dX0_length_2 : decode cX0_length 2 = .ok (.aload_n 0, 1) := dk_42 (dk_at dksX0_length_0 2 rfl rfl)
theorem dX0_length_3 : decode cX0_length 3 = .ok (.iload_n 1, 1) := dk_27 (dk_at dksX0_length_0 3 rfl rfl)
theorem dX0_length_4 : decode cX0_length 4 = .ok (.invokevirtual 31, 3) := dk_182 0 31 (dk_at dksX0_length_0 4 rfl rfl)
theorem dX0_length_7 : decode cX0_length 7 = .ok (.i2l, 1) := dk_133 (dk_at dksX0_length_0 7 rfl rfl)
theorem dX0_length_8 : decode cX0_length 8 = .ok (.lastore, 1) := dk_80 (dk_at dksX0_length_0 8 rfl rfl)
theorem dX0_length_9 : decode cX0_length 9 = .ok (.goto 6, 3) := dk_167 0 6 (dk_at dksX0_length_0 9 rfl rfl)
theorem dX0_length_12 : decode cX0_length 12 = .ok (.astore_n 3, 1) := dk_78 (dk_at dksX0_length_0 12 rfl rfl)
theorem dX0_length_13 : decode cX0_length 13 = .ok (.iconst 1, 1) := dk_4 (dk_at dksX0_length_0 13 rfl rfl)
theorem dX0_length_14 : decode cX0_length 14 = .ok (.ireturn, 1) := dk_172 (dk_at dksX0_length_0 14 rfl rfl)
theorem dX0_length_15 : decode cX0_length 15 = .ok (.iconst 0, 1) := dk_3 (dk_at dksX0_length_0 15 rfl rfl)
theorem dX0_length_16 : decode cX0_length 16 = .ok (.ireturn, 1) := dk_172 (dk_at dksX0_length_0 16 rfl rfl)
abbrev cX0_rank : ByteArray := method_8_code
def yX0_rank : MethodName := ⟨RX0, "rank", "(LBatchRenamer;I[J)I"⟩
def dkwX0_rank_0 : List UInt8 := [44, 3, 42, 27, 182, 0, 35, 133, 80, 167, 0, 6, 78, 4, 172, 3, 172]
abbrev dktX0_rank_0 : List UInt8 := dkwX0_rank_0 ++ []
theorem dksX0_rank_0 : cX0_rank.data.toList.drop 0 = dktX0_rank_0 := by decide +kernel
theorem dX0_rank_0 : decode cX0_rank 0 = .ok (.aload_n 2, 1) := dk_44 (dk_at dksX0_rank_0 0 rfl rfl)
theorem dX0_rank_1 : decode cX0_rank 1 = .ok (.iconst 0, 1) := dk_3 (dk_at dksX0_rank_0 1 rfl rfl)
theorem dX0_rank_2 : decode cX0_rank 2 = .ok (.aload_n 0, 1) := dk_42 (dk_at dksX0_rank_0 2 rfl rfl)
theorem dX0_rank_3 : decode cX0_rank 3 = .ok (.iload_n 1, 1) := dk_27 (dk_at dksX0_rank_0 3 rfl rfl)
theorem dX0_rank_4 : decode cX0_rank 4 = .ok (.invokevirtual 35, 3) := dk_182 0 35 (dk_at dksX0_rank_0 4 rfl rfl)
theorem dX0_rank_7 : decode cX0_rank 7 = .ok (.i2l, 1) := dk_133 (dk_at dksX0_rank_0 7 rfl rfl)
theorem dX0_rank_8 : decode cX0_rank 8 = .ok (.lastore, 1) := dk_80 (dk_at dksX0_rank_0 8 rfl rfl)
theorem dX0_rank_9 : decode cX0_rank 9 = .ok (.goto 6, 3) := dk_167 0 6 (dk_at dksX0_rank_0 9 rfl rfl)
theorem dX0_rank_12 : decode cX0_rank 12 = .ok (.astore_n 3, 1) := dk_78 (dk_at dksX0_rank_0 12 rfl rfl)
theorem dX0_rank_13 : decode cX0_rank 13 = .ok (.iconst 1, 1) := dk_4 (dk_at dksX0_rank_0 13 rfl rfl)
theorem dX0_rank_14 : decode cX0_rank 14 = .ok (.ireturn, 1) := dk_172 (dk_at dksX0_rank_0 14 rfl rfl)
theorem dX0_rank_15 : decode cX0_rank 15 = .ok (.iconst 0, 1) := dk_3 (dk_at dksX0_rank_0 15 rfl rfl)
theorem dX0_rank_16 : decode cX0_rank 16 = .ok (.ireturn, 1) := dk_172 (dk_at dksX0_rank_0 16 rfl rfl)
abbrev cX0_counting : ByteArray := method_9_code
def yX0_counting : MethodName := ⟨RX0, "counting", "(LBatchRenamer;I[J)I"⟩
def dkwX0_counting_0 : List UInt8 := [44, 3, 42, 27, 182, 0, 38, 133, 80, 167, 0, 6, 78, 4, 172, 3, 172]
abbrev dktX0_counting_0 : List UInt8 := dkwX0_counting_0 ++ []
theorem dksX0_counting_0 : cX0_counting.data.toList.drop 0 = dktX0_counting_0 := by decide +kernel
theorem dX0_counting_0 : decode cX0_counting 0 = .ok (.aload_n 2, 1) := dk_44 (dk_at dksX0_counting_0 0 rfl rfl)
theorem dX0_counting_1 : decode cX0_counting 1 = .ok (.iconst 0, 1) := dk_3 (dk_at dksX0_counting_0 1 rfl rfl)
theorem dX0_counting_2 : decode cX0_counting 2 = .ok (.aload_n 0, 1) := dk_42 (dk_at dksX0_counting_0 2 rfl rfl)
theorem dX0_counting_3 : decode cX0_counting 3 = .ok (.iload_n 1, 1) := dk_27 (dk_at dksX0_counting_0 3 rfl rfl)
theorem dX0_counting_4 : decode cX0_counting 4 = .ok (.invokevirtual 38, 3) := dk_182 0 38 (dk_at dksX0_counting_0 4 rfl rfl)
theorem dX0_counting_7 : decode cX0_counting 7 = .ok (.i2l, 1) := dk_133 (dk_at dksX0_counting_0 7 rfl rfl)
theorem dX0_counting_8 : decode cX0_counting 8 = .ok (.lastore, 1) := dk_80 (dk_at dksX0_counting_0 8 rfl rfl)
theorem dX0_counting_9 : decode cX0_counting 9 = .ok (.goto 6, 3) := dk_167 0 6 (dk_at dksX0_counting_0 9 rfl rfl)
theorem dX0_counting_12 : decode cX0_counting 12 = .ok (.astore_n 3, 1) := dk_78 (dk_at dksX0_counting_0 12 rfl rfl)
theorem dX0_counting_13 : decode cX0_counting 13 = .ok (.iconst 1, 1) := dk_4 (dk_at dksX0_counting_0 13 rfl rfl)
theorem dX0_counting_14 : decode cX0_counting 14 = .ok (.ireturn, 1) := dk_172 (dk_at dksX0_counting_0 14 rfl rfl)
theorem dX0_counting_15 : decode cX0_counting 15 = .ok (.iconst 0, 1) := dk_3 (dk_at dksX0_counting_0 15 rfl rfl)
theorem dX0_counting_16 : decode cX0_counting 16 = .ok (.ireturn, 1) := dk_172 (dk_at dksX0_counting_0 16 rfl rfl)
abbrev cX0_wildcards : ByteArray := method_10_code
def yX0_wildcards : MethodName := ⟨RX0, "wildcards", "(LBatchRenamer;I[J)I"⟩
def dkwX0_wildcards_0 : List UInt8 := [44, 3, 42, 27, 182, 0, 41, 133, 80, 167, 0, 6, 78, 4, 172, 3, 172]
abbrev dktX0_wildcards_0 : List UInt8 := dkwX0_wildcards_0 ++ []
theorem dksX0_wildcards_0 : cX0_wildcards.data.toList.drop 0 = dktX0_wildcards_0 := by decide +kernel
theorem dX0_wildcards_0 : decode cX0_wildcards 0 = .ok (.aload_n 2, 1) := dk_44 (dk_at dksX0_wildcards_0 0 rfl rfl)
theorem dX0_wildcards_1 : decode cX0_wildcards 1 = .ok (.iconst 0, 1) := dk_3 (dk_at dksX0_wildcards_0 1 rfl rfl)
theorem dX0_wildcards_2 : decode cX0_wildcards 2 = .ok (.aload_n 0, 1) := dk_42 (dk_at dksX0_wildcards_0 2 rfl rfl)
theorem dX0_wildcards_3 : decode cX0_wildcards 3 = .ok (.iload_n 1, 1) := dk_27 (dk_at dksX0_wildcards_0 3 rfl rfl)
theorem dX0_wildcards_4 : decode cX0_wildcards 4 = .ok (.invokevirtual 41, 3) := dk_182 0 41 (dk_at dksX0_wildcards_0 4 rfl rfl)
theorem dX0_wildcards_7 : decode cX0_wildcards 7 = .ok (.i2l, 1) := dk_133 (dk_at dksX0_wildcards_0 7 rfl rfl)
theorem dX0_wildcards_8 : decode cX0_wildcards 8 = .ok (.lastore, 1) := dk_80 (dk_at dksX0_wildcards_0 8 rfl rfl)
theorem dX0_wildcards_9 : decode cX0_wildcards 9 = .ok (.goto 6, 3) := dk_167 0 6 (dk_at dksX0_wildcards_0 9 rfl rfl)
theorem dX0_wildcards_12 : decode cX0_wildcards 12 = .ok (.astore_n 3, 1) := dk_78 (dk_at dksX0_wildcards_0 12 rfl rfl)
theorem dX0_wildcards_13 : decode cX0_wildcards 13 = .ok (.iconst 1, 1) := dk_4 (dk_at dksX0_wildcards_0 13 rfl rfl)
theorem dX0_wildcards_14 : decode cX0_wildcards 14 = .ok (.ireturn, 1) := dk_172 (dk_at dksX0_wildcards_0 14 rfl rfl)
theorem dX0_wildcards_15 : decode cX0_wildcards 15 = .ok (.iconst 0, 1) := dk_3 (dk_at dksX0_wildcards_0 15 rfl rfl)
theorem dX0_wildcards_16 : decode cX0_wildcards 16 = .ok (.ireturn, 1) := dk_172 (dk_at dksX0_wildcards_0 16 rfl rfl)
abbrev cX0_matches : ByteArray := method_11_code
def yX0_matches : MethodName := ⟨RX0, "matches", "(LBatchRenamer;II[J)I"⟩
def dkwX0_matches_1 : List UInt8 := [3, 172]
abbrev dktX0_matches_1 : List UInt8 := dkwX0_matches_1 ++ []
def dkwX0_matches_0 : List UInt8 := [45, 3, 42, 27, 28, 182, 0, 44, 153, 0, 7, 10, 167, 0, 4, 9, 80, 167, 0, 7, 58, 4, 4, 172]
abbrev dktX0_matches_0 : List UInt8 := dkwX0_matches_0 ++ dktX0_matches_1
theorem dksX0_matches_0 : cX0_matches.data.toList.drop 0 = dktX0_matches_0 := by decide +kernel
theorem dksX0_matches_1 : cX0_matches.data.toList.drop 24 = dktX0_matches_1 := dk_seg dksX0_matches_0 24 rfl rfl
theorem dX0_matches_0 : decode cX0_matches 0 = .ok (.aload_n 3, 1) := dk_45 (dk_at dksX0_matches_0 0 rfl rfl)
theorem dX0_matches_1 : decode cX0_matches 1 = .ok (.iconst 0, 1) := dk_3 (dk_at dksX0_matches_0 1 rfl rfl)
theorem dX0_matches_2 : decode cX0_matches 2 = .ok (.aload_n 0, 1) := dk_42 (dk_at dksX0_matches_0 2 rfl rfl)
theorem dX0_matches_3 : decode cX0_matches 3 = .ok (.iload_n 1, 1) := dk_27 (dk_at dksX0_matches_0 3 rfl rfl)
theorem dX0_matches_4 : decode cX0_matches 4 = .ok (.iload_n 2, 1) := dk_28 (dk_at dksX0_matches_0 4 rfl rfl)
theorem dX0_matches_5 : decode cX0_matches 5 = .ok (.invokevirtual 44, 3) := dk_182 0 44 (dk_at dksX0_matches_0 5 rfl rfl)
theorem dX0_matches_8 : decode cX0_matches 8 = .ok (.ifCond .eq 7, 3) := dk_153 0 7 (dk_at dksX0_matches_0 8 rfl rfl)
theorem dX0_matches_11 : decode cX0_matches 11 = .ok (.lconst 1, 1) := dk_10 (dk_at dksX0_matches_0 11 rfl rfl)
theorem dX0_matches_12 : decode cX0_matches 12 = .ok (.goto 4, 3) := dk_167 0 4 (dk_at dksX0_matches_0 12 rfl rfl)
theorem dX0_matches_15 : decode cX0_matches 15 = .ok (.lconst 0, 1) := dk_9 (dk_at dksX0_matches_0 15 rfl rfl)
theorem dX0_matches_16 : decode cX0_matches 16 = .ok (.lastore, 1) := dk_80 (dk_at dksX0_matches_0 16 rfl rfl)
theorem dX0_matches_17 : decode cX0_matches 17 = .ok (.goto 7, 3) := dk_167 0 7 (dk_at dksX0_matches_0 17 rfl rfl)
theorem dX0_matches_20 : decode cX0_matches 20 = .ok (.astore 4, 2) := dk_58 4 (dk_at dksX0_matches_0 20 rfl rfl)
theorem dX0_matches_22 : decode cX0_matches 22 = .ok (.iconst 1, 1) := dk_4 (dk_at dksX0_matches_0 22 rfl rfl)
theorem dX0_matches_23 : decode cX0_matches 23 = .ok (.ireturn, 1) := dk_172 (dk_at dksX0_matches_0 23 rfl rfl)
theorem dX0_matches_24 : decode cX0_matches 24 = .ok (.iconst 0, 1) := dk_3 (dk_at dksX0_matches_1 0 rfl rfl)
theorem dX0_matches_25 : decode cX0_matches 25 = .ok (.ireturn, 1) := dk_172 (dk_at dksX0_matches_1 1 rfl rfl)
abbrev cX0_capture : ByteArray := method_12_code
def yX0_capture : MethodName := ⟨RX0, "capture", "(LBatchRenamer;IIII[J)I"⟩
def dkwX0_capture_1 : List UInt8 := [172, 3, 172]
abbrev dktX0_capture_1 : List UInt8 := dkwX0_capture_1 ++ []
def dkwX0_capture_0 : List UInt8 := [25, 5, 3, 42, 27, 28, 29, 21, 4, 182, 0, 48, 133, 80, 167, 0, 11, 58, 6, 4, 172, 58, 6, 5]
abbrev dktX0_capture_0 : List UInt8 := dkwX0_capture_0 ++ dktX0_capture_1
theorem dksX0_capture_0 : cX0_capture.data.toList.drop 0 = dktX0_capture_0 := by decide +kernel
theorem dksX0_capture_1 : cX0_capture.data.toList.drop 24 = dktX0_capture_1 := dk_seg dksX0_capture_0 24 rfl rfl
theorem dX0_capture_0 : decode cX0_capture 0 = .ok (.aload 5, 2) := dk_25 5 (dk_at dksX0_capture_0 0 rfl rfl)
theorem dX0_capture_2 : decode cX0_capture 2 = .ok (.iconst 0, 1) := dk_3 (dk_at dksX0_capture_0 2 rfl rfl)
theorem dX0_capture_3 : decode cX0_capture 3 = .ok (.aload_n 0, 1) := dk_42 (dk_at dksX0_capture_0 3 rfl rfl)
theorem dX0_capture_4 : decode cX0_capture 4 = .ok (.iload_n 1, 1) := dk_27 (dk_at dksX0_capture_0 4 rfl rfl)
theorem dX0_capture_5 : decode cX0_capture 5 = .ok (.iload_n 2, 1) := dk_28 (dk_at dksX0_capture_0 5 rfl rfl)
theorem dX0_capture_6 : decode cX0_capture 6 = .ok (.iload_n 3, 1) := dk_29 (dk_at dksX0_capture_0 6 rfl rfl)
theorem dX0_capture_7 : decode cX0_capture 7 = .ok (.iload 4, 2) := dk_21 4 (dk_at dksX0_capture_0 7 rfl rfl)
theorem dX0_capture_9 : decode cX0_capture 9 = .ok (.invokevirtual 48, 3) := dk_182 0 48 (dk_at dksX0_capture_0 9 rfl rfl)
theorem dX0_capture_12 : decode cX0_capture 12 = .ok (.i2l, 1) := dk_133 (dk_at dksX0_capture_0 12 rfl rfl)
theorem dX0_capture_13 : decode cX0_capture 13 = .ok (.lastore, 1) := dk_80 (dk_at dksX0_capture_0 13 rfl rfl)
theorem dX0_capture_14 : decode cX0_capture 14 = .ok (.goto 11, 3) := dk_167 0 11 (dk_at dksX0_capture_0 14 rfl rfl)
theorem dX0_capture_17 : decode cX0_capture 17 = .ok (.astore 6, 2) := dk_58 6 (dk_at dksX0_capture_0 17 rfl rfl)
theorem dX0_capture_19 : decode cX0_capture 19 = .ok (.iconst 1, 1) := dk_4 (dk_at dksX0_capture_0 19 rfl rfl)
theorem dX0_capture_20 : decode cX0_capture 20 = .ok (.ireturn, 1) := dk_172 (dk_at dksX0_capture_0 20 rfl rfl)
theorem dX0_capture_21 : decode cX0_capture 21 = .ok (.astore 6, 2) := dk_58 6 (dk_at dksX0_capture_0 21 rfl rfl)
theorem dX0_capture_23 : decode cX0_capture 23 = .ok (.iconst 2, 1) := dk_5 (dk_at dksX0_capture_0 23 rfl rfl)
theorem dX0_capture_24 : decode cX0_capture 24 = .ok (.ireturn, 1) := dk_172 (dk_at dksX0_capture_1 0 rfl rfl)
theorem dX0_capture_25 : decode cX0_capture 25 = .ok (.iconst 0, 1) := dk_3 (dk_at dksX0_capture_1 1 rfl rfl)
theorem dX0_capture_26 : decode cX0_capture 26 = .ok (.ireturn, 1) := dk_172 (dk_at dksX0_capture_1 2 rfl rfl)
abbrev cX0_ruleOf : ByteArray := method_13_code
def yX0_ruleOf : MethodName := ⟨RX0, "ruleOf", "(LBatchRenamer;I[J)I"⟩
def dkwX0_ruleOf_0 : List UInt8 := [44, 3, 42, 27, 182, 0, 52, 133, 80, 167, 0, 6, 78, 4, 172, 3, 172]
abbrev dktX0_ruleOf_0 : List UInt8 := dkwX0_ruleOf_0 ++ []
theorem dksX0_ruleOf_0 : cX0_ruleOf.data.toList.drop 0 = dktX0_ruleOf_0 := by decide +kernel
theorem dX0_ruleOf_0 : decode cX0_ruleOf 0 = .ok (.aload_n 2, 1) := dk_44 (dk_at dksX0_ruleOf_0 0 rfl rfl)
theorem dX0_ruleOf_1 : decode cX0_ruleOf 1 = .ok (.iconst 0, 1) := dk_3 (dk_at dksX0_ruleOf_0 1 rfl rfl)
theorem dX0_ruleOf_2 : decode cX0_ruleOf 2 = .ok (.aload_n 0, 1) := dk_42 (dk_at dksX0_ruleOf_0 2 rfl rfl)
theorem dX0_ruleOf_3 : decode cX0_ruleOf 3 = .ok (.iload_n 1, 1) := dk_27 (dk_at dksX0_ruleOf_0 3 rfl rfl)
theorem dX0_ruleOf_4 : decode cX0_ruleOf 4 = .ok (.invokevirtual 52, 3) := dk_182 0 52 (dk_at dksX0_ruleOf_0 4 rfl rfl)
theorem dX0_ruleOf_7 : decode cX0_ruleOf 7 = .ok (.i2l, 1) := dk_133 (dk_at dksX0_ruleOf_0 7 rfl rfl)
theorem dX0_ruleOf_8 : decode cX0_ruleOf 8 = .ok (.lastore, 1) := dk_80 (dk_at dksX0_ruleOf_0 8 rfl rfl)
theorem dX0_ruleOf_9 : decode cX0_ruleOf 9 = .ok (.goto 6, 3) := dk_167 0 6 (dk_at dksX0_ruleOf_0 9 rfl rfl)
theorem dX0_ruleOf_12 : decode cX0_ruleOf 12 = .ok (.astore_n 3, 1) := dk_78 (dk_at dksX0_ruleOf_0 12 rfl rfl)
theorem dX0_ruleOf_13 : decode cX0_ruleOf 13 = .ok (.iconst 1, 1) := dk_4 (dk_at dksX0_ruleOf_0 13 rfl rfl)
theorem dX0_ruleOf_14 : decode cX0_ruleOf 14 = .ok (.ireturn, 1) := dk_172 (dk_at dksX0_ruleOf_0 14 rfl rfl)
theorem dX0_ruleOf_15 : decode cX0_ruleOf 15 = .ok (.iconst 0, 1) := dk_3 (dk_at dksX0_ruleOf_0 15 rfl rfl)
theorem dX0_ruleOf_16 : decode cX0_ruleOf 16 = .ok (.ireturn, 1) := dk_172 (dk_at dksX0_ruleOf_0 16 rfl rfl)
abbrev cX0_filesOf : ByteArray := method_14_code
def yX0_filesOf : MethodName := ⟨RX0, "filesOf", "(LBatchRenamer;I[J)I"⟩
def dkwX0_filesOf_0 : List UInt8 := [44, 3, 42, 27, 182, 0, 55, 133, 80, 167, 0, 6, 78, 4, 172, 3, 172]
abbrev dktX0_filesOf_0 : List UInt8 := dkwX0_filesOf_0 ++ []
theorem dksX0_filesOf_0 : cX0_filesOf.data.toList.drop 0 = dktX0_filesOf_0 := by decide +kernel
theorem dX0_filesOf_0 : decode cX0_filesOf 0 = .ok (.aload_n 2, 1) := dk_44 (dk_at dksX0_filesOf_0 0 rfl rfl)
theorem dX0_filesOf_1 : decode cX0_filesOf 1 = .ok (.iconst 0, 1) := dk_3 (dk_at dksX0_filesOf_0 1 rfl rfl)
theorem dX0_filesOf_2 : decode cX0_filesOf 2 = .ok (.aload_n 0, 1) := dk_42 (dk_at dksX0_filesOf_0 2 rfl rfl)
theorem dX0_filesOf_3 : decode cX0_filesOf 3 = .ok (.iload_n 1, 1) := dk_27 (dk_at dksX0_filesOf_0 3 rfl rfl)
theorem dX0_filesOf_4 : decode cX0_filesOf 4 = .ok (.invokevirtual 55, 3) := dk_182 0 55 (dk_at dksX0_filesOf_0 4 rfl rfl)
theorem dX0_filesOf_7 : decode cX0_filesOf 7 = .ok (.i2l, 1) := dk_133 (dk_at dksX0_filesOf_0 7 rfl rfl)
theorem dX0_filesOf_8 : decode cX0_filesOf 8 = .ok (.lastore, 1) := dk_80 (dk_at dksX0_filesOf_0 8 rfl rfl)
theorem dX0_filesOf_9 : decode cX0_filesOf 9 = .ok (.goto 6, 3) := dk_167 0 6 (dk_at dksX0_filesOf_0 9 rfl rfl)
theorem dX0_filesOf_12 : decode cX0_filesOf 12 = .ok (.astore_n 3, 1) := dk_78 (dk_at dksX0_filesOf_0 12 rfl rfl)
theorem dX0_filesOf_13 : decode cX0_filesOf 13 = .ok (.iconst 1, 1) := dk_4 (dk_at dksX0_filesOf_0 13 rfl rfl)
theorem dX0_filesOf_14 : decode cX0_filesOf 14 = .ok (.ireturn, 1) := dk_172 (dk_at dksX0_filesOf_0 14 rfl rfl)
theorem dX0_filesOf_15 : decode cX0_filesOf 15 = .ok (.iconst 0, 1) := dk_3 (dk_at dksX0_filesOf_0 15 rfl rfl)
theorem dX0_filesOf_16 : decode cX0_filesOf 16 = .ok (.ireturn, 1) := dk_172 (dk_at dksX0_filesOf_0 16 rfl rfl)
abbrev cX0_groups : ByteArray := method_15_code
def yX0_groups : MethodName := ⟨RX0, "groups", "(LBatchRenamer;I[J)I"⟩
def dkwX0_groups_0 : List UInt8 := [44, 3, 42, 27, 182, 0, 58, 133, 80, 167, 0, 6, 78, 4, 172, 3, 172]
abbrev dktX0_groups_0 : List UInt8 := dkwX0_groups_0 ++ []
theorem dksX0_groups_0 : cX0_groups.data.toList.drop 0 = dktX0_groups_0 := by decide +kernel
theorem dX0_groups_0 : decode cX0_groups 0 = .ok (.aload_n 2, 1) := dk_44 (dk_at dksX0_groups_0 0 rfl rfl)
theorem dX0_groups_1 : decode cX0_groups 1 = .ok (.iconst 0, 1) := dk_3 (dk_at dksX0_groups_0 1 rfl rfl)
theorem dX0_groups_2 : decode cX0_groups 2 = .ok (.aload_n 0, 1) := dk_42 (dk_at dksX0_groups_0 2 rfl rfl)
theorem dX0_groups_3 : decode cX0_groups 3 = .ok (.iload_n 1, 1) := dk_27 (dk_at dksX0_groups_0 3 rfl rfl)
theorem dX0_groups_4 : decode cX0_groups 4 = .ok (.invokevirtual 58, 3) := dk_182 0 58 (dk_at dksX0_groups_0 4 rfl rfl)
theorem dX0_groups_7 : decode cX0_groups 7 = .ok (.i2l, 1) := dk_133 (dk_at dksX0_groups_0 7 rfl rfl)
theorem dX0_groups_8 : decode cX0_groups 8 = .ok (.lastore, 1) := dk_80 (dk_at dksX0_groups_0 8 rfl rfl)
theorem dX0_groups_9 : decode cX0_groups 9 = .ok (.goto 6, 3) := dk_167 0 6 (dk_at dksX0_groups_0 9 rfl rfl)
theorem dX0_groups_12 : decode cX0_groups 12 = .ok (.astore_n 3, 1) := dk_78 (dk_at dksX0_groups_0 12 rfl rfl)
theorem dX0_groups_13 : decode cX0_groups 13 = .ok (.iconst 1, 1) := dk_4 (dk_at dksX0_groups_0 13 rfl rfl)
theorem dX0_groups_14 : decode cX0_groups 14 = .ok (.ireturn, 1) := dk_172 (dk_at dksX0_groups_0 14 rfl rfl)
theorem dX0_groups_15 : decode cX0_groups 15 = .ok (.iconst 0, 1) := dk_3 (dk_at dksX0_groups_0 15 rfl rfl)
theorem dX0_groups_16 : decode cX0_groups 16 = .ok (.ireturn, 1) := dk_172 (dk_at dksX0_groups_0 16 rfl rfl)
abbrev cX0_counter : ByteArray := method_16_code
def yX0_counter : MethodName := ⟨RX0, "counter", "(LBatchRenamer;I[J)I"⟩
def dkwX0_counter_0 : List UInt8 := [44, 3, 42, 27, 182, 0, 61, 133, 80, 167, 0, 6, 78, 4, 172, 3, 172]
abbrev dktX0_counter_0 : List UInt8 := dkwX0_counter_0 ++ []
theorem dksX0_counter_0 : cX0_counter.data.toList.drop 0 = dktX0_counter_0 := by decide +kernel
theorem dX0_counter_0 : decode cX0_counter 0 = .ok (.aload_n 2, 1) := dk_44 (dk_at dksX0_counter_0 0 rfl rfl)
theorem dX0_counter_1 : decode cX0_counter 1 = .ok (.iconst 0, 1) := dk_3 (dk_at dksX0_counter_0 1 rfl rfl)
theorem dX0_counter_2 : decode cX0_counter 2 = .ok (.aload_n 0, 1) := dk_42 (dk_at dksX0_counter_0 2 rfl rfl)
theorem dX0_counter_3 : decode cX0_counter 3 = .ok (.iload_n 1, 1) := dk_27 (dk_at dksX0_counter_0 3 rfl rfl)
theorem dX0_counter_4 : decode cX0_counter 4 = .ok (.invokevirtual 61, 3) := dk_182 0 61 (dk_at dksX0_counter_0 4 rfl rfl)
theorem dX0_counter_7 : decode cX0_counter 7 = .ok (.i2l, 1) := dk_133 (dk_at dksX0_counter_0 7 rfl rfl)
theorem dX0_counter_8 : decode cX0_counter 8 = .ok (.lastore, 1) := dk_80 (dk_at dksX0_counter_0 8 rfl rfl)
theorem dX0_counter_9 : decode cX0_counter 9 = .ok (.goto 6, 3) := dk_167 0 6 (dk_at dksX0_counter_0 9 rfl rfl)
theorem dX0_counter_12 : decode cX0_counter 12 = .ok (.astore_n 3, 1) := dk_78 (dk_at dksX0_counter_0 12 rfl rfl)
theorem dX0_counter_13 : decode cX0_counter 13 = .ok (.iconst 1, 1) := dk_4 (dk_at dksX0_counter_0 13 rfl rfl)
theorem dX0_counter_14 : decode cX0_counter 14 = .ok (.ireturn, 1) := dk_172 (dk_at dksX0_counter_0 14 rfl rfl)
theorem dX0_counter_15 : decode cX0_counter 15 = .ok (.iconst 0, 1) := dk_3 (dk_at dksX0_counter_0 15 rfl rfl)
theorem dX0_counter_16 : decode cX0_counter 16 = .ok (.ireturn, 1) := dk_172 (dk_at dksX0_counter_0 16 rfl rfl)
abbrev cX0_status : ByteArray := method_17_code
def yX0_status : MethodName := ⟨RX0, "status", "(LBatchRenamer;I[J)I"⟩
def dkwX0_status_0 : List UInt8 := [44, 3, 42, 27, 182, 0, 64, 133, 80, 167, 0, 6, 78, 4, 172, 3, 172]
abbrev dktX0_status_0 : List UInt8 := dkwX0_status_0 ++ []
theorem dksX0_status_0 : cX0_status.data.toList.drop 0 = dktX0_status_0 := by decide +kernel
theorem dX0_status_0 : decode cX0_status 0 = .ok (.aload_n 2, 1) := dk_44 (dk_at dksX0_status_0 0 rfl rfl)
theorem dX0_status_1 : decode cX0_status 1 = .ok (.iconst 0, 1) := dk_3 (dk_at dksX0_status_0 1 rfl rfl)
theorem dX0_status_2 : decode cX0_status 2 = .ok (.aload_n 0, 1) := dk_42 (dk_at dksX0_status_0 2 rfl rfl)
theorem dX0_status_3 : decode cX0_status 3 = .ok (.iload_n 1, 1) := dk_27 (dk_at dksX0_status_0 3 rfl rfl)
theorem dX0_status_4 : decode cX0_status 4 = .ok (.invokevirtual 64, 3) := dk_182 0 64 (dk_at dksX0_status_0 4 rfl rfl)
theorem dX0_status_7 : decode cX0_status 7 = .ok (.i2l, 1) := dk_133 (dk_at dksX0_status_0 7 rfl rfl)
theorem dX0_status_8 : decode cX0_status 8 = .ok (.lastore, 1) := dk_80 (dk_at dksX0_status_0 8 rfl rfl)
theorem dX0_status_9 : decode cX0_status 9 = .ok (.goto 6, 3) := dk_167 0 6 (dk_at dksX0_status_0 9 rfl rfl)
theorem dX0_status_12 : decode cX0_status 12 = .ok (.astore_n 3, 1) := dk_78 (dk_at dksX0_status_0 12 rfl rfl)
theorem dX0_status_13 : decode cX0_status 13 = .ok (.iconst 1, 1) := dk_4 (dk_at dksX0_status_0 13 rfl rfl)
theorem dX0_status_14 : decode cX0_status 14 = .ok (.ireturn, 1) := dk_172 (dk_at dksX0_status_0 14 rfl rfl)
theorem dX0_status_15 : decode cX0_status 15 = .ok (.iconst 0, 1) := dk_3 (dk_at dksX0_status_0 15 rfl rfl)
theorem dX0_status_16 : decode cX0_status 16 = .ok (.ireturn, 1) := dk_172 (dk_at dksX0_status_0 16 rfl rfl)
abbrev cX0_newLength : ByteArray := method_18_code
def yX0_newLength : MethodName := ⟨RX0, "newLength", "(LBatchRenamer;I[J)I"⟩
def dkwX0_newLength_0 : List UInt8 := [44, 3, 42, 27, 182, 0, 67, 133, 80, 167, 0, 6, 78, 4, 172, 3, 172]
abbrev dktX0_newLength_0 : List UInt8 := dkwX0_newLength_0 ++ []
theorem dksX0_newLength_0 : cX0_newLength.data.toList.drop 0 = dktX0_newLength_0 := by decide +kernel
theorem dX0_newLength_0 : decode cX0_newLength 0 = .ok (.aload_n 2, 1) := dk_44 (dk_at dksX0_newLength_0 0 rfl rfl)
theorem dX0_newLength_1 : decode cX0_newLength 1 = .ok (.iconst 0, 1) := dk_3 (dk_at dksX0_newLength_0 1 rfl rfl)
theorem dX0_newLength_2 : decode cX0_newLength 2 = .ok (.aload_n 0, 1) := dk_42 (dk_at dksX0_newLength_0 2 rfl rfl)
theorem dX0_newLength_3 : decode cX0_newLength 3 = .ok (.iload_n 1, 1) := dk_27 (dk_at dksX0_newLength_0 3 rfl rfl)
theorem dX0_newLength_4 : decode cX0_newLength 4 = .ok (.invokevirtual 67, 3) := dk_182 0 67 (dk_at dksX0_newLength_0 4 rfl rfl)
theorem dX0_newLength_7 : decode cX0_newLength 7 = .ok (.i2l, 1) := dk_133 (dk_at dksX0_newLength_0 7 rfl rfl)
theorem dX0_newLength_8 : decode cX0_newLength 8 = .ok (.lastore, 1) := dk_80 (dk_at dksX0_newLength_0 8 rfl rfl)
theorem dX0_newLength_9 : decode cX0_newLength 9 = .ok (.goto 6, 3) := dk_167 0 6 (dk_at dksX0_newLength_0 9 rfl rfl)
theorem dX0_newLength_12 : decode cX0_newLength 12 = .ok (.astore_n 3, 1) := dk_78 (dk_at dksX0_newLength_0 12 rfl rfl)
theorem dX0_newLength_13 : decode cX0_newLength 13 = .ok (.iconst 1, 1) := dk_4 (dk_at dksX0_newLength_0 13 rfl rfl)
theorem dX0_newLength_14 : decode cX0_newLength 14 = .ok (.ireturn, 1) := dk_172 (dk_at dksX0_newLength_0 14 rfl rfl)
theorem dX0_newLength_15 : decode cX0_newLength 15 = .ok (.iconst 0, 1) := dk_3 (dk_at dksX0_newLength_0 15 rfl rfl)
theorem dX0_newLength_16 : decode cX0_newLength 16 = .ok (.ireturn, 1) := dk_172 (dk_at dksX0_newLength_0 16 rfl rfl)
abbrev cX0_owner : ByteArray := method_19_code
def yX0_owner : MethodName := ⟨RX0, "owner", "(LBatchRenamer;I[J)I"⟩
def dkwX0_owner_0 : List UInt8 := [44, 3, 42, 27, 182, 0, 70, 133, 80, 167, 0, 6, 78, 4, 172, 3, 172]
abbrev dktX0_owner_0 : List UInt8 := dkwX0_owner_0 ++ []
theorem dksX0_owner_0 : cX0_owner.data.toList.drop 0 = dktX0_owner_0 := by decide +kernel
theorem dX0_owner_0 : decode cX0_owner 0 = .ok (.aload_n 2, 1) := dk_44 (dk_at dksX0_owner_0 0 rfl rfl)
theorem dX0_owner_1 : decode cX0_owner 1 = .ok (.iconst 0, 1) := dk_3 (dk_at dksX0_owner_0 1 rfl rfl)
theorem dX0_owner_2 : decode cX0_owner 2 = .ok (.aload_n 0, 1) := dk_42 (dk_at dksX0_owner_0 2 rfl rfl)
theorem dX0_owner_3 : decode cX0_owner 3 = .ok (.iload_n 1, 1) := dk_27 (dk_at dksX0_owner_0 3 rfl rfl)
theorem dX0_owner_4 : decode cX0_owner 4 = .ok (.invokevirtual 70, 3) := dk_182 0 70 (dk_at dksX0_owner_0 4 rfl rfl)
theorem dX0_owner_7 : decode cX0_owner 7 = .ok (.i2l, 1) := dk_133 (dk_at dksX0_owner_0 7 rfl rfl)
theorem dX0_owner_8 : decode cX0_owner 8 = .ok (.lastore, 1) := dk_80 (dk_at dksX0_owner_0 8 rfl rfl)
theorem dX0_owner_9 : decode cX0_owner 9 = .ok (.goto 6, 3) := dk_167 0 6 (dk_at dksX0_owner_0 9 rfl rfl)
theorem dX0_owner_12 : decode cX0_owner 12 = .ok (.astore_n 3, 1) := dk_78 (dk_at dksX0_owner_0 12 rfl rfl)
theorem dX0_owner_13 : decode cX0_owner 13 = .ok (.iconst 1, 1) := dk_4 (dk_at dksX0_owner_0 13 rfl rfl)
theorem dX0_owner_14 : decode cX0_owner 14 = .ok (.ireturn, 1) := dk_172 (dk_at dksX0_owner_0 14 rfl rfl)
theorem dX0_owner_15 : decode cX0_owner 15 = .ok (.iconst 0, 1) := dk_3 (dk_at dksX0_owner_0 15 rfl rfl)
theorem dX0_owner_16 : decode cX0_owner 16 = .ok (.ireturn, 1) := dk_172 (dk_at dksX0_owner_0 16 rfl rfl)
abbrev cX0_rival : ByteArray := method_20_code
def yX0_rival : MethodName := ⟨RX0, "rival", "(LBatchRenamer;I[J)I"⟩
def dkwX0_rival_0 : List UInt8 := [44, 3, 42, 27, 182, 0, 73, 133, 80, 167, 0, 6, 78, 4, 172, 3, 172]
abbrev dktX0_rival_0 : List UInt8 := dkwX0_rival_0 ++ []
theorem dksX0_rival_0 : cX0_rival.data.toList.drop 0 = dktX0_rival_0 := by decide +kernel
theorem dX0_rival_0 : decode cX0_rival 0 = .ok (.aload_n 2, 1) := dk_44 (dk_at dksX0_rival_0 0 rfl rfl)
theorem dX0_rival_1 : decode cX0_rival 1 = .ok (.iconst 0, 1) := dk_3 (dk_at dksX0_rival_0 1 rfl rfl)
theorem dX0_rival_2 : decode cX0_rival 2 = .ok (.aload_n 0, 1) := dk_42 (dk_at dksX0_rival_0 2 rfl rfl)
theorem dX0_rival_3 : decode cX0_rival 3 = .ok (.iload_n 1, 1) := dk_27 (dk_at dksX0_rival_0 3 rfl rfl)
theorem dX0_rival_4 : decode cX0_rival 4 = .ok (.invokevirtual 73, 3) := dk_182 0 73 (dk_at dksX0_rival_0 4 rfl rfl)
theorem dX0_rival_7 : decode cX0_rival 7 = .ok (.i2l, 1) := dk_133 (dk_at dksX0_rival_0 7 rfl rfl)
theorem dX0_rival_8 : decode cX0_rival 8 = .ok (.lastore, 1) := dk_80 (dk_at dksX0_rival_0 8 rfl rfl)
theorem dX0_rival_9 : decode cX0_rival 9 = .ok (.goto 6, 3) := dk_167 0 6 (dk_at dksX0_rival_0 9 rfl rfl)
theorem dX0_rival_12 : decode cX0_rival 12 = .ok (.astore_n 3, 1) := dk_78 (dk_at dksX0_rival_0 12 rfl rfl)
theorem dX0_rival_13 : decode cX0_rival 13 = .ok (.iconst 1, 1) := dk_4 (dk_at dksX0_rival_0 13 rfl rfl)
theorem dX0_rival_14 : decode cX0_rival 14 = .ok (.ireturn, 1) := dk_172 (dk_at dksX0_rival_0 14 rfl rfl)
theorem dX0_rival_15 : decode cX0_rival 15 = .ok (.iconst 0, 1) := dk_3 (dk_at dksX0_rival_0 15 rfl rfl)
theorem dX0_rival_16 : decode cX0_rival 16 = .ok (.ireturn, 1) := dk_172 (dk_at dksX0_rival_0 16 rfl rfl)
abbrev cX0_step : ByteArray := method_21_code
def yX0_step : MethodName := ⟨RX0, "step", "(LBatchRenamer;II[J)I"⟩
def dkwX0_step_0 : List UInt8 := [45, 3, 42, 27, 28, 182, 0, 76, 133, 80, 167, 0, 11, 58, 4, 4, 172, 58, 4, 5, 172, 3, 172]
abbrev dktX0_step_0 : List UInt8 := dkwX0_step_0 ++ []
theorem dksX0_step_0 : cX0_step.data.toList.drop 0 = dktX0_step_0 := by decide +kernel
theorem dX0_step_0 : decode cX0_step 0 = .ok (.aload_n 3, 1) := dk_45 (dk_at dksX0_step_0 0 rfl rfl)
theorem dX0_step_1 : decode cX0_step 1 = .ok (.iconst 0, 1) := dk_3 (dk_at dksX0_step_0 1 rfl rfl)
theorem dX0_step_2 : decode cX0_step 2 = .ok (.aload_n 0, 1) := dk_42 (dk_at dksX0_step_0 2 rfl rfl)
theorem dX0_step_3 : decode cX0_step 3 = .ok (.iload_n 1, 1) := dk_27 (dk_at dksX0_step_0 3 rfl rfl)
theorem dX0_step_4 : decode cX0_step 4 = .ok (.iload_n 2, 1) := dk_28 (dk_at dksX0_step_0 4 rfl rfl)
theorem dX0_step_5 : decode cX0_step 5 = .ok (.invokevirtual 76, 3) := dk_182 0 76 (dk_at dksX0_step_0 5 rfl rfl)
theorem dX0_step_8 : decode cX0_step 8 = .ok (.i2l, 1) := dk_133 (dk_at dksX0_step_0 8 rfl rfl)
theorem dX0_step_9 : decode cX0_step 9 = .ok (.lastore, 1) := dk_80 (dk_at dksX0_step_0 9 rfl rfl)
theorem dX0_step_10 : decode cX0_step 10 = .ok (.goto 11, 3) := dk_167 0 11 (dk_at dksX0_step_0 10 rfl rfl)
theorem dX0_step_13 : decode cX0_step 13 = .ok (.astore 4, 2) := dk_58 4 (dk_at dksX0_step_0 13 rfl rfl)
theorem dX0_step_15 : decode cX0_step 15 = .ok (.iconst 1, 1) := dk_4 (dk_at dksX0_step_0 15 rfl rfl)
theorem dX0_step_16 : decode cX0_step 16 = .ok (.ireturn, 1) := dk_172 (dk_at dksX0_step_0 16 rfl rfl)
theorem dX0_step_17 : decode cX0_step 17 = .ok (.astore 4, 2) := dk_58 4 (dk_at dksX0_step_0 17 rfl rfl)
theorem dX0_step_19 : decode cX0_step 19 = .ok (.iconst 2, 1) := dk_5 (dk_at dksX0_step_0 19 rfl rfl)
theorem dX0_step_20 : decode cX0_step 20 = .ok (.ireturn, 1) := dk_172 (dk_at dksX0_step_0 20 rfl rfl)
theorem dX0_step_21 : decode cX0_step 21 = .ok (.iconst 0, 1) := dk_3 (dk_at dksX0_step_0 21 rfl rfl)
theorem dX0_step_22 : decode cX0_step 22 = .ok (.ireturn, 1) := dk_172 (dk_at dksX0_step_0 22 rfl rfl)
abbrev cX0_renamedWithout : ByteArray := method_22_code
def yX0_renamedWithout : MethodName := ⟨RX0, "renamedWithout", "(LBatchRenamer;I[J)I"⟩
def dkwX0_renamedWithout_0 : List UInt8 := [44, 3, 42, 27, 182, 0, 80, 133, 80, 167, 0, 6, 78, 4, 172, 3, 172]
abbrev dktX0_renamedWithout_0 : List UInt8 := dkwX0_renamedWithout_0 ++ []
theorem dksX0_renamedWithout_0 : cX0_renamedWithout.data.toList.drop 0 = dktX0_renamedWithout_0 := by decide +kernel
theorem dX0_renamedWithout_0 : decode cX0_renamedWithout 0 = .ok (.aload_n 2, 1) := dk_44 (dk_at dksX0_renamedWithout_0 0 rfl rfl)
theorem dX0_renamedWithout_1 : decode cX0_renamedWithout 1 = .ok (.iconst 0, 1) := dk_3 (dk_at dksX0_renamedWithout_0 1 rfl rfl)
theorem dX0_renamedWithout_2 : decode cX0_renamedWithout 2 = .ok (.aload_n 0, 1) := dk_42 (dk_at dksX0_renamedWithout_0 2 rfl rfl)
theorem dX0_renamedWithout_3 : decode cX0_renamedWithout 3 = .ok (.iload_n 1, 1) := dk_27 (dk_at dksX0_renamedWithout_0 3 rfl rfl)
theorem dX0_renamedWithout_4 : decode cX0_renamedWithout 4 = .ok (.invokevirtual 80, 3) := dk_182 0 80 (dk_at dksX0_renamedWithout_0 4 rfl rfl)
theorem dX0_renamedWithout_7 : decode cX0_renamedWithout 7 = .ok (.i2l, 1) := dk_133 (dk_at dksX0_renamedWithout_0 7 rfl rfl)
theorem dX0_renamedWithout_8 : decode cX0_renamedWithout 8 = .ok (.lastore, 1) := dk_80 (dk_at dksX0_renamedWithout_0 8 rfl rfl)
theorem dX0_renamedWithout_9 : decode cX0_renamedWithout 9 = .ok (.goto 6, 3) := dk_167 0 6 (dk_at dksX0_renamedWithout_0 9 rfl rfl)
theorem dX0_renamedWithout_12 : decode cX0_renamedWithout 12 = .ok (.astore_n 3, 1) := dk_78 (dk_at dksX0_renamedWithout_0 12 rfl rfl)
theorem dX0_renamedWithout_13 : decode cX0_renamedWithout 13 = .ok (.iconst 1, 1) := dk_4 (dk_at dksX0_renamedWithout_0 13 rfl rfl)
theorem dX0_renamedWithout_14 : decode cX0_renamedWithout 14 = .ok (.ireturn, 1) := dk_172 (dk_at dksX0_renamedWithout_0 14 rfl rfl)
theorem dX0_renamedWithout_15 : decode cX0_renamedWithout 15 = .ok (.iconst 0, 1) := dk_3 (dk_at dksX0_renamedWithout_0 15 rfl rfl)
theorem dX0_renamedWithout_16 : decode cX0_renamedWithout 16 = .ok (.ireturn, 1) := dk_172 (dk_at dksX0_renamedWithout_0 16 rfl rfl)
abbrev cX0_bestStart : ByteArray := method_23_code
def yX0_bestStart : MethodName := ⟨RX0, "bestStart", "(LBatchRenamer;I[J)I"⟩
def dkwX0_bestStart_0 : List UInt8 := [44, 3, 42, 27, 182, 0, 83, 133, 80, 167, 0, 6, 78, 4, 172, 3, 172]
abbrev dktX0_bestStart_0 : List UInt8 := dkwX0_bestStart_0 ++ []
theorem dksX0_bestStart_0 : cX0_bestStart.data.toList.drop 0 = dktX0_bestStart_0 := by decide +kernel
theorem dX0_bestStart_0 : decode cX0_bestStart 0 = .ok (.aload_n 2, 1) := dk_44 (dk_at dksX0_bestStart_0 0 rfl rfl)
theorem dX0_bestStart_1 : decode cX0_bestStart 1 = .ok (.iconst 0, 1) := dk_3 (dk_at dksX0_bestStart_0 1 rfl rfl)
theorem dX0_bestStart_2 : decode cX0_bestStart 2 = .ok (.aload_n 0, 1) := dk_42 (dk_at dksX0_bestStart_0 2 rfl rfl)
theorem dX0_bestStart_3 : decode cX0_bestStart 3 = .ok (.iload_n 1, 1) := dk_27 (dk_at dksX0_bestStart_0 3 rfl rfl)
theorem dX0_bestStart_4 : decode cX0_bestStart 4 = .ok (.invokevirtual 83, 3) := dk_182 0 83 (dk_at dksX0_bestStart_0 4 rfl rfl)
theorem dX0_bestStart_7 : decode cX0_bestStart 7 = .ok (.i2l, 1) := dk_133 (dk_at dksX0_bestStart_0 7 rfl rfl)
theorem dX0_bestStart_8 : decode cX0_bestStart 8 = .ok (.lastore, 1) := dk_80 (dk_at dksX0_bestStart_0 8 rfl rfl)
theorem dX0_bestStart_9 : decode cX0_bestStart 9 = .ok (.goto 6, 3) := dk_167 0 6 (dk_at dksX0_bestStart_0 9 rfl rfl)
theorem dX0_bestStart_12 : decode cX0_bestStart 12 = .ok (.astore_n 3, 1) := dk_78 (dk_at dksX0_bestStart_0 12 rfl rfl)
theorem dX0_bestStart_13 : decode cX0_bestStart 13 = .ok (.iconst 1, 1) := dk_4 (dk_at dksX0_bestStart_0 13 rfl rfl)
theorem dX0_bestStart_14 : decode cX0_bestStart 14 = .ok (.ireturn, 1) := dk_172 (dk_at dksX0_bestStart_0 14 rfl rfl)
theorem dX0_bestStart_15 : decode cX0_bestStart 15 = .ok (.iconst 0, 1) := dk_3 (dk_at dksX0_bestStart_0 15 rfl rfl)
theorem dX0_bestStart_16 : decode cX0_bestStart 16 = .ok (.ireturn, 1) := dk_172 (dk_at dksX0_bestStart_0 16 rfl rfl)
abbrev cX0_bestPlace : ByteArray := method_24_code
def yX0_bestPlace : MethodName := ⟨RX0, "bestPlace", "(LBatchRenamer;I[J)I"⟩
def dkwX0_bestPlace_0 : List UInt8 := [44, 3, 42, 27, 182, 0, 86, 133, 80, 167, 0, 6, 78, 4, 172, 3, 172]
abbrev dktX0_bestPlace_0 : List UInt8 := dkwX0_bestPlace_0 ++ []
theorem dksX0_bestPlace_0 : cX0_bestPlace.data.toList.drop 0 = dktX0_bestPlace_0 := by decide +kernel
theorem dX0_bestPlace_0 : decode cX0_bestPlace 0 = .ok (.aload_n 2, 1) := dk_44 (dk_at dksX0_bestPlace_0 0 rfl rfl)
theorem dX0_bestPlace_1 : decode cX0_bestPlace 1 = .ok (.iconst 0, 1) := dk_3 (dk_at dksX0_bestPlace_0 1 rfl rfl)
theorem dX0_bestPlace_2 : decode cX0_bestPlace 2 = .ok (.aload_n 0, 1) := dk_42 (dk_at dksX0_bestPlace_0 2 rfl rfl)
theorem dX0_bestPlace_3 : decode cX0_bestPlace 3 = .ok (.iload_n 1, 1) := dk_27 (dk_at dksX0_bestPlace_0 3 rfl rfl)
theorem dX0_bestPlace_4 : decode cX0_bestPlace 4 = .ok (.invokevirtual 86, 3) := dk_182 0 86 (dk_at dksX0_bestPlace_0 4 rfl rfl)
theorem dX0_bestPlace_7 : decode cX0_bestPlace 7 = .ok (.i2l, 1) := dk_133 (dk_at dksX0_bestPlace_0 7 rfl rfl)
theorem dX0_bestPlace_8 : decode cX0_bestPlace 8 = .ok (.lastore, 1) := dk_80 (dk_at dksX0_bestPlace_0 8 rfl rfl)
theorem dX0_bestPlace_9 : decode cX0_bestPlace 9 = .ok (.goto 6, 3) := dk_167 0 6 (dk_at dksX0_bestPlace_0 9 rfl rfl)
theorem dX0_bestPlace_12 : decode cX0_bestPlace 12 = .ok (.astore_n 3, 1) := dk_78 (dk_at dksX0_bestPlace_0 12 rfl rfl)
theorem dX0_bestPlace_13 : decode cX0_bestPlace 13 = .ok (.iconst 1, 1) := dk_4 (dk_at dksX0_bestPlace_0 13 rfl rfl)
theorem dX0_bestPlace_14 : decode cX0_bestPlace 14 = .ok (.ireturn, 1) := dk_172 (dk_at dksX0_bestPlace_0 14 rfl rfl)
theorem dX0_bestPlace_15 : decode cX0_bestPlace 15 = .ok (.iconst 0, 1) := dk_3 (dk_at dksX0_bestPlace_0 15 rfl rfl)
theorem dX0_bestPlace_16 : decode cX0_bestPlace 16 = .ok (.ireturn, 1) := dk_172 (dk_at dksX0_bestPlace_0 16 rfl rfl)
abbrev cX0_takeBack : ByteArray := method_25_code
def yX0_takeBack : MethodName := ⟨RX0, "takeBack", "(LBatchRenamer;[J)I"⟩
def dkwX0_takeBack_0 : List UInt8 := [43, 3, 42, 182, 0, 89, 133, 80, 167, 0, 6, 77, 4, 172, 3, 172]
abbrev dktX0_takeBack_0 : List UInt8 := dkwX0_takeBack_0 ++ []
theorem dksX0_takeBack_0 : cX0_takeBack.data.toList.drop 0 = dktX0_takeBack_0 := by decide +kernel
theorem dX0_takeBack_0 : decode cX0_takeBack 0 = .ok (.aload_n 1, 1) := dk_43 (dk_at dksX0_takeBack_0 0 rfl rfl)
theorem dX0_takeBack_1 : decode cX0_takeBack 1 = .ok (.iconst 0, 1) := dk_3 (dk_at dksX0_takeBack_0 1 rfl rfl)
theorem dX0_takeBack_2 : decode cX0_takeBack 2 = .ok (.aload_n 0, 1) := dk_42 (dk_at dksX0_takeBack_0 2 rfl rfl)
theorem dX0_takeBack_3 : decode cX0_takeBack 3 = .ok (.invokevirtual 89, 3) := dk_182 0 89 (dk_at dksX0_takeBack_0 3 rfl rfl)
theorem dX0_takeBack_6 : decode cX0_takeBack 6 = .ok (.i2l, 1) := dk_133 (dk_at dksX0_takeBack_0 6 rfl rfl)
theorem dX0_takeBack_7 : decode cX0_takeBack 7 = .ok (.lastore, 1) := dk_80 (dk_at dksX0_takeBack_0 7 rfl rfl)
theorem dX0_takeBack_8 : decode cX0_takeBack 8 = .ok (.goto 6, 3) := dk_167 0 6 (dk_at dksX0_takeBack_0 8 rfl rfl)
theorem dX0_takeBack_11 : decode cX0_takeBack 11 = .ok (.astore_n 2, 1) := dk_77 (dk_at dksX0_takeBack_0 11 rfl rfl)
theorem dX0_takeBack_12 : decode cX0_takeBack 12 = .ok (.iconst 1, 1) := dk_4 (dk_at dksX0_takeBack_0 12 rfl rfl)
theorem dX0_takeBack_13 : decode cX0_takeBack 13 = .ok (.ireturn, 1) := dk_172 (dk_at dksX0_takeBack_0 13 rfl rfl)
theorem dX0_takeBack_14 : decode cX0_takeBack 14 = .ok (.iconst 0, 1) := dk_3 (dk_at dksX0_takeBack_0 14 rfl rfl)
theorem dX0_takeBack_15 : decode cX0_takeBack 15 = .ok (.ireturn, 1) := dk_172 (dk_at dksX0_takeBack_0 15 rfl rfl)
abbrev cX0_addFile : ByteArray := method_26_code
def yX0_addFile : MethodName := ⟨RX0, "addFile", "(LBatchRenamer;[J)I"⟩
def dkwX0_addFile_0 : List UInt8 := [43, 3, 42, 182, 0, 92, 133, 80, 167, 0, 9, 77, 4, 172, 77, 5, 172, 3, 172]
abbrev dktX0_addFile_0 : List UInt8 := dkwX0_addFile_0 ++ []
theorem dksX0_addFile_0 : cX0_addFile.data.toList.drop 0 = dktX0_addFile_0 := by decide +kernel
theorem dX0_addFile_0 : decode cX0_addFile 0 = .ok (.aload_n 1, 1) := dk_43 (dk_at dksX0_addFile_0 0 rfl rfl)
theorem dX0_addFile_1 : decode cX0_addFile 1 = .ok (.iconst 0, 1) := dk_3 (dk_at dksX0_addFile_0 1 rfl rfl)
theorem dX0_addFile_2 : decode cX0_addFile 2 = .ok (.aload_n 0, 1) := dk_42 (dk_at dksX0_addFile_0 2 rfl rfl)
theorem dX0_addFile_3 : decode cX0_addFile 3 = .ok (.invokevirtual 92, 3) := dk_182 0 92 (dk_at dksX0_addFile_0 3 rfl rfl)
theorem dX0_addFile_6 : decode cX0_addFile 6 = .ok (.i2l, 1) := dk_133 (dk_at dksX0_addFile_0 6 rfl rfl)
theorem dX0_addFile_7 : decode cX0_addFile 7 = .ok (.lastore, 1) := dk_80 (dk_at dksX0_addFile_0 7 rfl rfl)
theorem dX0_addFile_8 : decode cX0_addFile 8 = .ok (.goto 9, 3) := dk_167 0 9 (dk_at dksX0_addFile_0 8 rfl rfl)
theorem dX0_addFile_11 : decode cX0_addFile 11 = .ok (.astore_n 2, 1) := dk_77 (dk_at dksX0_addFile_0 11 rfl rfl)
theorem dX0_addFile_12 : decode cX0_addFile 12 = .ok (.iconst 1, 1) := dk_4 (dk_at dksX0_addFile_0 12 rfl rfl)
theorem dX0_addFile_13 : decode cX0_addFile 13 = .ok (.ireturn, 1) := dk_172 (dk_at dksX0_addFile_0 13 rfl rfl)
theorem dX0_addFile_14 : decode cX0_addFile 14 = .ok (.astore_n 2, 1) := dk_77 (dk_at dksX0_addFile_0 14 rfl rfl)
theorem dX0_addFile_15 : decode cX0_addFile 15 = .ok (.iconst 2, 1) := dk_5 (dk_at dksX0_addFile_0 15 rfl rfl)
theorem dX0_addFile_16 : decode cX0_addFile 16 = .ok (.ireturn, 1) := dk_172 (dk_at dksX0_addFile_0 16 rfl rfl)
theorem dX0_addFile_17 : decode cX0_addFile 17 = .ok (.iconst 0, 1) := dk_3 (dk_at dksX0_addFile_0 17 rfl rfl)
theorem dX0_addFile_18 : decode cX0_addFile 18 = .ok (.ireturn, 1) := dk_172 (dk_at dksX0_addFile_0 18 rfl rfl)
abbrev cX0_removeFile : ByteArray := method_27_code
def yX0_removeFile : MethodName := ⟨RX0, "removeFile", "(LBatchRenamer;I[J)I"⟩
def dkwX0_removeFile_0 : List UInt8 := [44, 3, 42, 27, 182, 0, 95, 133, 80, 167, 0, 6, 78, 4, 172, 3, 172]
abbrev dktX0_removeFile_0 : List UInt8 := dkwX0_removeFile_0 ++ []
theorem dksX0_removeFile_0 : cX0_removeFile.data.toList.drop 0 = dktX0_removeFile_0 := by decide +kernel
theorem dX0_removeFile_0 : decode cX0_removeFile 0 = .ok (.aload_n 2, 1) := dk_44 (dk_at dksX0_removeFile_0 0 rfl rfl)
theorem dX0_removeFile_1 : decode cX0_removeFile 1 = .ok (.iconst 0, 1) := dk_3 (dk_at dksX0_removeFile_0 1 rfl rfl)
theorem dX0_removeFile_2 : decode cX0_removeFile 2 = .ok (.aload_n 0, 1) := dk_42 (dk_at dksX0_removeFile_0 2 rfl rfl)
theorem dX0_removeFile_3 : decode cX0_removeFile 3 = .ok (.iload_n 1, 1) := dk_27 (dk_at dksX0_removeFile_0 3 rfl rfl)
theorem dX0_removeFile_4 : decode cX0_removeFile 4 = .ok (.invokevirtual 95, 3) := dk_182 0 95 (dk_at dksX0_removeFile_0 4 rfl rfl)
theorem dX0_removeFile_7 : decode cX0_removeFile 7 = .ok (.i2l, 1) := dk_133 (dk_at dksX0_removeFile_0 7 rfl rfl)
theorem dX0_removeFile_8 : decode cX0_removeFile 8 = .ok (.lastore, 1) := dk_80 (dk_at dksX0_removeFile_0 8 rfl rfl)
theorem dX0_removeFile_9 : decode cX0_removeFile 9 = .ok (.goto 6, 3) := dk_167 0 6 (dk_at dksX0_removeFile_0 9 rfl rfl)
theorem dX0_removeFile_12 : decode cX0_removeFile 12 = .ok (.astore_n 3, 1) := dk_78 (dk_at dksX0_removeFile_0 12 rfl rfl)
theorem dX0_removeFile_13 : decode cX0_removeFile 13 = .ok (.iconst 1, 1) := dk_4 (dk_at dksX0_removeFile_0 13 rfl rfl)
theorem dX0_removeFile_14 : decode cX0_removeFile 14 = .ok (.ireturn, 1) := dk_172 (dk_at dksX0_removeFile_0 14 rfl rfl)
theorem dX0_removeFile_15 : decode cX0_removeFile 15 = .ok (.iconst 0, 1) := dk_3 (dk_at dksX0_removeFile_0 15 rfl rfl)
theorem dX0_removeFile_16 : decode cX0_removeFile 16 = .ok (.ireturn, 1) := dk_172 (dk_at dksX0_removeFile_0 16 rfl rfl)
abbrev cX0_moveFile : ByteArray := method_28_code
def yX0_moveFile : MethodName := ⟨RX0, "moveFile", "(LBatchRenamer;II[J)I"⟩
def dkwX0_moveFile_0 : List UInt8 := [45, 3, 42, 27, 28, 182, 0, 98, 133, 80, 167, 0, 11, 58, 4, 4, 172, 58, 4, 5, 172, 3, 172]
abbrev dktX0_moveFile_0 : List UInt8 := dkwX0_moveFile_0 ++ []
theorem dksX0_moveFile_0 : cX0_moveFile.data.toList.drop 0 = dktX0_moveFile_0 := by decide +kernel
theorem dX0_moveFile_0 : decode cX0_moveFile 0 = .ok (.aload_n 3, 1) := dk_45 (dk_at dksX0_moveFile_0 0 rfl rfl)
theorem dX0_moveFile_1 : decode cX0_moveFile 1 = .ok (.iconst 0, 1) := dk_3 (dk_at dksX0_moveFile_0 1 rfl rfl)
theorem dX0_moveFile_2 : decode cX0_moveFile 2 = .ok (.aload_n 0, 1) := dk_42 (dk_at dksX0_moveFile_0 2 rfl rfl)
theorem dX0_moveFile_3 : decode cX0_moveFile 3 = .ok (.iload_n 1, 1) := dk_27 (dk_at dksX0_moveFile_0 3 rfl rfl)
theorem dX0_moveFile_4 : decode cX0_moveFile 4 = .ok (.iload_n 2, 1) := dk_28 (dk_at dksX0_moveFile_0 4 rfl rfl)
theorem dX0_moveFile_5 : decode cX0_moveFile 5 = .ok (.invokevirtual 98, 3) := dk_182 0 98 (dk_at dksX0_moveFile_0 5 rfl rfl)
theorem dX0_moveFile_8 : decode cX0_moveFile 8 = .ok (.i2l, 1) := dk_133 (dk_at dksX0_moveFile_0 8 rfl rfl)
theorem dX0_moveFile_9 : decode cX0_moveFile 9 = .ok (.lastore, 1) := dk_80 (dk_at dksX0_moveFile_0 9 rfl rfl)
theorem dX0_moveFile_10 : decode cX0_moveFile 10 = .ok (.goto 11, 3) := dk_167 0 11 (dk_at dksX0_moveFile_0 10 rfl rfl)
theorem dX0_moveFile_13 : decode cX0_moveFile 13 = .ok (.astore 4, 2) := dk_58 4 (dk_at dksX0_moveFile_0 13 rfl rfl)
theorem dX0_moveFile_15 : decode cX0_moveFile 15 = .ok (.iconst 1, 1) := dk_4 (dk_at dksX0_moveFile_0 15 rfl rfl)
theorem dX0_moveFile_16 : decode cX0_moveFile 16 = .ok (.ireturn, 1) := dk_172 (dk_at dksX0_moveFile_0 16 rfl rfl)
theorem dX0_moveFile_17 : decode cX0_moveFile 17 = .ok (.astore 4, 2) := dk_58 4 (dk_at dksX0_moveFile_0 17 rfl rfl)
theorem dX0_moveFile_19 : decode cX0_moveFile 19 = .ok (.iconst 2, 1) := dk_5 (dk_at dksX0_moveFile_0 19 rfl rfl)
theorem dX0_moveFile_20 : decode cX0_moveFile 20 = .ok (.ireturn, 1) := dk_172 (dk_at dksX0_moveFile_0 20 rfl rfl)
theorem dX0_moveFile_21 : decode cX0_moveFile 21 = .ok (.iconst 0, 1) := dk_3 (dk_at dksX0_moveFile_0 21 rfl rfl)
theorem dX0_moveFile_22 : decode cX0_moveFile 22 = .ok (.ireturn, 1) := dk_172 (dk_at dksX0_moveFile_0 22 rfl rfl)
abbrev cX0_rename : ByteArray := method_29_code
def yX0_rename : MethodName := ⟨RX0, "rename", "(LBatchRenamer;I[J)I"⟩
def dkwX0_rename_0 : List UInt8 := [44, 3, 42, 27, 182, 0, 101, 133, 80, 167, 0, 9, 78, 4, 172, 78, 5, 172, 3, 172]
abbrev dktX0_rename_0 : List UInt8 := dkwX0_rename_0 ++ []
theorem dksX0_rename_0 : cX0_rename.data.toList.drop 0 = dktX0_rename_0 := by decide +kernel
theorem dX0_rename_0 : decode cX0_rename 0 = .ok (.aload_n 2, 1) := dk_44 (dk_at dksX0_rename_0 0 rfl rfl)
theorem dX0_rename_1 : decode cX0_rename 1 = .ok (.iconst 0, 1) := dk_3 (dk_at dksX0_rename_0 1 rfl rfl)
theorem dX0_rename_2 : decode cX0_rename 2 = .ok (.aload_n 0, 1) := dk_42 (dk_at dksX0_rename_0 2 rfl rfl)
theorem dX0_rename_3 : decode cX0_rename 3 = .ok (.iload_n 1, 1) := dk_27 (dk_at dksX0_rename_0 3 rfl rfl)
theorem dX0_rename_4 : decode cX0_rename 4 = .ok (.invokevirtual 101, 3) := dk_182 0 101 (dk_at dksX0_rename_0 4 rfl rfl)
theorem dX0_rename_7 : decode cX0_rename 7 = .ok (.i2l, 1) := dk_133 (dk_at dksX0_rename_0 7 rfl rfl)
theorem dX0_rename_8 : decode cX0_rename 8 = .ok (.lastore, 1) := dk_80 (dk_at dksX0_rename_0 8 rfl rfl)
theorem dX0_rename_9 : decode cX0_rename 9 = .ok (.goto 9, 3) := dk_167 0 9 (dk_at dksX0_rename_0 9 rfl rfl)
theorem dX0_rename_12 : decode cX0_rename 12 = .ok (.astore_n 3, 1) := dk_78 (dk_at dksX0_rename_0 12 rfl rfl)
theorem dX0_rename_13 : decode cX0_rename 13 = .ok (.iconst 1, 1) := dk_4 (dk_at dksX0_rename_0 13 rfl rfl)
theorem dX0_rename_14 : decode cX0_rename 14 = .ok (.ireturn, 1) := dk_172 (dk_at dksX0_rename_0 14 rfl rfl)
theorem dX0_rename_15 : decode cX0_rename 15 = .ok (.astore_n 3, 1) := dk_78 (dk_at dksX0_rename_0 15 rfl rfl)
theorem dX0_rename_16 : decode cX0_rename 16 = .ok (.iconst 2, 1) := dk_5 (dk_at dksX0_rename_0 16 rfl rfl)
theorem dX0_rename_17 : decode cX0_rename 17 = .ok (.ireturn, 1) := dk_172 (dk_at dksX0_rename_0 17 rfl rfl)
theorem dX0_rename_18 : decode cX0_rename 18 = .ok (.iconst 0, 1) := dk_3 (dk_at dksX0_rename_0 18 rfl rfl)
theorem dX0_rename_19 : decode cX0_rename 19 = .ok (.ireturn, 1) := dk_172 (dk_at dksX0_rename_0 19 rfl rfl)
abbrev cX0_keep : ByteArray := method_30_code
def yX0_keep : MethodName := ⟨RX0, "keep", "(LBatchRenamer;IZ[J)I"⟩
def dkwX0_keep_1 : List UInt8 := [3, 172]
abbrev dktX0_keep_1 : List UInt8 := dkwX0_keep_1 ++ []
def dkwX0_keep_0 : List UInt8 := [45, 3, 42, 27, 28, 182, 0, 104, 153, 0, 7, 10, 167, 0, 4, 9, 80, 167, 0, 7, 58, 4, 4, 172]
abbrev dktX0_keep_0 : List UInt8 := dkwX0_keep_0 ++ dktX0_keep_1
theorem dksX0_keep_0 : cX0_keep.data.toList.drop 0 = dktX0_keep_0 := by decide +kernel
theorem dksX0_keep_1 : cX0_keep.data.toList.drop 24 = dktX0_keep_1 := dk_seg dksX0_keep_0 24 rfl rfl
theorem dX0_keep_0 : decode cX0_keep 0 = .ok (.aload_n 3, 1) := dk_45 (dk_at dksX0_keep_0 0 rfl rfl)
theorem dX0_keep_1 : decode cX0_keep 1 = .ok (.iconst 0, 1) := dk_3 (dk_at dksX0_keep_0 1 rfl rfl)
theorem dX0_keep_2 : decode cX0_keep 2 = .ok (.aload_n 0, 1) := dk_42 (dk_at dksX0_keep_0 2 rfl rfl)
theorem dX0_keep_3 : decode cX0_keep 3 = .ok (.iload_n 1, 1) := dk_27 (dk_at dksX0_keep_0 3 rfl rfl)
theorem dX0_keep_4 : decode cX0_keep 4 = .ok (.iload_n 2, 1) := dk_28 (dk_at dksX0_keep_0 4 rfl rfl)
theorem dX0_keep_5 : decode cX0_keep 5 = .ok (.invokevirtual 104, 3) := dk_182 0 104 (dk_at dksX0_keep_0 5 rfl rfl)
theorem dX0_keep_8 : decode cX0_keep 8 = .ok (.ifCond .eq 7, 3) := dk_153 0 7 (dk_at dksX0_keep_0 8 rfl rfl)
theorem dX0_keep_11 : decode cX0_keep 11 = .ok (.lconst 1, 1) := dk_10 (dk_at dksX0_keep_0 11 rfl rfl)
theorem dX0_keep_12 : decode cX0_keep 12 = .ok (.goto 4, 3) := dk_167 0 4 (dk_at dksX0_keep_0 12 rfl rfl)
theorem dX0_keep_15 : decode cX0_keep 15 = .ok (.lconst 0, 1) := dk_9 (dk_at dksX0_keep_0 15 rfl rfl)
theorem dX0_keep_16 : decode cX0_keep 16 = .ok (.lastore, 1) := dk_80 (dk_at dksX0_keep_0 16 rfl rfl)
theorem dX0_keep_17 : decode cX0_keep 17 = .ok (.goto 7, 3) := dk_167 0 7 (dk_at dksX0_keep_0 17 rfl rfl)
theorem dX0_keep_20 : decode cX0_keep 20 = .ok (.astore 4, 2) := dk_58 4 (dk_at dksX0_keep_0 20 rfl rfl)
theorem dX0_keep_22 : decode cX0_keep 22 = .ok (.iconst 1, 1) := dk_4 (dk_at dksX0_keep_0 22 rfl rfl)
theorem dX0_keep_23 : decode cX0_keep 23 = .ok (.ireturn, 1) := dk_172 (dk_at dksX0_keep_0 23 rfl rfl)
theorem dX0_keep_24 : decode cX0_keep 24 = .ok (.iconst 0, 1) := dk_3 (dk_at dksX0_keep_1 0 rfl rfl)
theorem dX0_keep_25 : decode cX0_keep 25 = .ok (.ireturn, 1) := dk_172 (dk_at dksX0_keep_1 1 rfl rfl)
abbrev cX0_addRule : ByteArray := method_31_code
def yX0_addRule : MethodName := ⟨RX0, "addRule", "(LBatchRenamer;[J)I"⟩
def dkwX0_addRule_0 : List UInt8 := [43, 3, 42, 182, 0, 108, 133, 80, 167, 0, 9, 77, 4, 172, 77, 5, 172, 3, 172]
abbrev dktX0_addRule_0 : List UInt8 := dkwX0_addRule_0 ++ []
theorem dksX0_addRule_0 : cX0_addRule.data.toList.drop 0 = dktX0_addRule_0 := by decide +kernel
theorem dX0_addRule_0 : decode cX0_addRule 0 = .ok (.aload_n 1, 1) := dk_43 (dk_at dksX0_addRule_0 0 rfl rfl)
theorem dX0_addRule_1 : decode cX0_addRule 1 = .ok (.iconst 0, 1) := dk_3 (dk_at dksX0_addRule_0 1 rfl rfl)
theorem dX0_addRule_2 : decode cX0_addRule 2 = .ok (.aload_n 0, 1) := dk_42 (dk_at dksX0_addRule_0 2 rfl rfl)
theorem dX0_addRule_3 : decode cX0_addRule 3 = .ok (.invokevirtual 108, 3) := dk_182 0 108 (dk_at dksX0_addRule_0 3 rfl rfl)
theorem dX0_addRule_6 : decode cX0_addRule 6 = .ok (.i2l, 1) := dk_133 (dk_at dksX0_addRule_0 6 rfl rfl)
theorem dX0_addRule_7 : decode cX0_addRule 7 = .ok (.lastore, 1) := dk_80 (dk_at dksX0_addRule_0 7 rfl rfl)
theorem dX0_addRule_8 : decode cX0_addRule 8 = .ok (.goto 9, 3) := dk_167 0 9 (dk_at dksX0_addRule_0 8 rfl rfl)
theorem dX0_addRule_11 : decode cX0_addRule 11 = .ok (.astore_n 2, 1) := dk_77 (dk_at dksX0_addRule_0 11 rfl rfl)
theorem dX0_addRule_12 : decode cX0_addRule 12 = .ok (.iconst 1, 1) := dk_4 (dk_at dksX0_addRule_0 12 rfl rfl)
theorem dX0_addRule_13 : decode cX0_addRule 13 = .ok (.ireturn, 1) := dk_172 (dk_at dksX0_addRule_0 13 rfl rfl)
theorem dX0_addRule_14 : decode cX0_addRule 14 = .ok (.astore_n 2, 1) := dk_77 (dk_at dksX0_addRule_0 14 rfl rfl)
theorem dX0_addRule_15 : decode cX0_addRule 15 = .ok (.iconst 2, 1) := dk_5 (dk_at dksX0_addRule_0 15 rfl rfl)
theorem dX0_addRule_16 : decode cX0_addRule 16 = .ok (.ireturn, 1) := dk_172 (dk_at dksX0_addRule_0 16 rfl rfl)
theorem dX0_addRule_17 : decode cX0_addRule 17 = .ok (.iconst 0, 1) := dk_3 (dk_at dksX0_addRule_0 17 rfl rfl)
theorem dX0_addRule_18 : decode cX0_addRule 18 = .ok (.ireturn, 1) := dk_172 (dk_at dksX0_addRule_0 18 rfl rfl)
abbrev cX0_removeRule : ByteArray := method_32_code
def yX0_removeRule : MethodName := ⟨RX0, "removeRule", "(LBatchRenamer;I[J)I"⟩
def dkwX0_removeRule_0 : List UInt8 := [44, 3, 42, 27, 182, 0, 111, 133, 80, 167, 0, 6, 78, 4, 172, 3, 172]
abbrev dktX0_removeRule_0 : List UInt8 := dkwX0_removeRule_0 ++ []
theorem dksX0_removeRule_0 : cX0_removeRule.data.toList.drop 0 = dktX0_removeRule_0 := by decide +kernel
theorem dX0_removeRule_0 : decode cX0_removeRule 0 = .ok (.aload_n 2, 1) := dk_44 (dk_at dksX0_removeRule_0 0 rfl rfl)
theorem dX0_removeRule_1 : decode cX0_removeRule 1 = .ok (.iconst 0, 1) := dk_3 (dk_at dksX0_removeRule_0 1 rfl rfl)
theorem dX0_removeRule_2 : decode cX0_removeRule 2 = .ok (.aload_n 0, 1) := dk_42 (dk_at dksX0_removeRule_0 2 rfl rfl)
theorem dX0_removeRule_3 : decode cX0_removeRule 3 = .ok (.iload_n 1, 1) := dk_27 (dk_at dksX0_removeRule_0 3 rfl rfl)
theorem dX0_removeRule_4 : decode cX0_removeRule 4 = .ok (.invokevirtual 111, 3) := dk_182 0 111 (dk_at dksX0_removeRule_0 4 rfl rfl)
theorem dX0_removeRule_7 : decode cX0_removeRule 7 = .ok (.i2l, 1) := dk_133 (dk_at dksX0_removeRule_0 7 rfl rfl)
theorem dX0_removeRule_8 : decode cX0_removeRule 8 = .ok (.lastore, 1) := dk_80 (dk_at dksX0_removeRule_0 8 rfl rfl)
theorem dX0_removeRule_9 : decode cX0_removeRule 9 = .ok (.goto 6, 3) := dk_167 0 6 (dk_at dksX0_removeRule_0 9 rfl rfl)
theorem dX0_removeRule_12 : decode cX0_removeRule 12 = .ok (.astore_n 3, 1) := dk_78 (dk_at dksX0_removeRule_0 12 rfl rfl)
theorem dX0_removeRule_13 : decode cX0_removeRule 13 = .ok (.iconst 1, 1) := dk_4 (dk_at dksX0_removeRule_0 13 rfl rfl)
theorem dX0_removeRule_14 : decode cX0_removeRule 14 = .ok (.ireturn, 1) := dk_172 (dk_at dksX0_removeRule_0 14 rfl rfl)
theorem dX0_removeRule_15 : decode cX0_removeRule 15 = .ok (.iconst 0, 1) := dk_3 (dk_at dksX0_removeRule_0 15 rfl rfl)
theorem dX0_removeRule_16 : decode cX0_removeRule 16 = .ok (.ireturn, 1) := dk_172 (dk_at dksX0_removeRule_0 16 rfl rfl)
abbrev cX0_moveRule : ByteArray := method_33_code
def yX0_moveRule : MethodName := ⟨RX0, "moveRule", "(LBatchRenamer;II[J)I"⟩
def dkwX0_moveRule_0 : List UInt8 := [45, 3, 42, 27, 28, 182, 0, 114, 133, 80, 167, 0, 11, 58, 4, 4, 172, 58, 4, 5, 172, 3, 172]
abbrev dktX0_moveRule_0 : List UInt8 := dkwX0_moveRule_0 ++ []
theorem dksX0_moveRule_0 : cX0_moveRule.data.toList.drop 0 = dktX0_moveRule_0 := by decide +kernel
theorem dX0_moveRule_0 : decode cX0_moveRule 0 = .ok (.aload_n 3, 1) := dk_45 (dk_at dksX0_moveRule_0 0 rfl rfl)
theorem dX0_moveRule_1 : decode cX0_moveRule 1 = .ok (.iconst 0, 1) := dk_3 (dk_at dksX0_moveRule_0 1 rfl rfl)
theorem dX0_moveRule_2 : decode cX0_moveRule 2 = .ok (.aload_n 0, 1) := dk_42 (dk_at dksX0_moveRule_0 2 rfl rfl)
theorem dX0_moveRule_3 : decode cX0_moveRule 3 = .ok (.iload_n 1, 1) := dk_27 (dk_at dksX0_moveRule_0 3 rfl rfl)
theorem dX0_moveRule_4 : decode cX0_moveRule 4 = .ok (.iload_n 2, 1) := dk_28 (dk_at dksX0_moveRule_0 4 rfl rfl)
theorem dX0_moveRule_5 : decode cX0_moveRule 5 = .ok (.invokevirtual 114, 3) := dk_182 0 114 (dk_at dksX0_moveRule_0 5 rfl rfl)
theorem dX0_moveRule_8 : decode cX0_moveRule 8 = .ok (.i2l, 1) := dk_133 (dk_at dksX0_moveRule_0 8 rfl rfl)
theorem dX0_moveRule_9 : decode cX0_moveRule 9 = .ok (.lastore, 1) := dk_80 (dk_at dksX0_moveRule_0 9 rfl rfl)
theorem dX0_moveRule_10 : decode cX0_moveRule 10 = .ok (.goto 11, 3) := dk_167 0 11 (dk_at dksX0_moveRule_0 10 rfl rfl)
theorem dX0_moveRule_13 : decode cX0_moveRule 13 = .ok (.astore 4, 2) := dk_58 4 (dk_at dksX0_moveRule_0 13 rfl rfl)
theorem dX0_moveRule_15 : decode cX0_moveRule 15 = .ok (.iconst 1, 1) := dk_4 (dk_at dksX0_moveRule_0 15 rfl rfl)
theorem dX0_moveRule_16 : decode cX0_moveRule 16 = .ok (.ireturn, 1) := dk_172 (dk_at dksX0_moveRule_0 16 rfl rfl)
theorem dX0_moveRule_17 : decode cX0_moveRule 17 = .ok (.astore 4, 2) := dk_58 4 (dk_at dksX0_moveRule_0 17 rfl rfl)
theorem dX0_moveRule_19 : decode cX0_moveRule 19 = .ok (.iconst 2, 1) := dk_5 (dk_at dksX0_moveRule_0 19 rfl rfl)
theorem dX0_moveRule_20 : decode cX0_moveRule 20 = .ok (.ireturn, 1) := dk_172 (dk_at dksX0_moveRule_0 20 rfl rfl)
theorem dX0_moveRule_21 : decode cX0_moveRule 21 = .ok (.iconst 0, 1) := dk_3 (dk_at dksX0_moveRule_0 21 rfl rfl)
theorem dX0_moveRule_22 : decode cX0_moveRule 22 = .ok (.ireturn, 1) := dk_172 (dk_at dksX0_moveRule_0 22 rfl rfl)
abbrev cX0_setCount : ByteArray := method_34_code
def yX0_setCount : MethodName := ⟨RX0, "setCount", "(LBatchRenamer;III[J)I"⟩
def dkwX0_setCount_0 : List UInt8 := [25, 4, 3, 42, 27, 28, 29, 182, 0, 117, 133, 80, 167, 0, 7, 58, 5, 4, 172, 3, 172]
abbrev dktX0_setCount_0 : List UInt8 := dkwX0_setCount_0 ++ []
theorem dksX0_setCount_0 : cX0_setCount.data.toList.drop 0 = dktX0_setCount_0 := by decide +kernel
theorem dX0_setCount_0 : decode cX0_setCount 0 = .ok (.aload 4, 2) := dk_25 4 (dk_at dksX0_setCount_0 0 rfl rfl)
theorem dX0_setCount_2 : decode cX0_setCount 2 = .ok (.iconst 0, 1) := dk_3 (dk_at dksX0_setCount_0 2 rfl rfl)
theorem dX0_setCount_3 : decode cX0_setCount 3 = .ok (.aload_n 0, 1) := dk_42 (dk_at dksX0_setCount_0 3 rfl rfl)
theorem dX0_setCount_4 : decode cX0_setCount 4 = .ok (.iload_n 1, 1) := dk_27 (dk_at dksX0_setCount_0 4 rfl rfl)
theorem dX0_setCount_5 : decode cX0_setCount 5 = .ok (.iload_n 2, 1) := dk_28 (dk_at dksX0_setCount_0 5 rfl rfl)
theorem dX0_setCount_6 : decode cX0_setCount 6 = .ok (.iload_n 3, 1) := dk_29 (dk_at dksX0_setCount_0 6 rfl rfl)
theorem dX0_setCount_7 : decode cX0_setCount 7 = .ok (.invokevirtual 117, 3) := dk_182 0 117 (dk_at dksX0_setCount_0 7 rfl rfl)
theorem dX0_setCount_10 : decode cX0_setCount 10 = .ok (.i2l, 1) := dk_133 (dk_at dksX0_setCount_0 10 rfl rfl)
theorem dX0_setCount_11 : decode cX0_setCount 11 = .ok (.lastore, 1) := dk_80 (dk_at dksX0_setCount_0 11 rfl rfl)
theorem dX0_setCount_12 : decode cX0_setCount 12 = .ok (.goto 7, 3) := dk_167 0 7 (dk_at dksX0_setCount_0 12 rfl rfl)
theorem dX0_setCount_15 : decode cX0_setCount 15 = .ok (.astore 5, 2) := dk_58 5 (dk_at dksX0_setCount_0 15 rfl rfl)
theorem dX0_setCount_17 : decode cX0_setCount 17 = .ok (.iconst 1, 1) := dk_4 (dk_at dksX0_setCount_0 17 rfl rfl)
theorem dX0_setCount_18 : decode cX0_setCount 18 = .ok (.ireturn, 1) := dk_172 (dk_at dksX0_setCount_0 18 rfl rfl)
theorem dX0_setCount_19 : decode cX0_setCount 19 = .ok (.iconst 0, 1) := dk_3 (dk_at dksX0_setCount_0 19 rfl rfl)
theorem dX0_setCount_20 : decode cX0_setCount 20 = .ok (.ireturn, 1) := dk_172 (dk_at dksX0_setCount_0 20 rfl rfl)
abbrev cX0_undo : ByteArray := method_35_code
def yX0_undo : MethodName := ⟨RX0, "undo", "(LBatchRenamer;[J)I"⟩
def dkwX0_undo_0 : List UInt8 := [43, 3, 42, 182, 0, 121, 133, 80, 167, 0, 6, 77, 4, 172, 3, 172]
abbrev dktX0_undo_0 : List UInt8 := dkwX0_undo_0 ++ []
theorem dksX0_undo_0 : cX0_undo.data.toList.drop 0 = dktX0_undo_0 := by decide +kernel
theorem dX0_undo_0 : decode cX0_undo 0 = .ok (.aload_n 1, 1) := dk_43 (dk_at dksX0_undo_0 0 rfl rfl)
theorem dX0_undo_1 : decode cX0_undo 1 = .ok (.iconst 0, 1) := dk_3 (dk_at dksX0_undo_0 1 rfl rfl)
theorem dX0_undo_2 : decode cX0_undo 2 = .ok (.aload_n 0, 1) := dk_42 (dk_at dksX0_undo_0 2 rfl rfl)
theorem dX0_undo_3 : decode cX0_undo 3 = .ok (.invokevirtual 121, 3) := dk_182 0 121 (dk_at dksX0_undo_0 3 rfl rfl)
theorem dX0_undo_6 : decode cX0_undo 6 = .ok (.i2l, 1) := dk_133 (dk_at dksX0_undo_0 6 rfl rfl)
theorem dX0_undo_7 : decode cX0_undo 7 = .ok (.lastore, 1) := dk_80 (dk_at dksX0_undo_0 7 rfl rfl)
theorem dX0_undo_8 : decode cX0_undo 8 = .ok (.goto 6, 3) := dk_167 0 6 (dk_at dksX0_undo_0 8 rfl rfl)
theorem dX0_undo_11 : decode cX0_undo 11 = .ok (.astore_n 2, 1) := dk_77 (dk_at dksX0_undo_0 11 rfl rfl)
theorem dX0_undo_12 : decode cX0_undo 12 = .ok (.iconst 1, 1) := dk_4 (dk_at dksX0_undo_0 12 rfl rfl)
theorem dX0_undo_13 : decode cX0_undo 13 = .ok (.ireturn, 1) := dk_172 (dk_at dksX0_undo_0 13 rfl rfl)
theorem dX0_undo_14 : decode cX0_undo 14 = .ok (.iconst 0, 1) := dk_3 (dk_at dksX0_undo_0 14 rfl rfl)
theorem dX0_undo_15 : decode cX0_undo 15 = .ok (.ireturn, 1) := dk_172 (dk_at dksX0_undo_0 15 rfl rfl)
abbrev cX0_formatName : ByteArray := method_36_code
def yX0_formatName : MethodName := ⟨RX0, "formatName", "(LBatchRenamer;I[J)I"⟩
def dkwX0_formatName_0 : List UInt8 := [44, 3, 42, 27, 182, 0, 124, 133, 80, 167, 0, 6, 78, 4, 172, 3, 172]
abbrev dktX0_formatName_0 : List UInt8 := dkwX0_formatName_0 ++ []
theorem dksX0_formatName_0 : cX0_formatName.data.toList.drop 0 = dktX0_formatName_0 := by decide +kernel
theorem dX0_formatName_0 : decode cX0_formatName 0 = .ok (.aload_n 2, 1) := dk_44 (dk_at dksX0_formatName_0 0 rfl rfl)
theorem dX0_formatName_1 : decode cX0_formatName 1 = .ok (.iconst 0, 1) := dk_3 (dk_at dksX0_formatName_0 1 rfl rfl)
theorem dX0_formatName_2 : decode cX0_formatName 2 = .ok (.aload_n 0, 1) := dk_42 (dk_at dksX0_formatName_0 2 rfl rfl)
theorem dX0_formatName_3 : decode cX0_formatName 3 = .ok (.iload_n 1, 1) := dk_27 (dk_at dksX0_formatName_0 3 rfl rfl)
theorem dX0_formatName_4 : decode cX0_formatName 4 = .ok (.invokevirtual 124, 3) := dk_182 0 124 (dk_at dksX0_formatName_0 4 rfl rfl)
theorem dX0_formatName_7 : decode cX0_formatName 7 = .ok (.i2l, 1) := dk_133 (dk_at dksX0_formatName_0 7 rfl rfl)
theorem dX0_formatName_8 : decode cX0_formatName 8 = .ok (.lastore, 1) := dk_80 (dk_at dksX0_formatName_0 8 rfl rfl)
theorem dX0_formatName_9 : decode cX0_formatName 9 = .ok (.goto 6, 3) := dk_167 0 6 (dk_at dksX0_formatName_0 9 rfl rfl)
theorem dX0_formatName_12 : decode cX0_formatName 12 = .ok (.astore_n 3, 1) := dk_78 (dk_at dksX0_formatName_0 12 rfl rfl)
theorem dX0_formatName_13 : decode cX0_formatName 13 = .ok (.iconst 1, 1) := dk_4 (dk_at dksX0_formatName_0 13 rfl rfl)
theorem dX0_formatName_14 : decode cX0_formatName 14 = .ok (.ireturn, 1) := dk_172 (dk_at dksX0_formatName_0 14 rfl rfl)
theorem dX0_formatName_15 : decode cX0_formatName 15 = .ok (.iconst 0, 1) := dk_3 (dk_at dksX0_formatName_0 15 rfl rfl)
theorem dX0_formatName_16 : decode cX0_formatName 16 = .ok (.ireturn, 1) := dk_172 (dk_at dksX0_formatName_0 16 rfl rfl)
abbrev cX0_formatNew : ByteArray := method_37_code
def yX0_formatNew : MethodName := ⟨RX0, "formatNew", "(LBatchRenamer;I[J)I"⟩
def dkwX0_formatNew_0 : List UInt8 := [44, 3, 42, 27, 182, 0, 127, 133, 80, 167, 0, 6, 78, 4, 172, 3, 172]
abbrev dktX0_formatNew_0 : List UInt8 := dkwX0_formatNew_0 ++ []
theorem dksX0_formatNew_0 : cX0_formatNew.data.toList.drop 0 = dktX0_formatNew_0 := by decide +kernel
theorem dX0_formatNew_0 : decode cX0_formatNew 0 = .ok (.aload_n 2, 1) := dk_44 (dk_at dksX0_formatNew_0 0 rfl rfl)
theorem dX0_formatNew_1 : decode cX0_formatNew 1 = .ok (.iconst 0, 1) := dk_3 (dk_at dksX0_formatNew_0 1 rfl rfl)
theorem dX0_formatNew_2 : decode cX0_formatNew 2 = .ok (.aload_n 0, 1) := dk_42 (dk_at dksX0_formatNew_0 2 rfl rfl)
theorem dX0_formatNew_3 : decode cX0_formatNew 3 = .ok (.iload_n 1, 1) := dk_27 (dk_at dksX0_formatNew_0 3 rfl rfl)
theorem dX0_formatNew_4 : decode cX0_formatNew 4 = .ok (.invokevirtual 127, 3) := dk_182 0 127 (dk_at dksX0_formatNew_0 4 rfl rfl)
theorem dX0_formatNew_7 : decode cX0_formatNew 7 = .ok (.i2l, 1) := dk_133 (dk_at dksX0_formatNew_0 7 rfl rfl)
theorem dX0_formatNew_8 : decode cX0_formatNew 8 = .ok (.lastore, 1) := dk_80 (dk_at dksX0_formatNew_0 8 rfl rfl)
theorem dX0_formatNew_9 : decode cX0_formatNew 9 = .ok (.goto 6, 3) := dk_167 0 6 (dk_at dksX0_formatNew_0 9 rfl rfl)
theorem dX0_formatNew_12 : decode cX0_formatNew 12 = .ok (.astore_n 3, 1) := dk_78 (dk_at dksX0_formatNew_0 12 rfl rfl)
theorem dX0_formatNew_13 : decode cX0_formatNew 13 = .ok (.iconst 1, 1) := dk_4 (dk_at dksX0_formatNew_0 13 rfl rfl)
theorem dX0_formatNew_14 : decode cX0_formatNew 14 = .ok (.ireturn, 1) := dk_172 (dk_at dksX0_formatNew_0 14 rfl rfl)
theorem dX0_formatNew_15 : decode cX0_formatNew 15 = .ok (.iconst 0, 1) := dk_3 (dk_at dksX0_formatNew_0 15 rfl rfl)
theorem dX0_formatNew_16 : decode cX0_formatNew 16 = .ok (.ireturn, 1) := dk_172 (dk_at dksX0_formatNew_0 16 rfl rfl)
abbrev cX0_formatStep : ByteArray := method_38_code
def yX0_formatStep : MethodName := ⟨RX0, "formatStep", "(LBatchRenamer;I[J)I"⟩
def dkwX0_formatStep_0 : List UInt8 := [44, 3, 42, 27, 182, 0, 130, 133, 80, 167, 0, 6, 78, 4, 172, 3, 172]
abbrev dktX0_formatStep_0 : List UInt8 := dkwX0_formatStep_0 ++ []
theorem dksX0_formatStep_0 : cX0_formatStep.data.toList.drop 0 = dktX0_formatStep_0 := by decide +kernel
theorem dX0_formatStep_0 : decode cX0_formatStep 0 = .ok (.aload_n 2, 1) := dk_44 (dk_at dksX0_formatStep_0 0 rfl rfl)
theorem dX0_formatStep_1 : decode cX0_formatStep 1 = .ok (.iconst 0, 1) := dk_3 (dk_at dksX0_formatStep_0 1 rfl rfl)
theorem dX0_formatStep_2 : decode cX0_formatStep 2 = .ok (.aload_n 0, 1) := dk_42 (dk_at dksX0_formatStep_0 2 rfl rfl)
theorem dX0_formatStep_3 : decode cX0_formatStep 3 = .ok (.iload_n 1, 1) := dk_27 (dk_at dksX0_formatStep_0 3 rfl rfl)
theorem dX0_formatStep_4 : decode cX0_formatStep 4 = .ok (.invokevirtual 130, 3) := dk_182 0 130 (dk_at dksX0_formatStep_0 4 rfl rfl)
theorem dX0_formatStep_7 : decode cX0_formatStep 7 = .ok (.i2l, 1) := dk_133 (dk_at dksX0_formatStep_0 7 rfl rfl)
theorem dX0_formatStep_8 : decode cX0_formatStep 8 = .ok (.lastore, 1) := dk_80 (dk_at dksX0_formatStep_0 8 rfl rfl)
theorem dX0_formatStep_9 : decode cX0_formatStep 9 = .ok (.goto 6, 3) := dk_167 0 6 (dk_at dksX0_formatStep_0 9 rfl rfl)
theorem dX0_formatStep_12 : decode cX0_formatStep 12 = .ok (.astore_n 3, 1) := dk_78 (dk_at dksX0_formatStep_0 12 rfl rfl)
theorem dX0_formatStep_13 : decode cX0_formatStep 13 = .ok (.iconst 1, 1) := dk_4 (dk_at dksX0_formatStep_0 13 rfl rfl)
theorem dX0_formatStep_14 : decode cX0_formatStep 14 = .ok (.ireturn, 1) := dk_172 (dk_at dksX0_formatStep_0 14 rfl rfl)
theorem dX0_formatStep_15 : decode cX0_formatStep 15 = .ok (.iconst 0, 1) := dk_3 (dk_at dksX0_formatStep_0 15 rfl rfl)
theorem dX0_formatStep_16 : decode cX0_formatStep 16 = .ok (.ireturn, 1) := dk_172 (dk_at dksX0_formatStep_0 16 rfl rfl)
abbrev cX0_formattedCharacter : ByteArray := method_39_code
def yX0_formattedCharacter : MethodName := ⟨RX0, "formattedCharacter", "(LBatchRenamer;I[J)I"⟩
def dkwX0_formattedCharacter_0 : List UInt8 := [44, 3, 42, 27, 182, 0, 133, 133, 80, 167, 0, 6, 78, 4, 172, 3, 172]
abbrev dktX0_formattedCharacter_0 : List UInt8 := dkwX0_formattedCharacter_0 ++ []
theorem dksX0_formattedCharacter_0 : cX0_formattedCharacter.data.toList.drop 0 = dktX0_formattedCharacter_0 := by decide +kernel
theorem dX0_formattedCharacter_0 : decode cX0_formattedCharacter 0 = .ok (.aload_n 2, 1) := dk_44 (dk_at dksX0_formattedCharacter_0 0 rfl rfl)
theorem dX0_formattedCharacter_1 : decode cX0_formattedCharacter 1 = .ok (.iconst 0, 1) := dk_3 (dk_at dksX0_formattedCharacter_0 1 rfl rfl)
theorem dX0_formattedCharacter_2 : decode cX0_formattedCharacter 2 = .ok (.aload_n 0, 1) := dk_42 (dk_at dksX0_formattedCharacter_0 2 rfl rfl)
theorem dX0_formattedCharacter_3 : decode cX0_formattedCharacter 3 = .ok (.iload_n 1, 1) := dk_27 (dk_at dksX0_formattedCharacter_0 3 rfl rfl)
theorem dX0_formattedCharacter_4 : decode cX0_formattedCharacter 4 = .ok (.invokevirtual 133, 3) := dk_182 0 133 (dk_at dksX0_formattedCharacter_0 4 rfl rfl)
theorem dX0_formattedCharacter_7 : decode cX0_formattedCharacter 7 = .ok (.i2l, 1) := dk_133 (dk_at dksX0_formattedCharacter_0 7 rfl rfl)
theorem dX0_formattedCharacter_8 : decode cX0_formattedCharacter 8 = .ok (.lastore, 1) := dk_80 (dk_at dksX0_formattedCharacter_0 8 rfl rfl)
theorem dX0_formattedCharacter_9 : decode cX0_formattedCharacter 9 = .ok (.goto 6, 3) := dk_167 0 6 (dk_at dksX0_formattedCharacter_0 9 rfl rfl)
theorem dX0_formattedCharacter_12 : decode cX0_formattedCharacter 12 = .ok (.astore_n 3, 1) := dk_78 (dk_at dksX0_formattedCharacter_0 12 rfl rfl)
theorem dX0_formattedCharacter_13 : decode cX0_formattedCharacter 13 = .ok (.iconst 1, 1) := dk_4 (dk_at dksX0_formattedCharacter_0 13 rfl rfl)
theorem dX0_formattedCharacter_14 : decode cX0_formattedCharacter 14 = .ok (.ireturn, 1) := dk_172 (dk_at dksX0_formattedCharacter_0 14 rfl rfl)
theorem dX0_formattedCharacter_15 : decode cX0_formattedCharacter 15 = .ok (.iconst 0, 1) := dk_3 (dk_at dksX0_formattedCharacter_0 15 rfl rfl)
theorem dX0_formattedCharacter_16 : decode cX0_formattedCharacter 16 = .ok (.ireturn, 1) := dk_172 (dk_at dksX0_formattedCharacter_0 16 rfl rfl)
theorem q129 : (Jvm.Cond.initialized "BatchRenamerLaw") ∈ lw_all := lw_g (lw_at lw_m1 0 rfl) rfl
theorem q170 : (Jvm.Cond.classLink "BatchRenamerLaw" (8 : Nat) "BatchRenamer") ∈ lw_all := lw_g (lw_at lw_m1 41 rfl) rfl
theorem q172 : (Jvm.Cond.methodLink "BatchRenamerLaw" (137 : Nat) ({ cls := "BatchRenamer", name := "<init>", desc := "()V" } : Jvm.MethodName)) ∈ lw_all := lw_g (lw_at lw_m1 43 rfl) rfl
theorem q660 : (Jvm.Cond.methodLink "BatchRenamerLaw" (158 : Nat) ({ cls := "BatchRenamer", name := "errorOffset", desc := "()I" } : Jvm.MethodName)) ∈ lw_all := lw_g (lw_at lw_m3 51 rfl) rfl
theorem q664 : (Jvm.Cond.methodLink "BatchRenamerLaw" (162 : Nat) ({ cls := "BatchRenamer", name := "files", desc := "()I" } : Jvm.MethodName)) ∈ lw_all := lw_g (lw_at lw_m3 55 rfl) rfl
theorem q672 : (Jvm.Cond.methodLink "BatchRenamerLaw" (166 : Nat) ({ cls := "BatchRenamer", name := "rules", desc := "()I" } : Jvm.MethodName)) ∈ lw_all := lw_g (lw_at lw_m3 63 rfl) rfl
theorem q676 : (Jvm.Cond.methodLink "BatchRenamerLaw" (212 : Nat) ({ cls := "BatchRenamer", name := "withStatus", desc := "(I)I" } : Jvm.MethodName)) ∈ lw_all := lw_g (lw_at lw_m3 67 rfl) rfl
theorem q1169 : (Jvm.Cond.methodLink "BatchRenamerLaw" (222 : Nat) ({ cls := "BatchRenamer", name := "rounds", desc := "()I" } : Jvm.MethodName)) ∈ lw_all := lw_g (lw_at lw_m5 80 rfl) rfl
theorem q1173 : (Jvm.Cond.methodLink "BatchRenamerLaw" (226 : Nat) ({ cls := "BatchRenamer", name := "steps", desc := "()I" } : Jvm.MethodName)) ∈ lw_all := lw_g (lw_at lw_m5 84 rfl) rfl
theorem q1391 : (Jvm.Cond.methodLink "BatchRenamerLaw" (233 : Nat) ({ cls := "BatchRenamer", name := "spares", desc := "()I" } : Jvm.MethodName)) ∈ lw_all := lw_g (lw_at lw_m6 62 rfl) rfl
theorem q1401 : (Jvm.Cond.methodLink "BatchRenamerLaw" (237 : Nat) ({ cls := "BatchRenamer", name := "longestCycle", desc := "()I" } : Jvm.MethodName)) ∈ lw_all := lw_g (lw_at lw_m6 72 rfl) rfl
theorem q1410 : (Jvm.Cond.methodLink "BatchRenamerLaw" (241 : Nat) ({ cls := "BatchRenamer", name := "performed", desc := "()I" } : Jvm.MethodName)) ∈ lw_all := lw_g (lw_at lw_m6 81 rfl) rfl
theorem q1419 : (Jvm.Cond.methodLink "BatchRenamerLaw" (254 : Nat) ({ cls := "BatchRenamer", name := "stepsAgain", desc := "()I" } : Jvm.MethodName)) ∈ lw_all := lw_g (lw_at lw_m6 90 rfl) rfl
theorem q1423 : (Jvm.Cond.methodLink "BatchRenamerLaw" (258 : Nat) ({ cls := "BatchRenamer", name := "meanLength", desc := "()D" } : Jvm.MethodName)) ∈ lw_all := lw_g (lw_at lw_m6 94 rfl) rfl
theorem q1433 : (Jvm.Cond.methodLink "BatchRenamerLaw" (263 : Nat) ({ cls := "BatchRenamer", name := "perform", desc := "()I" } : Jvm.MethodName)) ∈ lw_all := lw_g (lw_at lw_m6 104 rfl) rfl
theorem q1473 : (Jvm.Cond.methodLink "BatchRenamerLaw" (141 : Nat) ({ cls := "BatchRenamerLaw", name := "append", desc := "(LBatchRenamer;IIIII[J)I" } : Jvm.MethodName)) ∈ lw_all := lw_g (lw_at lw_m6 144 rfl) rfl
theorem q1474 : (Jvm.Cond.static ({ cls := "BatchRenamerLaw", name := "append", desc := "(LBatchRenamer;IIIII[J)I" } : Jvm.MethodName)) ∈ lw_all := lw_g (lw_at lw_m6 145 rfl) rfl
theorem q1475 : (Jvm.Cond.codeWith ({ cls := "BatchRenamerLaw", name := "append", desc := "(LBatchRenamer;IIIII[J)I" } : Jvm.MethodName) method_3_code (8 : Nat) (Option.some Jvm.ClassFile.FieldType.int) [((0 : Nat), (16 : Nat), (19 : Nat), (13 : Nat))]) ∈ lw_all := lw_g (lw_at lw_m6 146 rfl) rfl
theorem q1476 : (Jvm.Cond.classLink "BatchRenamerLaw" (13 : Nat) "java/lang/IllegalStateException") ∈ lw_all := lw_g (lw_at lw_m6 147 rfl) rfl
theorem q1477 : (Jvm.Cond.methodLink "BatchRenamerLaw" (7 : Nat) ({ cls := "BatchRenamer", name := "append", desc := "(IIIII)I" } : Jvm.MethodName)) ∈ lw_all := lw_g (lw_at lw_m6 148 rfl) rfl
theorem q1495 : (Jvm.Cond.methodLink "BatchRenamerLaw" (150 : Nat) ({ cls := "BatchRenamerLaw", name := "truncate", desc := "(LBatchRenamer;I)I" } : Jvm.MethodName)) ∈ lw_all := lw_g (lw_at lw_m6 166 rfl) rfl
theorem q1496 : (Jvm.Cond.static ({ cls := "BatchRenamerLaw", name := "truncate", desc := "(LBatchRenamer;I)I" } : Jvm.MethodName)) ∈ lw_all := lw_g (lw_at lw_m6 167 rfl) rfl
theorem q1497 : (Jvm.Cond.codeWith ({ cls := "BatchRenamerLaw", name := "truncate", desc := "(LBatchRenamer;I)I" } : Jvm.MethodName) method_4_code (3 : Nat) (Option.some Jvm.ClassFile.FieldType.int) [((0 : Nat), (5 : Nat), (8 : Nat), (19 : Nat))]) ∈ lw_all := lw_g (lw_at lw_m6 168 rfl) rfl
theorem q1498 : (Jvm.Cond.classLink "BatchRenamerLaw" (19 : Nat) "java/lang/IllegalArgumentException") ∈ lw_all := lw_g (lw_at lw_m6 169 rfl) rfl
theorem q1499 : (Jvm.Cond.methodLink "BatchRenamerLaw" (15 : Nat) ({ cls := "BatchRenamer", name := "truncate", desc := "(I)V" } : Jvm.MethodName)) ∈ lw_all := lw_g (lw_at lw_m6 170 rfl) rfl
theorem q1514 : (Jvm.Cond.methodLink "BatchRenamerLaw" (154 : Nat) ({ cls := "BatchRenamerLaw", name := "load", desc := "(LBatchRenamer;[J)I" } : Jvm.MethodName)) ∈ lw_all := lw_g (lw_at lw_m6 185 rfl) rfl
theorem q1515 : (Jvm.Cond.static ({ cls := "BatchRenamerLaw", name := "load", desc := "(LBatchRenamer;[J)I" } : Jvm.MethodName)) ∈ lw_all := lw_g (lw_at lw_m6 186 rfl) rfl
theorem q1516 : (Jvm.Cond.codeWith ({ cls := "BatchRenamerLaw", name := "load", desc := "(LBatchRenamer;[J)I" } : Jvm.MethodName) method_5_code (3 : Nat) (Option.some Jvm.ClassFile.FieldType.int) [((0 : Nat), (8 : Nat), (11 : Nat), (19 : Nat))]) ∈ lw_all := lw_g (lw_at lw_m6 187 rfl) rfl
theorem q1517 : (Jvm.Cond.methodLink "BatchRenamerLaw" (21 : Nat) ({ cls := "BatchRenamer", name := "load", desc := "()I" } : Jvm.MethodName)) ∈ lw_all := lw_g (lw_at lw_m6 188 rfl) rfl
theorem q1777 : (Jvm.Cond.methodLink "BatchRenamerLaw" (170 : Nat) ({ cls := "BatchRenamerLaw", name := "isKept", desc := "(LBatchRenamer;I[J)I" } : Jvm.MethodName)) ∈ lw_all := lw_g (lw_at lw_m7 208 rfl) rfl
theorem q1778 : (Jvm.Cond.static ({ cls := "BatchRenamerLaw", name := "isKept", desc := "(LBatchRenamer;I[J)I" } : Jvm.MethodName)) ∈ lw_all := lw_g (lw_at lw_m7 209 rfl) rfl
theorem q1779 : (Jvm.Cond.codeWith ({ cls := "BatchRenamerLaw", name := "isKept", desc := "(LBatchRenamer;I[J)I" } : Jvm.MethodName) method_6_code (4 : Nat) (Option.some Jvm.ClassFile.FieldType.int) [((0 : Nat), (16 : Nat), (19 : Nat), (29 : Nat))]) ∈ lw_all := lw_g (lw_at lw_m7 210 rfl) rfl
theorem q1780 : (Jvm.Cond.classLink "BatchRenamerLaw" (29 : Nat) "java/lang/IndexOutOfBoundsException") ∈ lw_all := lw_g (lw_at lw_m7 211 rfl) rfl
theorem q1783 : (Jvm.Cond.methodLink "BatchRenamerLaw" (25 : Nat) ({ cls := "BatchRenamer", name := "isKept", desc := "(I)Z" } : Jvm.MethodName)) ∈ lw_all := lw_g (lw_at lw_m7 214 rfl) rfl
theorem q1810 : (Jvm.Cond.methodLink "BatchRenamerLaw" (174 : Nat) ({ cls := "BatchRenamerLaw", name := "length", desc := "(LBatchRenamer;I[J)I" } : Jvm.MethodName)) ∈ lw_all := lw_g (lw_at lw_m8 1 rfl) rfl
theorem q1811 : (Jvm.Cond.static ({ cls := "BatchRenamerLaw", name := "length", desc := "(LBatchRenamer;I[J)I" } : Jvm.MethodName)) ∈ lw_all := lw_g (lw_at lw_m8 2 rfl) rfl
theorem q1812 : (Jvm.Cond.codeWith ({ cls := "BatchRenamerLaw", name := "length", desc := "(LBatchRenamer;I[J)I" } : Jvm.MethodName) method_7_code (4 : Nat) (Option.some Jvm.ClassFile.FieldType.int) [((0 : Nat), (9 : Nat), (12 : Nat), (29 : Nat))]) ∈ lw_all := lw_g (lw_at lw_m8 3 rfl) rfl
theorem q1813 : (Jvm.Cond.methodLink "BatchRenamerLaw" (31 : Nat) ({ cls := "BatchRenamer", name := "length", desc := "(I)I" } : Jvm.MethodName)) ∈ lw_all := lw_g (lw_at lw_m8 4 rfl) rfl
theorem q1817 : (Jvm.Cond.methodLink "BatchRenamerLaw" (177 : Nat) ({ cls := "BatchRenamerLaw", name := "rank", desc := "(LBatchRenamer;I[J)I" } : Jvm.MethodName)) ∈ lw_all := lw_g (lw_at lw_m8 8 rfl) rfl
theorem q1818 : (Jvm.Cond.static ({ cls := "BatchRenamerLaw", name := "rank", desc := "(LBatchRenamer;I[J)I" } : Jvm.MethodName)) ∈ lw_all := lw_g (lw_at lw_m8 9 rfl) rfl
theorem q1819 : (Jvm.Cond.codeWith ({ cls := "BatchRenamerLaw", name := "rank", desc := "(LBatchRenamer;I[J)I" } : Jvm.MethodName) method_8_code (4 : Nat) (Option.some Jvm.ClassFile.FieldType.int) [((0 : Nat), (9 : Nat), (12 : Nat), (29 : Nat))]) ∈ lw_all := lw_g (lw_at lw_m8 10 rfl) rfl
theorem q1820 : (Jvm.Cond.methodLink "BatchRenamerLaw" (35 : Nat) ({ cls := "BatchRenamer", name := "rank", desc := "(I)I" } : Jvm.MethodName)) ∈ lw_all := lw_g (lw_at lw_m8 11 rfl) rfl
theorem q1836 : (Jvm.Cond.methodLink "BatchRenamerLaw" (180 : Nat) ({ cls := "BatchRenamerLaw", name := "counting", desc := "(LBatchRenamer;I[J)I" } : Jvm.MethodName)) ∈ lw_all := lw_g (lw_at lw_m8 27 rfl) rfl
theorem q1837 : (Jvm.Cond.static ({ cls := "BatchRenamerLaw", name := "counting", desc := "(LBatchRenamer;I[J)I" } : Jvm.MethodName)) ∈ lw_all := lw_g (lw_at lw_m8 28 rfl) rfl
theorem q1838 : (Jvm.Cond.codeWith ({ cls := "BatchRenamerLaw", name := "counting", desc := "(LBatchRenamer;I[J)I" } : Jvm.MethodName) method_9_code (4 : Nat) (Option.some Jvm.ClassFile.FieldType.int) [((0 : Nat), (9 : Nat), (12 : Nat), (19 : Nat))]) ∈ lw_all := lw_g (lw_at lw_m8 29 rfl) rfl
theorem q1839 : (Jvm.Cond.methodLink "BatchRenamerLaw" (38 : Nat) ({ cls := "BatchRenamer", name := "counting", desc := "(I)I" } : Jvm.MethodName)) ∈ lw_all := lw_g (lw_at lw_m8 30 rfl) rfl
theorem q1844 : (Jvm.Cond.methodLink "BatchRenamerLaw" (183 : Nat) ({ cls := "BatchRenamerLaw", name := "wildcards", desc := "(LBatchRenamer;I[J)I" } : Jvm.MethodName)) ∈ lw_all := lw_g (lw_at lw_m8 35 rfl) rfl
theorem q1845 : (Jvm.Cond.static ({ cls := "BatchRenamerLaw", name := "wildcards", desc := "(LBatchRenamer;I[J)I" } : Jvm.MethodName)) ∈ lw_all := lw_g (lw_at lw_m8 36 rfl) rfl
theorem q1846 : (Jvm.Cond.codeWith ({ cls := "BatchRenamerLaw", name := "wildcards", desc := "(LBatchRenamer;I[J)I" } : Jvm.MethodName) method_10_code (4 : Nat) (Option.some Jvm.ClassFile.FieldType.int) [((0 : Nat), (9 : Nat), (12 : Nat), (29 : Nat))]) ∈ lw_all := lw_g (lw_at lw_m8 37 rfl) rfl
theorem q1847 : (Jvm.Cond.methodLink "BatchRenamerLaw" (41 : Nat) ({ cls := "BatchRenamer", name := "wildcards", desc := "(I)I" } : Jvm.MethodName)) ∈ lw_all := lw_g (lw_at lw_m8 38 rfl) rfl
theorem q1856 : (Jvm.Cond.methodLink "BatchRenamerLaw" (186 : Nat) ({ cls := "BatchRenamerLaw", name := "matches", desc := "(LBatchRenamer;II[J)I" } : Jvm.MethodName)) ∈ lw_all := lw_g (lw_at lw_m8 47 rfl) rfl
theorem q1857 : (Jvm.Cond.static ({ cls := "BatchRenamerLaw", name := "matches", desc := "(LBatchRenamer;II[J)I" } : Jvm.MethodName)) ∈ lw_all := lw_g (lw_at lw_m8 48 rfl) rfl
theorem q1858 : (Jvm.Cond.codeWith ({ cls := "BatchRenamerLaw", name := "matches", desc := "(LBatchRenamer;II[J)I" } : Jvm.MethodName) method_11_code (5 : Nat) (Option.some Jvm.ClassFile.FieldType.int) [((0 : Nat), (17 : Nat), (20 : Nat), (29 : Nat))]) ∈ lw_all := lw_g (lw_at lw_m8 49 rfl) rfl
theorem q1859 : (Jvm.Cond.methodLink "BatchRenamerLaw" (44 : Nat) ({ cls := "BatchRenamer", name := "matches", desc := "(II)Z" } : Jvm.MethodName)) ∈ lw_all := lw_g (lw_at lw_m8 50 rfl) rfl
theorem q1864 : (Jvm.Cond.methodLink "BatchRenamerLaw" (190 : Nat) ({ cls := "BatchRenamerLaw", name := "capture", desc := "(LBatchRenamer;IIII[J)I" } : Jvm.MethodName)) ∈ lw_all := lw_g (lw_at lw_m8 55 rfl) rfl
theorem q1865 : (Jvm.Cond.static ({ cls := "BatchRenamerLaw", name := "capture", desc := "(LBatchRenamer;IIII[J)I" } : Jvm.MethodName)) ∈ lw_all := lw_g (lw_at lw_m8 56 rfl) rfl
theorem q1866 : (Jvm.Cond.codeWith ({ cls := "BatchRenamerLaw", name := "capture", desc := "(LBatchRenamer;IIII[J)I" } : Jvm.MethodName) method_12_code (7 : Nat) (Option.some Jvm.ClassFile.FieldType.int) [((0 : Nat), (14 : Nat), (17 : Nat), (29 : Nat)), ((0 : Nat), (14 : Nat), (21 : Nat), (19 : Nat))]) ∈ lw_all := lw_g (lw_at lw_m8 57 rfl) rfl
theorem q1867 : (Jvm.Cond.methodLink "BatchRenamerLaw" (48 : Nat) ({ cls := "BatchRenamer", name := "capture", desc := "(IIII)I" } : Jvm.MethodName)) ∈ lw_all := lw_g (lw_at lw_m8 58 rfl) rfl
theorem q1871 : (Jvm.Cond.methodLink "BatchRenamerLaw" (194 : Nat) ({ cls := "BatchRenamerLaw", name := "ruleOf", desc := "(LBatchRenamer;I[J)I" } : Jvm.MethodName)) ∈ lw_all := lw_g (lw_at lw_m8 62 rfl) rfl
theorem q1872 : (Jvm.Cond.static ({ cls := "BatchRenamerLaw", name := "ruleOf", desc := "(LBatchRenamer;I[J)I" } : Jvm.MethodName)) ∈ lw_all := lw_g (lw_at lw_m8 63 rfl) rfl
theorem q1873 : (Jvm.Cond.codeWith ({ cls := "BatchRenamerLaw", name := "ruleOf", desc := "(LBatchRenamer;I[J)I" } : Jvm.MethodName) method_13_code (4 : Nat) (Option.some Jvm.ClassFile.FieldType.int) [((0 : Nat), (9 : Nat), (12 : Nat), (29 : Nat))]) ∈ lw_all := lw_g (lw_at lw_m8 64 rfl) rfl
theorem q1874 : (Jvm.Cond.methodLink "BatchRenamerLaw" (52 : Nat) ({ cls := "BatchRenamer", name := "ruleOf", desc := "(I)I" } : Jvm.MethodName)) ∈ lw_all := lw_g (lw_at lw_m8 65 rfl) rfl
theorem q1879 : (Jvm.Cond.methodLink "BatchRenamerLaw" (197 : Nat) ({ cls := "BatchRenamerLaw", name := "filesOf", desc := "(LBatchRenamer;I[J)I" } : Jvm.MethodName)) ∈ lw_all := lw_g (lw_at lw_m8 70 rfl) rfl
theorem q1880 : (Jvm.Cond.static ({ cls := "BatchRenamerLaw", name := "filesOf", desc := "(LBatchRenamer;I[J)I" } : Jvm.MethodName)) ∈ lw_all := lw_g (lw_at lw_m8 71 rfl) rfl
theorem q1881 : (Jvm.Cond.codeWith ({ cls := "BatchRenamerLaw", name := "filesOf", desc := "(LBatchRenamer;I[J)I" } : Jvm.MethodName) method_14_code (4 : Nat) (Option.some Jvm.ClassFile.FieldType.int) [((0 : Nat), (9 : Nat), (12 : Nat), (29 : Nat))]) ∈ lw_all := lw_g (lw_at lw_m8 72 rfl) rfl
theorem q1882 : (Jvm.Cond.methodLink "BatchRenamerLaw" (55 : Nat) ({ cls := "BatchRenamer", name := "filesOf", desc := "(I)I" } : Jvm.MethodName)) ∈ lw_all := lw_g (lw_at lw_m8 73 rfl) rfl
theorem q1889 : (Jvm.Cond.methodLink "BatchRenamerLaw" (200 : Nat) ({ cls := "BatchRenamerLaw", name := "groups", desc := "(LBatchRenamer;I[J)I" } : Jvm.MethodName)) ∈ lw_all := lw_g (lw_at lw_m8 80 rfl) rfl
theorem q1890 : (Jvm.Cond.static ({ cls := "BatchRenamerLaw", name := "groups", desc := "(LBatchRenamer;I[J)I" } : Jvm.MethodName)) ∈ lw_all := lw_g (lw_at lw_m8 81 rfl) rfl
theorem q1891 : (Jvm.Cond.codeWith ({ cls := "BatchRenamerLaw", name := "groups", desc := "(LBatchRenamer;I[J)I" } : Jvm.MethodName) method_15_code (4 : Nat) (Option.some Jvm.ClassFile.FieldType.int) [((0 : Nat), (9 : Nat), (12 : Nat), (29 : Nat))]) ∈ lw_all := lw_g (lw_at lw_m8 82 rfl) rfl
theorem q1892 : (Jvm.Cond.methodLink "BatchRenamerLaw" (58 : Nat) ({ cls := "BatchRenamer", name := "groups", desc := "(I)I" } : Jvm.MethodName)) ∈ lw_all := lw_g (lw_at lw_m8 83 rfl) rfl
theorem q1896 : (Jvm.Cond.methodLink "BatchRenamerLaw" (203 : Nat) ({ cls := "BatchRenamerLaw", name := "counter", desc := "(LBatchRenamer;I[J)I" } : Jvm.MethodName)) ∈ lw_all := lw_g (lw_at lw_m8 87 rfl) rfl
theorem q1897 : (Jvm.Cond.static ({ cls := "BatchRenamerLaw", name := "counter", desc := "(LBatchRenamer;I[J)I" } : Jvm.MethodName)) ∈ lw_all := lw_g (lw_at lw_m8 88 rfl) rfl
theorem q1898 : (Jvm.Cond.codeWith ({ cls := "BatchRenamerLaw", name := "counter", desc := "(LBatchRenamer;I[J)I" } : Jvm.MethodName) method_16_code (4 : Nat) (Option.some Jvm.ClassFile.FieldType.int) [((0 : Nat), (9 : Nat), (12 : Nat), (29 : Nat))]) ∈ lw_all := lw_g (lw_at lw_m8 89 rfl) rfl
theorem q1899 : (Jvm.Cond.methodLink "BatchRenamerLaw" (61 : Nat) ({ cls := "BatchRenamer", name := "counter", desc := "(I)I" } : Jvm.MethodName)) ∈ lw_all := lw_g (lw_at lw_m8 90 rfl) rfl
theorem q1907 : (Jvm.Cond.methodLink "BatchRenamerLaw" (206 : Nat) ({ cls := "BatchRenamerLaw", name := "status", desc := "(LBatchRenamer;I[J)I" } : Jvm.MethodName)) ∈ lw_all := lw_g (lw_at lw_m8 98 rfl) rfl
theorem q1908 : (Jvm.Cond.static ({ cls := "BatchRenamerLaw", name := "status", desc := "(LBatchRenamer;I[J)I" } : Jvm.MethodName)) ∈ lw_all := lw_g (lw_at lw_m8 99 rfl) rfl
theorem q1909 : (Jvm.Cond.codeWith ({ cls := "BatchRenamerLaw", name := "status", desc := "(LBatchRenamer;I[J)I" } : Jvm.MethodName) method_17_code (4 : Nat) (Option.some Jvm.ClassFile.FieldType.int) [((0 : Nat), (9 : Nat), (12 : Nat), (29 : Nat))]) ∈ lw_all := lw_g (lw_at lw_m8 100 rfl) rfl
theorem q1910 : (Jvm.Cond.methodLink "BatchRenamerLaw" (64 : Nat) ({ cls := "BatchRenamer", name := "status", desc := "(I)I" } : Jvm.MethodName)) ∈ lw_all := lw_g (lw_at lw_m8 101 rfl) rfl
theorem q1914 : (Jvm.Cond.methodLink "BatchRenamerLaw" (209 : Nat) ({ cls := "BatchRenamerLaw", name := "newLength", desc := "(LBatchRenamer;I[J)I" } : Jvm.MethodName)) ∈ lw_all := lw_g (lw_at lw_m8 105 rfl) rfl
theorem q1915 : (Jvm.Cond.static ({ cls := "BatchRenamerLaw", name := "newLength", desc := "(LBatchRenamer;I[J)I" } : Jvm.MethodName)) ∈ lw_all := lw_g (lw_at lw_m8 106 rfl) rfl
theorem q1916 : (Jvm.Cond.codeWith ({ cls := "BatchRenamerLaw", name := "newLength", desc := "(LBatchRenamer;I[J)I" } : Jvm.MethodName) method_18_code (4 : Nat) (Option.some Jvm.ClassFile.FieldType.int) [((0 : Nat), (9 : Nat), (12 : Nat), (29 : Nat))]) ∈ lw_all := lw_g (lw_at lw_m8 107 rfl) rfl
theorem q1917 : (Jvm.Cond.methodLink "BatchRenamerLaw" (67 : Nat) ({ cls := "BatchRenamer", name := "newLength", desc := "(I)I" } : Jvm.MethodName)) ∈ lw_all := lw_g (lw_at lw_m8 108 rfl) rfl
theorem q1921 : (Jvm.Cond.methodLink "BatchRenamerLaw" (216 : Nat) ({ cls := "BatchRenamerLaw", name := "owner", desc := "(LBatchRenamer;I[J)I" } : Jvm.MethodName)) ∈ lw_all := lw_g (lw_at lw_m8 112 rfl) rfl
theorem q1922 : (Jvm.Cond.static ({ cls := "BatchRenamerLaw", name := "owner", desc := "(LBatchRenamer;I[J)I" } : Jvm.MethodName)) ∈ lw_all := lw_g (lw_at lw_m8 113 rfl) rfl
theorem q1923 : (Jvm.Cond.codeWith ({ cls := "BatchRenamerLaw", name := "owner", desc := "(LBatchRenamer;I[J)I" } : Jvm.MethodName) method_19_code (4 : Nat) (Option.some Jvm.ClassFile.FieldType.int) [((0 : Nat), (9 : Nat), (12 : Nat), (29 : Nat))]) ∈ lw_all := lw_g (lw_at lw_m8 114 rfl) rfl
theorem q1924 : (Jvm.Cond.methodLink "BatchRenamerLaw" (70 : Nat) ({ cls := "BatchRenamer", name := "owner", desc := "(I)I" } : Jvm.MethodName)) ∈ lw_all := lw_g (lw_at lw_m8 115 rfl) rfl
theorem q1939 : (Jvm.Cond.methodLink "BatchRenamerLaw" (219 : Nat) ({ cls := "BatchRenamerLaw", name := "rival", desc := "(LBatchRenamer;I[J)I" } : Jvm.MethodName)) ∈ lw_all := lw_g (lw_at lw_m8 130 rfl) rfl
theorem q1940 : (Jvm.Cond.static ({ cls := "BatchRenamerLaw", name := "rival", desc := "(LBatchRenamer;I[J)I" } : Jvm.MethodName)) ∈ lw_all := lw_g (lw_at lw_m8 131 rfl) rfl
theorem q1941 : (Jvm.Cond.codeWith ({ cls := "BatchRenamerLaw", name := "rival", desc := "(LBatchRenamer;I[J)I" } : Jvm.MethodName) method_20_code (4 : Nat) (Option.some Jvm.ClassFile.FieldType.int) [((0 : Nat), (9 : Nat), (12 : Nat), (29 : Nat))]) ∈ lw_all := lw_g (lw_at lw_m8 132 rfl) rfl
theorem q1942 : (Jvm.Cond.methodLink "BatchRenamerLaw" (73 : Nat) ({ cls := "BatchRenamer", name := "rival", desc := "(I)I" } : Jvm.MethodName)) ∈ lw_all := lw_g (lw_at lw_m8 133 rfl) rfl
theorem q1948 : (Jvm.Cond.methodLink "BatchRenamerLaw" (230 : Nat) ({ cls := "BatchRenamerLaw", name := "step", desc := "(LBatchRenamer;II[J)I" } : Jvm.MethodName)) ∈ lw_all := lw_g (lw_at lw_m8 139 rfl) rfl
theorem q1949 : (Jvm.Cond.static ({ cls := "BatchRenamerLaw", name := "step", desc := "(LBatchRenamer;II[J)I" } : Jvm.MethodName)) ∈ lw_all := lw_g (lw_at lw_m8 140 rfl) rfl
theorem q1950 : (Jvm.Cond.codeWith ({ cls := "BatchRenamerLaw", name := "step", desc := "(LBatchRenamer;II[J)I" } : Jvm.MethodName) method_21_code (5 : Nat) (Option.some Jvm.ClassFile.FieldType.int) [((0 : Nat), (10 : Nat), (13 : Nat), (29 : Nat)), ((0 : Nat), (10 : Nat), (17 : Nat), (19 : Nat))]) ∈ lw_all := lw_g (lw_at lw_m8 141 rfl) rfl
theorem q1951 : (Jvm.Cond.methodLink "BatchRenamerLaw" (76 : Nat) ({ cls := "BatchRenamer", name := "step", desc := "(II)I" } : Jvm.MethodName)) ∈ lw_all := lw_g (lw_at lw_m8 142 rfl) rfl
theorem q1959 : (Jvm.Cond.methodLink "BatchRenamerLaw" (245 : Nat) ({ cls := "BatchRenamerLaw", name := "renamedWithout", desc := "(LBatchRenamer;I[J)I" } : Jvm.MethodName)) ∈ lw_all := lw_g (lw_at lw_m8 150 rfl) rfl
theorem q1960 : (Jvm.Cond.static ({ cls := "BatchRenamerLaw", name := "renamedWithout", desc := "(LBatchRenamer;I[J)I" } : Jvm.MethodName)) ∈ lw_all := lw_g (lw_at lw_m8 151 rfl) rfl
theorem q1961 : (Jvm.Cond.codeWith ({ cls := "BatchRenamerLaw", name := "renamedWithout", desc := "(LBatchRenamer;I[J)I" } : Jvm.MethodName) method_22_code (4 : Nat) (Option.some Jvm.ClassFile.FieldType.int) [((0 : Nat), (9 : Nat), (12 : Nat), (29 : Nat))]) ∈ lw_all := lw_g (lw_at lw_m8 152 rfl) rfl
theorem q1962 : (Jvm.Cond.methodLink "BatchRenamerLaw" (80 : Nat) ({ cls := "BatchRenamer", name := "renamedWithout", desc := "(I)I" } : Jvm.MethodName)) ∈ lw_all := lw_g (lw_at lw_m8 153 rfl) rfl
theorem q1984 : (Jvm.Cond.methodLink "BatchRenamerLaw" (248 : Nat) ({ cls := "BatchRenamerLaw", name := "bestStart", desc := "(LBatchRenamer;I[J)I" } : Jvm.MethodName)) ∈ lw_all := lw_g (lw_at lw_m8 175 rfl) rfl
theorem q1985 : (Jvm.Cond.static ({ cls := "BatchRenamerLaw", name := "bestStart", desc := "(LBatchRenamer;I[J)I" } : Jvm.MethodName)) ∈ lw_all := lw_g (lw_at lw_m8 176 rfl) rfl
theorem q1986 : (Jvm.Cond.codeWith ({ cls := "BatchRenamerLaw", name := "bestStart", desc := "(LBatchRenamer;I[J)I" } : Jvm.MethodName) method_23_code (4 : Nat) (Option.some Jvm.ClassFile.FieldType.int) [((0 : Nat), (9 : Nat), (12 : Nat), (19 : Nat))]) ∈ lw_all := lw_g (lw_at lw_m8 177 rfl) rfl
theorem q1987 : (Jvm.Cond.methodLink "BatchRenamerLaw" (83 : Nat) ({ cls := "BatchRenamer", name := "bestStart", desc := "(I)I" } : Jvm.MethodName)) ∈ lw_all := lw_g (lw_at lw_m8 178 rfl) rfl
theorem q1992 : (Jvm.Cond.methodLink "BatchRenamerLaw" (251 : Nat) ({ cls := "BatchRenamerLaw", name := "bestPlace", desc := "(LBatchRenamer;I[J)I" } : Jvm.MethodName)) ∈ lw_all := lw_g (lw_at lw_m8 183 rfl) rfl
theorem q1993 : (Jvm.Cond.static ({ cls := "BatchRenamerLaw", name := "bestPlace", desc := "(LBatchRenamer;I[J)I" } : Jvm.MethodName)) ∈ lw_all := lw_g (lw_at lw_m8 184 rfl) rfl
theorem q1994 : (Jvm.Cond.codeWith ({ cls := "BatchRenamerLaw", name := "bestPlace", desc := "(LBatchRenamer;I[J)I" } : Jvm.MethodName) method_24_code (4 : Nat) (Option.some Jvm.ClassFile.FieldType.int) [((0 : Nat), (9 : Nat), (12 : Nat), (29 : Nat))]) ∈ lw_all := lw_g (lw_at lw_m8 185 rfl) rfl
theorem q1995 : (Jvm.Cond.methodLink "BatchRenamerLaw" (86 : Nat) ({ cls := "BatchRenamer", name := "bestPlace", desc := "(I)I" } : Jvm.MethodName)) ∈ lw_all := lw_g (lw_at lw_m8 186 rfl) rfl
theorem q2015 : (Jvm.Cond.methodLink "BatchRenamerLaw" (267 : Nat) ({ cls := "BatchRenamerLaw", name := "takeBack", desc := "(LBatchRenamer;[J)I" } : Jvm.MethodName)) ∈ lw_all := lw_g (lw_at lw_m8 206 rfl) rfl
theorem q2016 : (Jvm.Cond.static ({ cls := "BatchRenamerLaw", name := "takeBack", desc := "(LBatchRenamer;[J)I" } : Jvm.MethodName)) ∈ lw_all := lw_g (lw_at lw_m8 207 rfl) rfl
theorem q2017 : (Jvm.Cond.codeWith ({ cls := "BatchRenamerLaw", name := "takeBack", desc := "(LBatchRenamer;[J)I" } : Jvm.MethodName) method_25_code (3 : Nat) (Option.some Jvm.ClassFile.FieldType.int) [((0 : Nat), (8 : Nat), (11 : Nat), (13 : Nat))]) ∈ lw_all := lw_g (lw_at lw_m8 208 rfl) rfl
theorem q2018 : (Jvm.Cond.methodLink "BatchRenamerLaw" (89 : Nat) ({ cls := "BatchRenamer", name := "takeBack", desc := "()I" } : Jvm.MethodName)) ∈ lw_all := lw_g (lw_at lw_m8 209 rfl) rfl
theorem q2050 : (Jvm.Cond.methodLink "BatchRenamerLaw" (270 : Nat) ({ cls := "BatchRenamerLaw", name := "addFile", desc := "(LBatchRenamer;[J)I" } : Jvm.MethodName)) ∈ lw_all := lw_g (lw_at lw_m9 1 rfl) rfl
theorem q2051 : (Jvm.Cond.static ({ cls := "BatchRenamerLaw", name := "addFile", desc := "(LBatchRenamer;[J)I" } : Jvm.MethodName)) ∈ lw_all := lw_g (lw_at lw_m9 2 rfl) rfl
theorem q2052 : (Jvm.Cond.codeWith ({ cls := "BatchRenamerLaw", name := "addFile", desc := "(LBatchRenamer;[J)I" } : Jvm.MethodName) method_26_code (3 : Nat) (Option.some Jvm.ClassFile.FieldType.int) [((0 : Nat), (8 : Nat), (11 : Nat), (19 : Nat)), ((0 : Nat), (8 : Nat), (14 : Nat), (13 : Nat))]) ∈ lw_all := lw_g (lw_at lw_m9 3 rfl) rfl
theorem q2053 : (Jvm.Cond.methodLink "BatchRenamerLaw" (92 : Nat) ({ cls := "BatchRenamer", name := "addFile", desc := "()I" } : Jvm.MethodName)) ∈ lw_all := lw_g (lw_at lw_m9 4 rfl) rfl
theorem q2068 : (Jvm.Cond.methodLink "BatchRenamerLaw" (273 : Nat) ({ cls := "BatchRenamerLaw", name := "removeFile", desc := "(LBatchRenamer;I[J)I" } : Jvm.MethodName)) ∈ lw_all := lw_g (lw_at lw_m9 19 rfl) rfl
theorem q2069 : (Jvm.Cond.static ({ cls := "BatchRenamerLaw", name := "removeFile", desc := "(LBatchRenamer;I[J)I" } : Jvm.MethodName)) ∈ lw_all := lw_g (lw_at lw_m9 20 rfl) rfl
theorem q2070 : (Jvm.Cond.codeWith ({ cls := "BatchRenamerLaw", name := "removeFile", desc := "(LBatchRenamer;I[J)I" } : Jvm.MethodName) method_27_code (4 : Nat) (Option.some Jvm.ClassFile.FieldType.int) [((0 : Nat), (9 : Nat), (12 : Nat), (29 : Nat))]) ∈ lw_all := lw_g (lw_at lw_m9 21 rfl) rfl
theorem q2071 : (Jvm.Cond.methodLink "BatchRenamerLaw" (95 : Nat) ({ cls := "BatchRenamer", name := "removeFile", desc := "(I)I" } : Jvm.MethodName)) ∈ lw_all := lw_g (lw_at lw_m9 22 rfl) rfl
theorem q2075 : (Jvm.Cond.methodLink "BatchRenamerLaw" (276 : Nat) ({ cls := "BatchRenamerLaw", name := "moveFile", desc := "(LBatchRenamer;II[J)I" } : Jvm.MethodName)) ∈ lw_all := lw_g (lw_at lw_m9 26 rfl) rfl
theorem q2076 : (Jvm.Cond.static ({ cls := "BatchRenamerLaw", name := "moveFile", desc := "(LBatchRenamer;II[J)I" } : Jvm.MethodName)) ∈ lw_all := lw_g (lw_at lw_m9 27 rfl) rfl
theorem q2077 : (Jvm.Cond.codeWith ({ cls := "BatchRenamerLaw", name := "moveFile", desc := "(LBatchRenamer;II[J)I" } : Jvm.MethodName) method_28_code (5 : Nat) (Option.some Jvm.ClassFile.FieldType.int) [((0 : Nat), (10 : Nat), (13 : Nat), (29 : Nat)), ((0 : Nat), (10 : Nat), (17 : Nat), (19 : Nat))]) ∈ lw_all := lw_g (lw_at lw_m9 28 rfl) rfl
theorem q2078 : (Jvm.Cond.methodLink "BatchRenamerLaw" (98 : Nat) ({ cls := "BatchRenamer", name := "moveFile", desc := "(II)I" } : Jvm.MethodName)) ∈ lw_all := lw_g (lw_at lw_m9 29 rfl) rfl
theorem q2082 : (Jvm.Cond.methodLink "BatchRenamerLaw" (279 : Nat) ({ cls := "BatchRenamerLaw", name := "rename", desc := "(LBatchRenamer;I[J)I" } : Jvm.MethodName)) ∈ lw_all := lw_g (lw_at lw_m9 33 rfl) rfl
theorem q2083 : (Jvm.Cond.static ({ cls := "BatchRenamerLaw", name := "rename", desc := "(LBatchRenamer;I[J)I" } : Jvm.MethodName)) ∈ lw_all := lw_g (lw_at lw_m9 34 rfl) rfl
theorem q2084 : (Jvm.Cond.codeWith ({ cls := "BatchRenamerLaw", name := "rename", desc := "(LBatchRenamer;I[J)I" } : Jvm.MethodName) method_29_code (4 : Nat) (Option.some Jvm.ClassFile.FieldType.int) [((0 : Nat), (9 : Nat), (12 : Nat), (29 : Nat)), ((0 : Nat), (9 : Nat), (15 : Nat), (19 : Nat))]) ∈ lw_all := lw_g (lw_at lw_m9 35 rfl) rfl
theorem q2085 : (Jvm.Cond.methodLink "BatchRenamerLaw" (101 : Nat) ({ cls := "BatchRenamer", name := "rename", desc := "(I)I" } : Jvm.MethodName)) ∈ lw_all := lw_g (lw_at lw_m9 36 rfl) rfl
theorem q2089 : (Jvm.Cond.methodLink "BatchRenamerLaw" (282 : Nat) ({ cls := "BatchRenamerLaw", name := "keep", desc := "(LBatchRenamer;IZ[J)I" } : Jvm.MethodName)) ∈ lw_all := lw_g (lw_at lw_m9 40 rfl) rfl
theorem q2090 : (Jvm.Cond.static ({ cls := "BatchRenamerLaw", name := "keep", desc := "(LBatchRenamer;IZ[J)I" } : Jvm.MethodName)) ∈ lw_all := lw_g (lw_at lw_m9 41 rfl) rfl
theorem q2091 : (Jvm.Cond.codeWith ({ cls := "BatchRenamerLaw", name := "keep", desc := "(LBatchRenamer;IZ[J)I" } : Jvm.MethodName) method_30_code (5 : Nat) (Option.some Jvm.ClassFile.FieldType.int) [((0 : Nat), (17 : Nat), (20 : Nat), (29 : Nat))]) ∈ lw_all := lw_g (lw_at lw_m9 42 rfl) rfl
theorem q2092 : (Jvm.Cond.methodLink "BatchRenamerLaw" (104 : Nat) ({ cls := "BatchRenamer", name := "keep", desc := "(IZ)Z" } : Jvm.MethodName)) ∈ lw_all := lw_g (lw_at lw_m9 43 rfl) rfl
theorem q2096 : (Jvm.Cond.methodLink "BatchRenamerLaw" (286 : Nat) ({ cls := "BatchRenamerLaw", name := "addRule", desc := "(LBatchRenamer;[J)I" } : Jvm.MethodName)) ∈ lw_all := lw_g (lw_at lw_m9 47 rfl) rfl
theorem q2097 : (Jvm.Cond.static ({ cls := "BatchRenamerLaw", name := "addRule", desc := "(LBatchRenamer;[J)I" } : Jvm.MethodName)) ∈ lw_all := lw_g (lw_at lw_m9 48 rfl) rfl
theorem q2098 : (Jvm.Cond.codeWith ({ cls := "BatchRenamerLaw", name := "addRule", desc := "(LBatchRenamer;[J)I" } : Jvm.MethodName) method_31_code (3 : Nat) (Option.some Jvm.ClassFile.FieldType.int) [((0 : Nat), (8 : Nat), (11 : Nat), (19 : Nat)), ((0 : Nat), (8 : Nat), (14 : Nat), (13 : Nat))]) ∈ lw_all := lw_g (lw_at lw_m9 49 rfl) rfl
theorem q2099 : (Jvm.Cond.methodLink "BatchRenamerLaw" (108 : Nat) ({ cls := "BatchRenamer", name := "addRule", desc := "()I" } : Jvm.MethodName)) ∈ lw_all := lw_g (lw_at lw_m9 50 rfl) rfl
theorem q2107 : (Jvm.Cond.methodLink "BatchRenamerLaw" (289 : Nat) ({ cls := "BatchRenamerLaw", name := "removeRule", desc := "(LBatchRenamer;I[J)I" } : Jvm.MethodName)) ∈ lw_all := lw_g (lw_at lw_m9 58 rfl) rfl
theorem q2108 : (Jvm.Cond.static ({ cls := "BatchRenamerLaw", name := "removeRule", desc := "(LBatchRenamer;I[J)I" } : Jvm.MethodName)) ∈ lw_all := lw_g (lw_at lw_m9 59 rfl) rfl
theorem q2109 : (Jvm.Cond.codeWith ({ cls := "BatchRenamerLaw", name := "removeRule", desc := "(LBatchRenamer;I[J)I" } : Jvm.MethodName) method_32_code (4 : Nat) (Option.some Jvm.ClassFile.FieldType.int) [((0 : Nat), (9 : Nat), (12 : Nat), (29 : Nat))]) ∈ lw_all := lw_g (lw_at lw_m9 60 rfl) rfl
theorem q2110 : (Jvm.Cond.methodLink "BatchRenamerLaw" (111 : Nat) ({ cls := "BatchRenamer", name := "removeRule", desc := "(I)I" } : Jvm.MethodName)) ∈ lw_all := lw_g (lw_at lw_m9 61 rfl) rfl
theorem q2114 : (Jvm.Cond.methodLink "BatchRenamerLaw" (292 : Nat) ({ cls := "BatchRenamerLaw", name := "moveRule", desc := "(LBatchRenamer;II[J)I" } : Jvm.MethodName)) ∈ lw_all := lw_g (lw_at lw_m9 65 rfl) rfl
theorem q2115 : (Jvm.Cond.static ({ cls := "BatchRenamerLaw", name := "moveRule", desc := "(LBatchRenamer;II[J)I" } : Jvm.MethodName)) ∈ lw_all := lw_g (lw_at lw_m9 66 rfl) rfl
theorem q2116 : (Jvm.Cond.codeWith ({ cls := "BatchRenamerLaw", name := "moveRule", desc := "(LBatchRenamer;II[J)I" } : Jvm.MethodName) method_33_code (5 : Nat) (Option.some Jvm.ClassFile.FieldType.int) [((0 : Nat), (10 : Nat), (13 : Nat), (29 : Nat)), ((0 : Nat), (10 : Nat), (17 : Nat), (19 : Nat))]) ∈ lw_all := lw_g (lw_at lw_m9 67 rfl) rfl
theorem q2117 : (Jvm.Cond.methodLink "BatchRenamerLaw" (114 : Nat) ({ cls := "BatchRenamer", name := "moveRule", desc := "(II)I" } : Jvm.MethodName)) ∈ lw_all := lw_g (lw_at lw_m9 68 rfl) rfl
theorem q2122 : (Jvm.Cond.methodLink "BatchRenamerLaw" (295 : Nat) ({ cls := "BatchRenamerLaw", name := "setCount", desc := "(LBatchRenamer;III[J)I" } : Jvm.MethodName)) ∈ lw_all := lw_g (lw_at lw_m9 73 rfl) rfl
theorem q2123 : (Jvm.Cond.static ({ cls := "BatchRenamerLaw", name := "setCount", desc := "(LBatchRenamer;III[J)I" } : Jvm.MethodName)) ∈ lw_all := lw_g (lw_at lw_m9 74 rfl) rfl
theorem q2124 : (Jvm.Cond.codeWith ({ cls := "BatchRenamerLaw", name := "setCount", desc := "(LBatchRenamer;III[J)I" } : Jvm.MethodName) method_34_code (6 : Nat) (Option.some Jvm.ClassFile.FieldType.int) [((0 : Nat), (12 : Nat), (15 : Nat), (19 : Nat))]) ∈ lw_all := lw_g (lw_at lw_m9 75 rfl) rfl
theorem q2125 : (Jvm.Cond.methodLink "BatchRenamerLaw" (117 : Nat) ({ cls := "BatchRenamer", name := "setCount", desc := "(III)I" } : Jvm.MethodName)) ∈ lw_all := lw_g (lw_at lw_m9 76 rfl) rfl
theorem q2132 : (Jvm.Cond.methodLink "BatchRenamerLaw" (299 : Nat) ({ cls := "BatchRenamerLaw", name := "undo", desc := "(LBatchRenamer;[J)I" } : Jvm.MethodName)) ∈ lw_all := lw_g (lw_at lw_m9 83 rfl) rfl
theorem q2133 : (Jvm.Cond.static ({ cls := "BatchRenamerLaw", name := "undo", desc := "(LBatchRenamer;[J)I" } : Jvm.MethodName)) ∈ lw_all := lw_g (lw_at lw_m9 84 rfl) rfl
theorem q2134 : (Jvm.Cond.codeWith ({ cls := "BatchRenamerLaw", name := "undo", desc := "(LBatchRenamer;[J)I" } : Jvm.MethodName) method_35_code (3 : Nat) (Option.some Jvm.ClassFile.FieldType.int) [((0 : Nat), (8 : Nat), (11 : Nat), (13 : Nat))]) ∈ lw_all := lw_g (lw_at lw_m9 85 rfl) rfl
theorem q2135 : (Jvm.Cond.methodLink "BatchRenamerLaw" (121 : Nat) ({ cls := "BatchRenamer", name := "undo", desc := "()I" } : Jvm.MethodName)) ∈ lw_all := lw_g (lw_at lw_m9 86 rfl) rfl
theorem q2139 : (Jvm.Cond.methodLink "BatchRenamerLaw" (302 : Nat) ({ cls := "BatchRenamerLaw", name := "formatName", desc := "(LBatchRenamer;I[J)I" } : Jvm.MethodName)) ∈ lw_all := lw_g (lw_at lw_m9 90 rfl) rfl
theorem q2140 : (Jvm.Cond.static ({ cls := "BatchRenamerLaw", name := "formatName", desc := "(LBatchRenamer;I[J)I" } : Jvm.MethodName)) ∈ lw_all := lw_g (lw_at lw_m9 91 rfl) rfl
theorem q2141 : (Jvm.Cond.codeWith ({ cls := "BatchRenamerLaw", name := "formatName", desc := "(LBatchRenamer;I[J)I" } : Jvm.MethodName) method_36_code (4 : Nat) (Option.some Jvm.ClassFile.FieldType.int) [((0 : Nat), (9 : Nat), (12 : Nat), (29 : Nat))]) ∈ lw_all := lw_g (lw_at lw_m9 92 rfl) rfl
theorem q2142 : (Jvm.Cond.methodLink "BatchRenamerLaw" (124 : Nat) ({ cls := "BatchRenamer", name := "formatName", desc := "(I)I" } : Jvm.MethodName)) ∈ lw_all := lw_g (lw_at lw_m9 93 rfl) rfl
theorem q2153 : (Jvm.Cond.methodLink "BatchRenamerLaw" (305 : Nat) ({ cls := "BatchRenamerLaw", name := "formatNew", desc := "(LBatchRenamer;I[J)I" } : Jvm.MethodName)) ∈ lw_all := lw_g (lw_at lw_m9 104 rfl) rfl
theorem q2154 : (Jvm.Cond.static ({ cls := "BatchRenamerLaw", name := "formatNew", desc := "(LBatchRenamer;I[J)I" } : Jvm.MethodName)) ∈ lw_all := lw_g (lw_at lw_m9 105 rfl) rfl
theorem q2155 : (Jvm.Cond.codeWith ({ cls := "BatchRenamerLaw", name := "formatNew", desc := "(LBatchRenamer;I[J)I" } : Jvm.MethodName) method_37_code (4 : Nat) (Option.some Jvm.ClassFile.FieldType.int) [((0 : Nat), (9 : Nat), (12 : Nat), (29 : Nat))]) ∈ lw_all := lw_g (lw_at lw_m9 106 rfl) rfl
theorem q2156 : (Jvm.Cond.methodLink "BatchRenamerLaw" (127 : Nat) ({ cls := "BatchRenamer", name := "formatNew", desc := "(I)I" } : Jvm.MethodName)) ∈ lw_all := lw_g (lw_at lw_m9 107 rfl) rfl
theorem q2161 : (Jvm.Cond.methodLink "BatchRenamerLaw" (308 : Nat) ({ cls := "BatchRenamerLaw", name := "formatStep", desc := "(LBatchRenamer;I[J)I" } : Jvm.MethodName)) ∈ lw_all := lw_g (lw_at lw_m9 112 rfl) rfl
theorem q2162 : (Jvm.Cond.static ({ cls := "BatchRenamerLaw", name := "formatStep", desc := "(LBatchRenamer;I[J)I" } : Jvm.MethodName)) ∈ lw_all := lw_g (lw_at lw_m9 113 rfl) rfl
theorem q2163 : (Jvm.Cond.codeWith ({ cls := "BatchRenamerLaw", name := "formatStep", desc := "(LBatchRenamer;I[J)I" } : Jvm.MethodName) method_38_code (4 : Nat) (Option.some Jvm.ClassFile.FieldType.int) [((0 : Nat), (9 : Nat), (12 : Nat), (29 : Nat))]) ∈ lw_all := lw_g (lw_at lw_m9 114 rfl) rfl
theorem q2164 : (Jvm.Cond.methodLink "BatchRenamerLaw" (130 : Nat) ({ cls := "BatchRenamer", name := "formatStep", desc := "(I)I" } : Jvm.MethodName)) ∈ lw_all := lw_g (lw_at lw_m9 115 rfl) rfl
theorem q2169 : (Jvm.Cond.methodLink "BatchRenamerLaw" (311 : Nat) ({ cls := "BatchRenamerLaw", name := "formattedCharacter", desc := "(LBatchRenamer;I[J)I" } : Jvm.MethodName)) ∈ lw_all := lw_g (lw_at lw_m9 120 rfl) rfl
theorem q2170 : (Jvm.Cond.static ({ cls := "BatchRenamerLaw", name := "formattedCharacter", desc := "(LBatchRenamer;I[J)I" } : Jvm.MethodName)) ∈ lw_all := lw_g (lw_at lw_m9 121 rfl) rfl
theorem q2171 : (Jvm.Cond.codeWith ({ cls := "BatchRenamerLaw", name := "formattedCharacter", desc := "(LBatchRenamer;I[J)I" } : Jvm.MethodName) method_39_code (4 : Nat) (Option.some Jvm.ClassFile.FieldType.int) [((0 : Nat), (9 : Nat), (12 : Nat), (29 : Nat))]) ∈ lw_all := lw_g (lw_at lw_m9 122 rfl) rfl
theorem q2172 : (Jvm.Cond.methodLink "BatchRenamerLaw" (133 : Nat) ({ cls := "BatchRenamer", name := "formattedCharacter", desc := "(I)C" } : Jvm.MethodName)) ∈ lw_all := lw_g (lw_at lw_m9 123 rfl) rfl
theorem q2186 : (Jvm.Cond.classLink "BatchRenamerLaw" (138 : Nat) "BatchRenamerModel") ∈ lw_all := lw_g (lw_at lw_m9 137 rfl) rfl
theorem q2188 : (Jvm.Cond.methodLink "BatchRenamerLaw" (140 : Nat) ({ cls := "BatchRenamerModel", name := "<init>", desc := "()V" } : Jvm.MethodName)) ∈ lw_all := lw_g (lw_at lw_m9 139 rfl) rfl
theorem q2311 : (Jvm.Cond.methodLink "BatchRenamerLaw" (147 : Nat) ({ cls := "BatchRenamerModel", name := "thrown", desc := "()I" } : Jvm.MethodName)) ∈ lw_all := lw_g (lw_at lw_m10 22 rfl) rfl
theorem q2315 : (Jvm.Cond.methodLink "BatchRenamerLaw" (146 : Nat) ({ cls := "BatchRenamerModel", name := "append", desc := "(IIIII)I" } : Jvm.MethodName)) ∈ lw_all := lw_g (lw_at lw_m10 26 rfl) rfl
theorem q2327 : (Jvm.Cond.methodLink "BatchRenamerLaw" (153 : Nat) ({ cls := "BatchRenamerModel", name := "truncate", desc := "(I)V" } : Jvm.MethodName)) ∈ lw_all := lw_g (lw_at lw_m10 38 rfl) rfl
theorem q2334 : (Jvm.Cond.methodLink "BatchRenamerLaw" (157 : Nat) ({ cls := "BatchRenamerModel", name := "load", desc := "()I" } : Jvm.MethodName)) ∈ lw_all := lw_g (lw_at lw_m10 45 rfl) rfl
theorem q2489 : (Jvm.Cond.methodLink "BatchRenamerLaw" (161 : Nat) ({ cls := "BatchRenamerModel", name := "errorOffset", desc := "()I" } : Jvm.MethodName)) ∈ lw_all := lw_g (lw_at lw_m10 200 rfl) rfl
theorem q2493 : (Jvm.Cond.methodLink "BatchRenamerLaw" (165 : Nat) ({ cls := "BatchRenamerModel", name := "files", desc := "()I" } : Jvm.MethodName)) ∈ lw_all := lw_g (lw_at lw_m10 204 rfl) rfl
theorem q2497 : (Jvm.Cond.methodLink "BatchRenamerLaw" (169 : Nat) ({ cls := "BatchRenamerModel", name := "rules", desc := "()I" } : Jvm.MethodName)) ∈ lw_all := lw_g (lw_at lw_m10 208 rfl) rfl
theorem q2501 : (Jvm.Cond.methodLink "BatchRenamerLaw" (173 : Nat) ({ cls := "BatchRenamerModel", name := "isKept", desc := "(I)Z" } : Jvm.MethodName)) ∈ lw_all := lw_g (lw_at lw_m10 212 rfl) rfl
theorem q2509 : (Jvm.Cond.methodLink "BatchRenamerLaw" (176 : Nat) ({ cls := "BatchRenamerModel", name := "length", desc := "(I)I" } : Jvm.MethodName)) ∈ lw_all := lw_g (lw_at lw_m10 220 rfl) rfl
theorem q2524 : (Jvm.Cond.methodLink "BatchRenamerLaw" (179 : Nat) ({ cls := "BatchRenamerModel", name := "rank", desc := "(I)I" } : Jvm.MethodName)) ∈ lw_all := lw_g (lw_at lw_m10 235 rfl) rfl
theorem q2528 : (Jvm.Cond.methodLink "BatchRenamerLaw" (182 : Nat) ({ cls := "BatchRenamerModel", name := "counting", desc := "(I)I" } : Jvm.MethodName)) ∈ lw_all := lw_g (lw_at lw_m10 239 rfl) rfl
theorem q2532 : (Jvm.Cond.methodLink "BatchRenamerLaw" (185 : Nat) ({ cls := "BatchRenamerModel", name := "wildcards", desc := "(I)I" } : Jvm.MethodName)) ∈ lw_all := lw_g (lw_at lw_m11 3 rfl) rfl
theorem q2548 : (Jvm.Cond.methodLink "BatchRenamerLaw" (189 : Nat) ({ cls := "BatchRenamerModel", name := "matches", desc := "(II)Z" } : Jvm.MethodName)) ∈ lw_all := lw_g (lw_at lw_m11 19 rfl) rfl
theorem q2564 : (Jvm.Cond.methodLink "BatchRenamerLaw" (193 : Nat) ({ cls := "BatchRenamerModel", name := "capture", desc := "(IIII)I" } : Jvm.MethodName)) ∈ lw_all := lw_g (lw_at lw_m11 35 rfl) rfl
theorem q2568 : (Jvm.Cond.methodLink "BatchRenamerLaw" (196 : Nat) ({ cls := "BatchRenamerModel", name := "ruleOf", desc := "(I)I" } : Jvm.MethodName)) ∈ lw_all := lw_g (lw_at lw_m11 39 rfl) rfl
theorem q2632 : (Jvm.Cond.methodLink "BatchRenamerLaw" (199 : Nat) ({ cls := "BatchRenamerModel", name := "filesOf", desc := "(I)I" } : Jvm.MethodName)) ∈ lw_all := lw_g (lw_at lw_m11 103 rfl) rfl
theorem q2640 : (Jvm.Cond.methodLink "BatchRenamerLaw" (202 : Nat) ({ cls := "BatchRenamerModel", name := "groups", desc := "(I)I" } : Jvm.MethodName)) ∈ lw_all := lw_g (lw_at lw_m11 111 rfl) rfl
theorem q2644 : (Jvm.Cond.methodLink "BatchRenamerLaw" (205 : Nat) ({ cls := "BatchRenamerModel", name := "counter", desc := "(I)I" } : Jvm.MethodName)) ∈ lw_all := lw_g (lw_at lw_m11 115 rfl) rfl
theorem q2648 : (Jvm.Cond.methodLink "BatchRenamerLaw" (208 : Nat) ({ cls := "BatchRenamerModel", name := "status", desc := "(I)I" } : Jvm.MethodName)) ∈ lw_all := lw_g (lw_at lw_m11 119 rfl) rfl
theorem q2652 : (Jvm.Cond.methodLink "BatchRenamerLaw" (211 : Nat) ({ cls := "BatchRenamerModel", name := "newLength", desc := "(I)I" } : Jvm.MethodName)) ∈ lw_all := lw_g (lw_at lw_m11 123 rfl) rfl
theorem q2656 : (Jvm.Cond.methodLink "BatchRenamerLaw" (215 : Nat) ({ cls := "BatchRenamerModel", name := "withStatus", desc := "(I)I" } : Jvm.MethodName)) ∈ lw_all := lw_g (lw_at lw_m11 127 rfl) rfl
theorem q2660 : (Jvm.Cond.methodLink "BatchRenamerLaw" (218 : Nat) ({ cls := "BatchRenamerModel", name := "owner", desc := "(I)I" } : Jvm.MethodName)) ∈ lw_all := lw_g (lw_at lw_m11 131 rfl) rfl
theorem q2664 : (Jvm.Cond.methodLink "BatchRenamerLaw" (221 : Nat) ({ cls := "BatchRenamerModel", name := "rival", desc := "(I)I" } : Jvm.MethodName)) ∈ lw_all := lw_g (lw_at lw_m11 135 rfl) rfl
theorem q2668 : (Jvm.Cond.methodLink "BatchRenamerLaw" (225 : Nat) ({ cls := "BatchRenamerModel", name := "rounds", desc := "()I" } : Jvm.MethodName)) ∈ lw_all := lw_g (lw_at lw_m11 139 rfl) rfl
theorem q2672 : (Jvm.Cond.methodLink "BatchRenamerLaw" (229 : Nat) ({ cls := "BatchRenamerModel", name := "steps", desc := "()I" } : Jvm.MethodName)) ∈ lw_all := lw_g (lw_at lw_m11 143 rfl) rfl
theorem q2704 : (Jvm.Cond.methodLink "BatchRenamerLaw" (232 : Nat) ({ cls := "BatchRenamerModel", name := "step", desc := "(II)I" } : Jvm.MethodName)) ∈ lw_all := lw_g (lw_at lw_m11 175 rfl) rfl
theorem q2708 : (Jvm.Cond.methodLink "BatchRenamerLaw" (236 : Nat) ({ cls := "BatchRenamerModel", name := "spares", desc := "()I" } : Jvm.MethodName)) ∈ lw_all := lw_g (lw_at lw_m11 179 rfl) rfl
theorem q2712 : (Jvm.Cond.methodLink "BatchRenamerLaw" (240 : Nat) ({ cls := "BatchRenamerModel", name := "longestCycle", desc := "()I" } : Jvm.MethodName)) ∈ lw_all := lw_g (lw_at lw_m11 183 rfl) rfl
theorem q2724 : (Jvm.Cond.methodLink "BatchRenamerLaw" (244 : Nat) ({ cls := "BatchRenamerModel", name := "performed", desc := "()I" } : Jvm.MethodName)) ∈ lw_all := lw_g (lw_at lw_m11 195 rfl) rfl
theorem q2728 : (Jvm.Cond.methodLink "BatchRenamerLaw" (247 : Nat) ({ cls := "BatchRenamerModel", name := "renamedWithout", desc := "(I)I" } : Jvm.MethodName)) ∈ lw_all := lw_g (lw_at lw_m11 199 rfl) rfl
theorem q2752 : (Jvm.Cond.methodLink "BatchRenamerLaw" (250 : Nat) ({ cls := "BatchRenamerModel", name := "bestStart", desc := "(I)I" } : Jvm.MethodName)) ∈ lw_all := lw_g (lw_at lw_m11 223 rfl) rfl
theorem q2756 : (Jvm.Cond.methodLink "BatchRenamerLaw" (253 : Nat) ({ cls := "BatchRenamerModel", name := "bestPlace", desc := "(I)I" } : Jvm.MethodName)) ∈ lw_all := lw_g (lw_at lw_m11 227 rfl) rfl
theorem q2760 : (Jvm.Cond.methodLink "BatchRenamerLaw" (257 : Nat) ({ cls := "BatchRenamerModel", name := "stepsAgain", desc := "()I" } : Jvm.MethodName)) ∈ lw_all := lw_g (lw_at lw_m11 231 rfl) rfl
theorem q2768 : (Jvm.Cond.methodLink "BatchRenamerLaw" (262 : Nat) ({ cls := "BatchRenamerModel", name := "meanLength", desc := "()D" } : Jvm.MethodName)) ∈ lw_all := lw_g (lw_at lw_m11 239 rfl) rfl
theorem q2772 : (Jvm.Cond.methodLink "BatchRenamerLaw" (301 : Nat) ({ cls := "BatchRenamerModel", name := "undo", desc := "()I" } : Jvm.MethodName)) ∈ lw_all := lw_g (lw_at lw_m12 3 rfl) rfl
theorem q2780 : (Jvm.Cond.methodLink "BatchRenamerLaw" (266 : Nat) ({ cls := "BatchRenamerModel", name := "perform", desc := "()I" } : Jvm.MethodName)) ∈ lw_all := lw_g (lw_at lw_m12 11 rfl) rfl
theorem q2801 : (Jvm.Cond.methodLink "BatchRenamerLaw" (269 : Nat) ({ cls := "BatchRenamerModel", name := "takeBack", desc := "()I" } : Jvm.MethodName)) ∈ lw_all := lw_g (lw_at lw_m12 32 rfl) rfl
theorem q2817 : (Jvm.Cond.methodLink "BatchRenamerLaw" (272 : Nat) ({ cls := "BatchRenamerModel", name := "addFile", desc := "()I" } : Jvm.MethodName)) ∈ lw_all := lw_g (lw_at lw_m12 48 rfl) rfl
theorem q2825 : (Jvm.Cond.methodLink "BatchRenamerLaw" (275 : Nat) ({ cls := "BatchRenamerModel", name := "removeFile", desc := "(I)I" } : Jvm.MethodName)) ∈ lw_all := lw_g (lw_at lw_m12 56 rfl) rfl
theorem q2829 : (Jvm.Cond.methodLink "BatchRenamerLaw" (278 : Nat) ({ cls := "BatchRenamerModel", name := "moveFile", desc := "(II)I" } : Jvm.MethodName)) ∈ lw_all := lw_g (lw_at lw_m12 60 rfl) rfl
theorem q2833 : (Jvm.Cond.methodLink "BatchRenamerLaw" (281 : Nat) ({ cls := "BatchRenamerModel", name := "rename", desc := "(I)I" } : Jvm.MethodName)) ∈ lw_all := lw_g (lw_at lw_m12 64 rfl) rfl
theorem q2837 : (Jvm.Cond.methodLink "BatchRenamerLaw" (285 : Nat) ({ cls := "BatchRenamerModel", name := "keep", desc := "(IZ)Z" } : Jvm.MethodName)) ∈ lw_all := lw_g (lw_at lw_m12 68 rfl) rfl
theorem q2841 : (Jvm.Cond.methodLink "BatchRenamerLaw" (288 : Nat) ({ cls := "BatchRenamerModel", name := "addRule", desc := "()I" } : Jvm.MethodName)) ∈ lw_all := lw_g (lw_at lw_m12 72 rfl) rfl
theorem q2846 : (Jvm.Cond.methodLink "BatchRenamerLaw" (291 : Nat) ({ cls := "BatchRenamerModel", name := "removeRule", desc := "(I)I" } : Jvm.MethodName)) ∈ lw_all := lw_g (lw_at lw_m12 77 rfl) rfl
theorem q2850 : (Jvm.Cond.methodLink "BatchRenamerLaw" (294 : Nat) ({ cls := "BatchRenamerModel", name := "moveRule", desc := "(II)I" } : Jvm.MethodName)) ∈ lw_all := lw_g (lw_at lw_m12 81 rfl) rfl
theorem q2854 : (Jvm.Cond.methodLink "BatchRenamerLaw" (298 : Nat) ({ cls := "BatchRenamerModel", name := "setCount", desc := "(III)I" } : Jvm.MethodName)) ∈ lw_all := lw_g (lw_at lw_m12 85 rfl) rfl
theorem q2858 : (Jvm.Cond.methodLink "BatchRenamerLaw" (304 : Nat) ({ cls := "BatchRenamerModel", name := "formatName", desc := "(I)I" } : Jvm.MethodName)) ∈ lw_all := lw_g (lw_at lw_m12 89 rfl) rfl
theorem q2870 : (Jvm.Cond.methodLink "BatchRenamerLaw" (307 : Nat) ({ cls := "BatchRenamerModel", name := "formatNew", desc := "(I)I" } : Jvm.MethodName)) ∈ lw_all := lw_g (lw_at lw_m12 101 rfl) rfl
theorem q2874 : (Jvm.Cond.methodLink "BatchRenamerLaw" (310 : Nat) ({ cls := "BatchRenamerModel", name := "formatStep", desc := "(I)I" } : Jvm.MethodName)) ∈ lw_all := lw_g (lw_at lw_m12 105 rfl) rfl
theorem q2878 : (Jvm.Cond.methodLink "BatchRenamerLaw" (313 : Nat) ({ cls := "BatchRenamerModel", name := "formattedCharacter", desc := "(I)C" } : Jvm.MethodName)) ∈ lw_all := lw_g (lw_at lw_m12 109 rfl) rfl

/-! BatchRenamer -/
def RX1 : String := "BatchRenamer"
def TX1 : u_T := fun k => match k with
  | 0 => ("BatchRenamer", "board", "LBatchRenamer$Board;", false)
  | 1 => ("BatchRenamer", "history", "LBatchRenamer$Journal;", true)
  | 2 => ("BatchRenamer", "buffer", "[B", true)
  | 3 => ("BatchRenamer", "length", "I", false)
  | 4 => ("BatchRenamer", "errorOffset", "I", false)
  | _ => ("BatchRenamer", "formatted", "Ljava/lang/StringBuilder;", true)
def tyX1 : Nat → FieldType := fun k => match k with
  | 0 => .object "BatchRenamer$Board"
  | 1 => .object "BatchRenamer$Journal"
  | 2 => .array .byte
  | 3 => .int
  | 4 => .int
  | _ => .object "java/lang/StringBuilder"
abbrev wsX10 : List Cond := u_ws RX1 TX1 6
theorem nmX1 : ∀ a, a < 6 → ∀ b, b < 6 → a ≠ b → (TX1 a).2.1 ≠ (TX1 b).2.1 := by decide +kernel
theorem tyX1_ok : ∀ k, k < 6 → parseFieldDescriptor (TX1 k).2.2.1 = some (tyX1 k) := by decide +kernel
abbrev cX1_init : ByteArray := prog_1_method_8_code
def yX1_init : MethodName := ⟨RX1, "<init>", "()V"⟩
def dkwX1_init_2 : List UInt8 := [89, 183, 0, 70, 181, 0, 71, 177]
abbrev dktX1_init_2 : List UInt8 := dkwX1_init_2 ++ []
def dkwX1_init_1 : List UInt8 := [183, 0, 53, 181, 0, 56, 42, 17, 2, 88, 188, 8, 181, 0, 60, 42, 2, 181, 0, 64, 42, 187, 0, 68]
abbrev dktX1_init_1 : List UInt8 := dkwX1_init_1 ++ dktX1_init_2
def dkwX1_init_0 : List UInt8 := [42, 183, 0, 41, 42, 187, 0, 44, 89, 183, 0, 46, 181, 0, 47, 42, 187, 0, 51, 89, 16, 10]
abbrev dktX1_init_0 : List UInt8 := dkwX1_init_0 ++ dktX1_init_1
theorem dksX1_init_0 : cX1_init.data.toList.drop 0 = dktX1_init_0 := by decide +kernel
theorem dksX1_init_1 : cX1_init.data.toList.drop 22 = dktX1_init_1 := dk_seg dksX1_init_0 22 rfl rfl
theorem dksX1_init_2 : cX1_init.data.toList.drop 46 = dktX1_init_2 := dk_seg dksX1_init_1 24 rfl rfl
theorem dX1_init_0 : decode cX1_init 0 = .ok (.aload_n 0, 1) := dk_42 (dk_at dksX1_init_0 0 rfl rfl)
theorem dX1_init_1 : decode cX1_init 1 = .ok (.invokespecial 41, 3) := dk_183 0 41 (dk_at dksX1_init_0 1 rfl rfl)
theorem dX1_init_4 : decode cX1_init 4 = .ok (.aload_n 0, 1) := dk_42 (dk_at dksX1_init_0 4 rfl rfl)
theorem dX1_init_5 : decode cX1_init 5 = .ok (.new 44, 3) := dk_187 0 44 (dk_at dksX1_init_0 5 rfl rfl)
theorem dX1_init_8 : decode cX1_init 8 = .ok (.dup, 1) := dk_89 (dk_at dksX1_init_0 8 rfl rfl)
theorem dX1_init_9 : decode cX1_init 9 = .ok (.invokespecial 46, 3) := dk_183 0 46 (dk_at dksX1_init_0 9 rfl rfl)
theorem dX1_init_12 : decode cX1_init 12 = .ok (.putfield 47, 3) := dk_181 0 47 (dk_at dksX1_init_0 12 rfl rfl)
theorem dX1_init_15 : decode cX1_init 15 = .ok (.aload_n 0, 1) := dk_42 (dk_at dksX1_init_0 15 rfl rfl)
theorem dX1_init_16 : decode cX1_init 16 = .ok (.new 51, 3) := dk_187 0 51 (dk_at dksX1_init_0 16 rfl rfl)
theorem dX1_init_19 : decode cX1_init 19 = .ok (.dup, 1) := dk_89 (dk_at dksX1_init_0 19 rfl rfl)
theorem dX1_init_20 : decode cX1_init 20 = .ok (.bipush 10, 2) := dk_16 10 (dk_at dksX1_init_0 20 rfl rfl)
theorem dX1_init_22 : decode cX1_init 22 = .ok (.invokespecial 53, 3) := dk_183 0 53 (dk_at dksX1_init_1 0 rfl rfl)
theorem dX1_init_25 : decode cX1_init 25 = .ok (.putfield 56, 3) := dk_181 0 56 (dk_at dksX1_init_1 3 rfl rfl)
theorem dX1_init_28 : decode cX1_init 28 = .ok (.aload_n 0, 1) := dk_42 (dk_at dksX1_init_1 6 rfl rfl)
theorem dX1_init_29 : decode cX1_init 29 = .ok (.sipush 600, 3) := dk_17 2 88 (dk_at dksX1_init_1 7 rfl rfl)
theorem dX1_init_32 : decode cX1_init 32 = .ok (.newarray .byte, 2) := dk_188_8 (dk_at dksX1_init_1 10 rfl rfl)
theorem dX1_init_34 : decode cX1_init 34 = .ok (.putfield 60, 3) := dk_181 0 60 (dk_at dksX1_init_1 12 rfl rfl)
theorem dX1_init_37 : decode cX1_init 37 = .ok (.aload_n 0, 1) := dk_42 (dk_at dksX1_init_1 15 rfl rfl)
theorem dX1_init_38 : decode cX1_init 38 = .ok (.iconst (-1), 1) := dk_2 (dk_at dksX1_init_1 16 rfl rfl)
theorem dX1_init_39 : decode cX1_init 39 = .ok (.putfield 64, 3) := dk_181 0 64 (dk_at dksX1_init_1 17 rfl rfl)
theorem dX1_init_42 : decode cX1_init 42 = .ok (.aload_n 0, 1) := dk_42 (dk_at dksX1_init_1 20 rfl rfl)
theorem dX1_init_43 : decode cX1_init 43 = .ok (.new 68, 3) := dk_187 0 68 (dk_at dksX1_init_1 21 rfl rfl)
theorem dX1_init_46 : decode cX1_init 46 = .ok (.dup, 1) := dk_89 (dk_at dksX1_init_2 0 rfl rfl)
theorem dX1_init_47 : decode cX1_init 47 = .ok (.invokespecial 70, 3) := dk_183 0 70 (dk_at dksX1_init_2 1 rfl rfl)
theorem dX1_init_50 : decode cX1_init 50 = .ok (.putfield 71, 3) := dk_181 0 71 (dk_at dksX1_init_2 4 rfl rfl)
theorem dX1_init_53 : decode cX1_init 53 = .ok (.return_, 1) := dk_177 (dk_at dksX1_init_2 7 rfl rfl)
abbrev cX1_errorOffset : ByteArray := prog_1_method_14_code
def yX1_errorOffset : MethodName := ⟨RX1, "errorOffset", "()I"⟩
theorem dX1_errorOffset_0 : decode cX1_errorOffset 0 = .ok (.aload_n 0, 1) := by decide +kernel
theorem dX1_errorOffset_1 : decode cX1_errorOffset 1 = .ok (.getfield 64, 3) := by decide +kernel
theorem dX1_errorOffset_4 : decode cX1_errorOffset 4 = .ok (.ireturn, 1) := by decide +kernel
abbrev cX1_files : ByteArray := prog_1_method_19_code
def yX1_files : MethodName := ⟨RX1, "files", "()I"⟩
def dkwX1_files_0 : List UInt8 := [42, 180, 0, 47, 180, 0, 115, 182, 0, 119, 172]
abbrev dktX1_files_0 : List UInt8 := dkwX1_files_0 ++ []
theorem dksX1_files_0 : cX1_files.data.toList.drop 0 = dktX1_files_0 := by decide +kernel
theorem dX1_files_0 : decode cX1_files 0 = .ok (.aload_n 0, 1) := dk_42 (dk_at dksX1_files_0 0 rfl rfl)
theorem dX1_files_1 : decode cX1_files 1 = .ok (.getfield 47, 3) := dk_180 0 47 (dk_at dksX1_files_0 1 rfl rfl)
theorem dX1_files_4 : decode cX1_files 4 = .ok (.getfield 115, 3) := dk_180 0 115 (dk_at dksX1_files_0 4 rfl rfl)
theorem dX1_files_7 : decode cX1_files 7 = .ok (.invokevirtual 119, 3) := dk_182 0 119 (dk_at dksX1_files_0 7 rfl rfl)
theorem dX1_files_10 : decode cX1_files 10 = .ok (.ireturn, 1) := dk_172 (dk_at dksX1_files_0 10 rfl rfl)
abbrev cX1_rules : ByteArray := prog_1_method_20_code
def yX1_rules : MethodName := ⟨RX1, "rules", "()I"⟩
def dkwX1_rules_0 : List UInt8 := [42, 180, 0, 47, 180, 0, 134, 182, 0, 119, 172]
abbrev dktX1_rules_0 : List UInt8 := dkwX1_rules_0 ++ []
theorem dksX1_rules_0 : cX1_rules.data.toList.drop 0 = dktX1_rules_0 := by decide +kernel
theorem dX1_rules_0 : decode cX1_rules 0 = .ok (.aload_n 0, 1) := dk_42 (dk_at dksX1_rules_0 0 rfl rfl)
theorem dX1_rules_1 : decode cX1_rules 1 = .ok (.getfield 47, 3) := dk_180 0 47 (dk_at dksX1_rules_0 1 rfl rfl)
theorem dX1_rules_4 : decode cX1_rules 4 = .ok (.getfield 134, 3) := dk_180 0 134 (dk_at dksX1_rules_0 4 rfl rfl)
theorem dX1_rules_7 : decode cX1_rules 7 = .ok (.invokevirtual 119, 3) := dk_182 0 119 (dk_at dksX1_rules_0 7 rfl rfl)
theorem dX1_rules_10 : decode cX1_rules 10 = .ok (.ireturn, 1) := dk_172 (dk_at dksX1_rules_0 10 rfl rfl)
abbrev cX1_withStatus : ByteArray := prog_1_method_36_code
def yX1_withStatus : MethodName := ⟨RX1, "withStatus", "(I)I"⟩
def dkwX1_withStatus_0 : List UInt8 := [42, 182, 0, 148, 77, 42, 44, 27, 186, 0, 242, 0, 0, 182, 0, 175, 172]
abbrev dktX1_withStatus_0 : List UInt8 := dkwX1_withStatus_0 ++ []
theorem dksX1_withStatus_0 : cX1_withStatus.data.toList.drop 0 = dktX1_withStatus_0 := by decide +kernel
theorem dX1_withStatus_0 : decode cX1_withStatus 0 = .ok (.aload_n 0, 1) := dk_42 (dk_at dksX1_withStatus_0 0 rfl rfl)
theorem dX1_withStatus_1 : decode cX1_withStatus 1 = .ok (.invokevirtual 148, 3) := dk_182 0 148 (dk_at dksX1_withStatus_0 1 rfl rfl)
theorem dX1_withStatus_4 : decode cX1_withStatus 4 = .ok (.astore_n 2, 1) := dk_77 (dk_at dksX1_withStatus_0 4 rfl rfl)
theorem dX1_withStatus_5 : decode cX1_withStatus 5 = .ok (.aload_n 0, 1) := dk_42 (dk_at dksX1_withStatus_0 5 rfl rfl)
theorem dX1_withStatus_6 : decode cX1_withStatus 6 = .ok (.aload_n 2, 1) := dk_44 (dk_at dksX1_withStatus_0 6 rfl rfl)
theorem dX1_withStatus_7 : decode cX1_withStatus 7 = .ok (.iload_n 1, 1) := dk_27 (dk_at dksX1_withStatus_0 7 rfl rfl)
theorem dX1_withStatus_8 : decode cX1_withStatus 8 = .ok (.invokedynamic 242, 5) := by decide +kernel
theorem dX1_withStatus_13 : decode cX1_withStatus 13 = .ok (.invokevirtual 175, 3) := dk_182 0 175 (dk_at dksX1_withStatus_0 13 rfl rfl)
theorem dX1_withStatus_16 : decode cX1_withStatus 16 = .ok (.ireturn, 1) := dk_172 (dk_at dksX1_withStatus_0 16 rfl rfl)
abbrev cX1_outlook : ByteArray := prog_1_method_17_code
def yX1_outlook : MethodName := ⟨RX1, "outlook", "()LBatchRenamer$Outlook;"⟩
def dkwX1_outlook_0 : List UInt8 := [187, 0, 139, 89, 42, 180, 0, 47, 183, 0, 141, 176]
abbrev dktX1_outlook_0 : List UInt8 := dkwX1_outlook_0 ++ []
theorem dksX1_outlook_0 : cX1_outlook.data.toList.drop 0 = dktX1_outlook_0 := by decide +kernel
theorem dX1_outlook_0 : decode cX1_outlook 0 = .ok (.new 139, 3) := dk_187 0 139 (dk_at dksX1_outlook_0 0 rfl rfl)
theorem dX1_outlook_3 : decode cX1_outlook 3 = .ok (.dup, 1) := dk_89 (dk_at dksX1_outlook_0 3 rfl rfl)
theorem dX1_outlook_4 : decode cX1_outlook 4 = .ok (.aload_n 0, 1) := dk_42 (dk_at dksX1_outlook_0 4 rfl rfl)
theorem dX1_outlook_5 : decode cX1_outlook 5 = .ok (.getfield 47, 3) := dk_180 0 47 (dk_at dksX1_outlook_0 5 rfl rfl)
theorem dX1_outlook_8 : decode cX1_outlook 8 = .ok (.invokespecial 141, 3) := dk_183 0 141 (dk_at dksX1_outlook_0 8 rfl rfl)
theorem dX1_outlook_11 : decode cX1_outlook 11 = .ok (.areturn, 1) := dk_176 (dk_at dksX1_outlook_0 11 rfl rfl)
abbrev cX1_lambda_withStatus_2 : ByteArray := prog_1_method_74_code
def yX1_lambda_withStatus_2 : MethodName := ⟨RX1, "lambda$withStatus$2", "(LBatchRenamer$Outlook;II)Z"⟩
def dkwX1_lambda_withStatus_2_0 : List UInt8 := [42, 180, 0, 235, 28, 46, 27, 160, 0, 7, 4, 167, 0, 4, 3, 172]
abbrev dktX1_lambda_withStatus_2_0 : List UInt8 := dkwX1_lambda_withStatus_2_0 ++ []
theorem dksX1_lambda_withStatus_2_0 : cX1_lambda_withStatus_2.data.toList.drop 0 = dktX1_lambda_withStatus_2_0 := by decide +kernel
theorem dX1_lambda_withStatus_2_0 : decode cX1_lambda_withStatus_2 0 = .ok (.aload_n 0, 1) := dk_42 (dk_at dksX1_lambda_withStatus_2_0 0 rfl rfl)
theorem dX1_lambda_withStatus_2_1 : decode cX1_lambda_withStatus_2 1 = .ok (.getfield 235, 3) := dk_180 0 235 (dk_at dksX1_lambda_withStatus_2_0 1 rfl rfl)
theorem dX1_lambda_withStatus_2_4 : decode cX1_lambda_withStatus_2 4 = .ok (.iload_n 2, 1) := dk_28 (dk_at dksX1_lambda_withStatus_2_0 4 rfl rfl)
theorem dX1_lambda_withStatus_2_5 : decode cX1_lambda_withStatus_2 5 = .ok (.iaload, 1) := dk_46 (dk_at dksX1_lambda_withStatus_2_0 5 rfl rfl)
theorem dX1_lambda_withStatus_2_6 : decode cX1_lambda_withStatus_2 6 = .ok (.iload_n 1, 1) := dk_27 (dk_at dksX1_lambda_withStatus_2_0 6 rfl rfl)
theorem dX1_lambda_withStatus_2_7 : decode cX1_lambda_withStatus_2 7 = .ok (.if_icmp .ne 7, 3) := dk_160 0 7 (dk_at dksX1_lambda_withStatus_2_0 7 rfl rfl)
theorem dX1_lambda_withStatus_2_10 : decode cX1_lambda_withStatus_2 10 = .ok (.iconst 1, 1) := dk_4 (dk_at dksX1_lambda_withStatus_2_0 10 rfl rfl)
theorem dX1_lambda_withStatus_2_11 : decode cX1_lambda_withStatus_2 11 = .ok (.goto 4, 3) := dk_167 0 4 (dk_at dksX1_lambda_withStatus_2_0 11 rfl rfl)
theorem dX1_lambda_withStatus_2_14 : decode cX1_lambda_withStatus_2 14 = .ok (.iconst 0, 1) := dk_3 (dk_at dksX1_lambda_withStatus_2_0 14 rfl rfl)
theorem dX1_lambda_withStatus_2_15 : decode cX1_lambda_withStatus_2 15 = .ok (.ireturn, 1) := dk_172 (dk_at dksX1_lambda_withStatus_2_0 15 rfl rfl)
abbrev cX1_bits : ByteArray := prog_1_method_23_code
def yX1_bits : MethodName := ⟨RX1, "bits", "(LBatchRenamer$Question;)I"⟩
def dkwX1_bits_2 : List UInt8 := [172]
abbrev dktX1_bits_2 : List UInt8 := dkwX1_bits_2 ++ []
def dkwX1_bits_1 : List UInt8 := [185, 0, 160, 2, 0, 153, 0, 9, 4, 29, 120, 167, 0, 4, 3, 128, 61, 132, 3, 1, 167, 255, 219, 28]
abbrev dktX1_bits_1 : List UInt8 := dkwX1_bits_1 ++ dktX1_bits_2
def dkwX1_bits_0 : List UInt8 := [3, 61, 3, 62, 29, 42, 180, 0, 47, 180, 0, 115, 182, 0, 119, 162, 0, 29, 28, 43, 29]
abbrev dktX1_bits_0 : List UInt8 := dkwX1_bits_0 ++ dktX1_bits_1
theorem dksX1_bits_0 : cX1_bits.data.toList.drop 0 = dktX1_bits_0 := by decide +kernel
theorem dksX1_bits_1 : cX1_bits.data.toList.drop 21 = dktX1_bits_1 := dk_seg dksX1_bits_0 21 rfl rfl
theorem dksX1_bits_2 : cX1_bits.data.toList.drop 45 = dktX1_bits_2 := dk_seg dksX1_bits_1 24 rfl rfl
theorem dX1_bits_0 : decode cX1_bits 0 = .ok (.iconst 0, 1) := dk_3 (dk_at dksX1_bits_0 0 rfl rfl)
theorem dX1_bits_1 : decode cX1_bits 1 = .ok (.istore_n 2, 1) := dk_61 (dk_at dksX1_bits_0 1 rfl rfl)
theorem dX1_bits_2 : decode cX1_bits 2 = .ok (.iconst 0, 1) := dk_3 (dk_at dksX1_bits_0 2 rfl rfl)
theorem dX1_bits_3 : decode cX1_bits 3 = .ok (.istore_n 3, 1) := dk_62 (dk_at dksX1_bits_0 3 rfl rfl)
theorem dX1_bits_4 : decode cX1_bits 4 = .ok (.iload_n 3, 1) := dk_29 (dk_at dksX1_bits_0 4 rfl rfl)
theorem dX1_bits_5 : decode cX1_bits 5 = .ok (.aload_n 0, 1) := dk_42 (dk_at dksX1_bits_0 5 rfl rfl)
theorem dX1_bits_6 : decode cX1_bits 6 = .ok (.getfield 47, 3) := dk_180 0 47 (dk_at dksX1_bits_0 6 rfl rfl)
theorem dX1_bits_9 : decode cX1_bits 9 = .ok (.getfield 115, 3) := dk_180 0 115 (dk_at dksX1_bits_0 9 rfl rfl)
theorem dX1_bits_12 : decode cX1_bits 12 = .ok (.invokevirtual 119, 3) := dk_182 0 119 (dk_at dksX1_bits_0 12 rfl rfl)
theorem dX1_bits_15 : decode cX1_bits 15 = .ok (.if_icmp .ge 29, 3) := dk_162 0 29 (dk_at dksX1_bits_0 15 rfl rfl)
theorem dX1_bits_18 : decode cX1_bits 18 = .ok (.iload_n 2, 1) := dk_28 (dk_at dksX1_bits_0 18 rfl rfl)
theorem dX1_bits_19 : decode cX1_bits 19 = .ok (.aload_n 1, 1) := dk_43 (dk_at dksX1_bits_0 19 rfl rfl)
theorem dX1_bits_20 : decode cX1_bits 20 = .ok (.iload_n 3, 1) := dk_29 (dk_at dksX1_bits_0 20 rfl rfl)
theorem dX1_bits_21 : decode cX1_bits 21 = .ok (.invokeinterface 160 2, 5) := by decide +kernel
theorem dX1_bits_26 : decode cX1_bits 26 = .ok (.ifCond .eq 9, 3) := dk_153 0 9 (dk_at dksX1_bits_1 5 rfl rfl)
theorem dX1_bits_29 : decode cX1_bits 29 = .ok (.iconst 1, 1) := dk_4 (dk_at dksX1_bits_1 8 rfl rfl)
theorem dX1_bits_30 : decode cX1_bits 30 = .ok (.iload_n 3, 1) := dk_29 (dk_at dksX1_bits_1 9 rfl rfl)
theorem dX1_bits_31 : decode cX1_bits 31 = .ok (.ishl, 1) := dk_120 (dk_at dksX1_bits_1 10 rfl rfl)
theorem dX1_bits_32 : decode cX1_bits 32 = .ok (.goto 4, 3) := dk_167 0 4 (dk_at dksX1_bits_1 11 rfl rfl)
theorem dX1_bits_35 : decode cX1_bits 35 = .ok (.iconst 0, 1) := dk_3 (dk_at dksX1_bits_1 14 rfl rfl)
theorem dX1_bits_36 : decode cX1_bits 36 = .ok (.ior, 1) := dk_128 (dk_at dksX1_bits_1 15 rfl rfl)
theorem dX1_bits_37 : decode cX1_bits 37 = .ok (.istore_n 2, 1) := dk_61 (dk_at dksX1_bits_1 16 rfl rfl)
theorem dX1_bits_38 : decode cX1_bits 38 = .ok (.iinc 3 1, 3) := dk_132 3 1 (dk_at dksX1_bits_1 17 rfl rfl)
theorem dX1_bits_41 : decode cX1_bits 41 = .ok (.goto (-37), 3) := dk_167 255 219 (dk_at dksX1_bits_1 20 rfl rfl)
theorem dX1_bits_44 : decode cX1_bits 44 = .ok (.iload_n 2, 1) := dk_28 (dk_at dksX1_bits_1 23 rfl rfl)
theorem dX1_bits_45 : decode cX1_bits 45 = .ok (.ireturn, 1) := dk_172 (dk_at dksX1_bits_2 0 rfl rfl)
abbrev cX1_rounds : ByteArray := prog_1_method_39_code
def yX1_rounds : MethodName := ⟨RX1, "rounds", "()I"⟩
def dkwX1_rounds_0 : List UInt8 := [42, 182, 0, 148, 180, 0, 254, 172]
abbrev dktX1_rounds_0 : List UInt8 := dkwX1_rounds_0 ++ []
theorem dksX1_rounds_0 : cX1_rounds.data.toList.drop 0 = dktX1_rounds_0 := by decide +kernel
theorem dX1_rounds_0 : decode cX1_rounds 0 = .ok (.aload_n 0, 1) := dk_42 (dk_at dksX1_rounds_0 0 rfl rfl)
theorem dX1_rounds_1 : decode cX1_rounds 1 = .ok (.invokevirtual 148, 3) := dk_182 0 148 (dk_at dksX1_rounds_0 1 rfl rfl)
theorem dX1_rounds_4 : decode cX1_rounds 4 = .ok (.getfield 254, 3) := dk_180 0 254 (dk_at dksX1_rounds_0 4 rfl rfl)
theorem dX1_rounds_7 : decode cX1_rounds 7 = .ok (.ireturn, 1) := dk_172 (dk_at dksX1_rounds_0 7 rfl rfl)
abbrev cX1_steps : ByteArray := prog_1_method_42_code
def yX1_steps : MethodName := ⟨RX1, "steps", "()I"⟩
def dkwX1_steps_0 : List UInt8 := [42, 182, 1, 4, 180, 1, 8, 182, 0, 119, 172]
abbrev dktX1_steps_0 : List UInt8 := dkwX1_steps_0 ++ []
theorem dksX1_steps_0 : cX1_steps.data.toList.drop 0 = dktX1_steps_0 := by decide +kernel
theorem dX1_steps_0 : decode cX1_steps 0 = .ok (.aload_n 0, 1) := dk_42 (dk_at dksX1_steps_0 0 rfl rfl)
theorem dX1_steps_1 : decode cX1_steps 1 = .ok (.invokevirtual 260, 3) := dk_182 1 4 (dk_at dksX1_steps_0 1 rfl rfl)
theorem dX1_steps_4 : decode cX1_steps 4 = .ok (.getfield 264, 3) := dk_180 1 8 (dk_at dksX1_steps_0 4 rfl rfl)
theorem dX1_steps_7 : decode cX1_steps 7 = .ok (.invokevirtual 119, 3) := dk_182 0 119 (dk_at dksX1_steps_0 7 rfl rfl)
theorem dX1_steps_10 : decode cX1_steps 10 = .ok (.ireturn, 1) := dk_172 (dk_at dksX1_steps_0 10 rfl rfl)
abbrev cX1_planner : ByteArray := prog_1_method_40_code
def yX1_planner : MethodName := ⟨RX1, "planner", "()LBatchRenamer$Planner;"⟩
def dkwX1_planner_0 : List UInt8 := [187, 1, 1, 89, 42, 180, 0, 47, 183, 1, 3, 176]
abbrev dktX1_planner_0 : List UInt8 := dkwX1_planner_0 ++ []
theorem dksX1_planner_0 : cX1_planner.data.toList.drop 0 = dktX1_planner_0 := by decide +kernel
theorem dX1_planner_0 : decode cX1_planner 0 = .ok (.new 257, 3) := dk_187 1 1 (dk_at dksX1_planner_0 0 rfl rfl)
theorem dX1_planner_3 : decode cX1_planner 3 = .ok (.dup, 1) := dk_89 (dk_at dksX1_planner_0 3 rfl rfl)
theorem dX1_planner_4 : decode cX1_planner 4 = .ok (.aload_n 0, 1) := dk_42 (dk_at dksX1_planner_0 4 rfl rfl)
theorem dX1_planner_5 : decode cX1_planner 5 = .ok (.getfield 47, 3) := dk_180 0 47 (dk_at dksX1_planner_0 5 rfl rfl)
theorem dX1_planner_8 : decode cX1_planner 8 = .ok (.invokespecial 259, 3) := dk_183 1 3 (dk_at dksX1_planner_0 8 rfl rfl)
theorem dX1_planner_11 : decode cX1_planner 11 = .ok (.areturn, 1) := dk_176 (dk_at dksX1_planner_0 11 rfl rfl)
abbrev cX1_spares : ByteArray := prog_1_method_44_code
def yX1_spares : MethodName := ⟨RX1, "spares", "()I"⟩
def dkwX1_spares_2 : List UInt8 := [60, 167, 255, 221, 27, 172]
abbrev dktX1_spares_2 : List UInt8 := dkwX1_spares_2 ++ []
def dkwX1_spares_1 : List UInt8 := [185, 1, 32, 1, 0, 192, 1, 11, 78, 27, 45, 180, 1, 19, 4, 160, 0, 7, 4, 167, 0, 4, 3, 96]
abbrev dktX1_spares_1 : List UInt8 := dkwX1_spares_1 ++ dktX1_spares_2
def dkwX1_spares_0 : List UInt8 := [3, 60, 42, 182, 1, 4, 180, 1, 8, 182, 1, 22, 77, 44, 185, 1, 26, 1, 0, 153, 0, 32, 44]
abbrev dktX1_spares_0 : List UInt8 := dkwX1_spares_0 ++ dktX1_spares_1
theorem dksX1_spares_0 : cX1_spares.data.toList.drop 0 = dktX1_spares_0 := by decide +kernel
theorem dksX1_spares_1 : cX1_spares.data.toList.drop 23 = dktX1_spares_1 := dk_seg dksX1_spares_0 23 rfl rfl
theorem dksX1_spares_2 : cX1_spares.data.toList.drop 47 = dktX1_spares_2 := dk_seg dksX1_spares_1 24 rfl rfl
theorem dX1_spares_0 : decode cX1_spares 0 = .ok (.iconst 0, 1) := dk_3 (dk_at dksX1_spares_0 0 rfl rfl)
theorem dX1_spares_1 : decode cX1_spares 1 = .ok (.istore_n 1, 1) := dk_60 (dk_at dksX1_spares_0 1 rfl rfl)
theorem dX1_spares_2 : decode cX1_spares 2 = .ok (.aload_n 0, 1) := dk_42 (dk_at dksX1_spares_0 2 rfl rfl)
theorem dX1_spares_3 : decode cX1_spares 3 = .ok (.invokevirtual 260, 3) := dk_182 1 4 (dk_at dksX1_spares_0 3 rfl rfl)
theorem dX1_spares_6 : decode cX1_spares 6 = .ok (.getfield 264, 3) := dk_180 1 8 (dk_at dksX1_spares_0 6 rfl rfl)
theorem dX1_spares_9 : decode cX1_spares 9 = .ok (.invokevirtual 278, 3) := dk_182 1 22 (dk_at dksX1_spares_0 9 rfl rfl)
theorem dX1_spares_12 : decode cX1_spares 12 = .ok (.astore_n 2, 1) := dk_77 (dk_at dksX1_spares_0 12 rfl rfl)
theorem dX1_spares_13 : decode cX1_spares 13 = .ok (.aload_n 2, 1) := dk_44 (dk_at dksX1_spares_0 13 rfl rfl)
theorem dX1_spares_14 : decode cX1_spares 14 = .ok (.invokeinterface 282 1, 5) := by decide +kernel
theorem dX1_spares_19 : decode cX1_spares 19 = .ok (.ifCond .eq 32, 3) := dk_153 0 32 (dk_at dksX1_spares_0 19 rfl rfl)
theorem dX1_spares_22 : decode cX1_spares 22 = .ok (.aload_n 2, 1) := dk_44 (dk_at dksX1_spares_0 22 rfl rfl)
theorem dX1_spares_23 : decode cX1_spares 23 = .ok (.invokeinterface 288 1, 5) := by decide +kernel
theorem dX1_spares_28 : decode cX1_spares 28 = .ok (.checkcast 267, 3) := dk_192 1 11 (dk_at dksX1_spares_1 5 rfl rfl)
theorem dX1_spares_31 : decode cX1_spares 31 = .ok (.astore_n 3, 1) := dk_78 (dk_at dksX1_spares_1 8 rfl rfl)
theorem dX1_spares_32 : decode cX1_spares 32 = .ok (.iload_n 1, 1) := dk_27 (dk_at dksX1_spares_1 9 rfl rfl)
theorem dX1_spares_33 : decode cX1_spares 33 = .ok (.aload_n 3, 1) := dk_45 (dk_at dksX1_spares_1 10 rfl rfl)
theorem dX1_spares_34 : decode cX1_spares 34 = .ok (.getfield 275, 3) := dk_180 1 19 (dk_at dksX1_spares_1 11 rfl rfl)
theorem dX1_spares_37 : decode cX1_spares 37 = .ok (.iconst 1, 1) := dk_4 (dk_at dksX1_spares_1 14 rfl rfl)
theorem dX1_spares_38 : decode cX1_spares 38 = .ok (.if_icmp .ne 7, 3) := dk_160 0 7 (dk_at dksX1_spares_1 15 rfl rfl)
theorem dX1_spares_41 : decode cX1_spares 41 = .ok (.iconst 1, 1) := dk_4 (dk_at dksX1_spares_1 18 rfl rfl)
theorem dX1_spares_42 : decode cX1_spares 42 = .ok (.goto 4, 3) := dk_167 0 4 (dk_at dksX1_spares_1 19 rfl rfl)
theorem dX1_spares_45 : decode cX1_spares 45 = .ok (.iconst 0, 1) := dk_3 (dk_at dksX1_spares_1 22 rfl rfl)
theorem dX1_spares_46 : decode cX1_spares 46 = .ok (.iadd, 1) := dk_96 (dk_at dksX1_spares_1 23 rfl rfl)
theorem dX1_spares_47 : decode cX1_spares 47 = .ok (.istore_n 1, 1) := dk_60 (dk_at dksX1_spares_2 0 rfl rfl)
theorem dX1_spares_48 : decode cX1_spares 48 = .ok (.goto (-35), 3) := dk_167 255 221 (dk_at dksX1_spares_2 1 rfl rfl)
theorem dX1_spares_51 : decode cX1_spares 51 = .ok (.iload_n 1, 1) := dk_27 (dk_at dksX1_spares_2 4 rfl rfl)
theorem dX1_spares_52 : decode cX1_spares 52 = .ok (.ireturn, 1) := dk_172 (dk_at dksX1_spares_2 5 rfl rfl)
abbrev cX1_longestCycle : ByteArray := prog_1_method_45_code
def yX1_longestCycle : MethodName := ⟨RX1, "longestCycle", "()I"⟩
def dkwX1_longestCycle_1 : List UInt8 := [184, 1, 40, 61, 132, 3, 1, 167, 255, 235, 28, 172]
abbrev dktX1_longestCycle_1 : List UInt8 := dkwX1_longestCycle_1 ++ []
def dkwX1_longestCycle_0 : List UInt8 := [42, 182, 0, 148, 76, 3, 61, 3, 62, 29, 43, 180, 1, 35, 162, 0, 19, 28, 43, 29, 182, 1, 37]
abbrev dktX1_longestCycle_0 : List UInt8 := dkwX1_longestCycle_0 ++ dktX1_longestCycle_1
theorem dksX1_longestCycle_0 : cX1_longestCycle.data.toList.drop 0 = dktX1_longestCycle_0 := by decide +kernel
theorem dksX1_longestCycle_1 : cX1_longestCycle.data.toList.drop 23 = dktX1_longestCycle_1 := dk_seg dksX1_longestCycle_0 23 rfl rfl
theorem dX1_longestCycle_0 : decode cX1_longestCycle 0 = .ok (.aload_n 0, 1) := dk_42 (dk_at dksX1_longestCycle_0 0 rfl rfl)
theorem dX1_longestCycle_1 : decode cX1_longestCycle 1 = .ok (.invokevirtual 148, 3) := dk_182 0 148 (dk_at dksX1_longestCycle_0 1 rfl rfl)
theorem dX1_longestCycle_4 : decode cX1_longestCycle 4 = .ok (.astore_n 1, 1) := dk_76 (dk_at dksX1_longestCycle_0 4 rfl rfl)
theorem dX1_longestCycle_5 : decode cX1_longestCycle 5 = .ok (.iconst 0, 1) := dk_3 (dk_at dksX1_longestCycle_0 5 rfl rfl)
theorem dX1_longestCycle_6 : decode cX1_longestCycle 6 = .ok (.istore_n 2, 1) := dk_61 (dk_at dksX1_longestCycle_0 6 rfl rfl)
theorem dX1_longestCycle_7 : decode cX1_longestCycle 7 = .ok (.iconst 0, 1) := dk_3 (dk_at dksX1_longestCycle_0 7 rfl rfl)
theorem dX1_longestCycle_8 : decode cX1_longestCycle 8 = .ok (.istore_n 3, 1) := dk_62 (dk_at dksX1_longestCycle_0 8 rfl rfl)
theorem dX1_longestCycle_9 : decode cX1_longestCycle 9 = .ok (.iload_n 3, 1) := dk_29 (dk_at dksX1_longestCycle_0 9 rfl rfl)
theorem dX1_longestCycle_10 : decode cX1_longestCycle 10 = .ok (.aload_n 1, 1) := dk_43 (dk_at dksX1_longestCycle_0 10 rfl rfl)
theorem dX1_longestCycle_11 : decode cX1_longestCycle 11 = .ok (.getfield 291, 3) := dk_180 1 35 (dk_at dksX1_longestCycle_0 11 rfl rfl)
theorem dX1_longestCycle_14 : decode cX1_longestCycle 14 = .ok (.if_icmp .ge 19, 3) := dk_162 0 19 (dk_at dksX1_longestCycle_0 14 rfl rfl)
theorem dX1_longestCycle_17 : decode cX1_longestCycle 17 = .ok (.iload_n 2, 1) := dk_28 (dk_at dksX1_longestCycle_0 17 rfl rfl)
theorem dX1_longestCycle_18 : decode cX1_longestCycle 18 = .ok (.aload_n 1, 1) := dk_43 (dk_at dksX1_longestCycle_0 18 rfl rfl)
theorem dX1_longestCycle_19 : decode cX1_longestCycle 19 = .ok (.iload_n 3, 1) := dk_29 (dk_at dksX1_longestCycle_0 19 rfl rfl)
theorem dX1_longestCycle_20 : decode cX1_longestCycle 20 = .ok (.invokevirtual 293, 3) := dk_182 1 37 (dk_at dksX1_longestCycle_0 20 rfl rfl)
theorem dX1_longestCycle_23 : decode cX1_longestCycle 23 = .ok (.invokestatic 296, 3) := dk_184 1 40 (dk_at dksX1_longestCycle_1 0 rfl rfl)
theorem dX1_longestCycle_26 : decode cX1_longestCycle 26 = .ok (.istore_n 2, 1) := dk_61 (dk_at dksX1_longestCycle_1 3 rfl rfl)
theorem dX1_longestCycle_27 : decode cX1_longestCycle 27 = .ok (.iinc 3 1, 3) := dk_132 3 1 (dk_at dksX1_longestCycle_1 4 rfl rfl)
theorem dX1_longestCycle_30 : decode cX1_longestCycle 30 = .ok (.goto (-21), 3) := dk_167 255 235 (dk_at dksX1_longestCycle_1 7 rfl rfl)
theorem dX1_longestCycle_33 : decode cX1_longestCycle 33 = .ok (.iload_n 2, 1) := dk_28 (dk_at dksX1_longestCycle_1 10 rfl rfl)
theorem dX1_longestCycle_34 : decode cX1_longestCycle 34 = .ok (.ireturn, 1) := dk_172 (dk_at dksX1_longestCycle_1 11 rfl rfl)
abbrev cX1_performed : ByteArray := prog_1_method_46_code
def yX1_performed : MethodName := ⟨RX1, "performed", "()I"⟩
def dkwX1_performed_0 : List UInt8 := [42, 180, 0, 47, 180, 1, 46, 182, 1, 49, 172]
abbrev dktX1_performed_0 : List UInt8 := dkwX1_performed_0 ++ []
theorem dksX1_performed_0 : cX1_performed.data.toList.drop 0 = dktX1_performed_0 := by decide +kernel
theorem dX1_performed_0 : decode cX1_performed 0 = .ok (.aload_n 0, 1) := dk_42 (dk_at dksX1_performed_0 0 rfl rfl)
theorem dX1_performed_1 : decode cX1_performed 1 = .ok (.getfield 47, 3) := dk_180 0 47 (dk_at dksX1_performed_0 1 rfl rfl)
theorem dX1_performed_4 : decode cX1_performed 4 = .ok (.getfield 302, 3) := dk_180 1 46 (dk_at dksX1_performed_0 4 rfl rfl)
theorem dX1_performed_7 : decode cX1_performed 7 = .ok (.invokevirtual 305, 3) := dk_182 1 49 (dk_at dksX1_performed_0 7 rfl rfl)
theorem dX1_performed_10 : decode cX1_performed 10 = .ok (.ireturn, 1) := dk_172 (dk_at dksX1_performed_0 10 rfl rfl)
abbrev cX1_stepsAgain : ByteArray := prog_1_method_51_code
def yX1_stepsAgain : MethodName := ⟨RX1, "stepsAgain", "()I"⟩
def dkwX1_stepsAgain_0 : List UInt8 := [187, 1, 1, 89, 42, 182, 1, 4, 180, 1, 72, 183, 1, 3, 180, 1, 8, 182, 0, 119, 172]
abbrev dktX1_stepsAgain_0 : List UInt8 := dkwX1_stepsAgain_0 ++ []
theorem dksX1_stepsAgain_0 : cX1_stepsAgain.data.toList.drop 0 = dktX1_stepsAgain_0 := by decide +kernel
theorem dX1_stepsAgain_0 : decode cX1_stepsAgain 0 = .ok (.new 257, 3) := dk_187 1 1 (dk_at dksX1_stepsAgain_0 0 rfl rfl)
theorem dX1_stepsAgain_3 : decode cX1_stepsAgain 3 = .ok (.dup, 1) := dk_89 (dk_at dksX1_stepsAgain_0 3 rfl rfl)
theorem dX1_stepsAgain_4 : decode cX1_stepsAgain 4 = .ok (.aload_n 0, 1) := dk_42 (dk_at dksX1_stepsAgain_0 4 rfl rfl)
theorem dX1_stepsAgain_5 : decode cX1_stepsAgain 5 = .ok (.invokevirtual 260, 3) := dk_182 1 4 (dk_at dksX1_stepsAgain_0 5 rfl rfl)
theorem dX1_stepsAgain_8 : decode cX1_stepsAgain 8 = .ok (.getfield 328, 3) := dk_180 1 72 (dk_at dksX1_stepsAgain_0 8 rfl rfl)
theorem dX1_stepsAgain_11 : decode cX1_stepsAgain 11 = .ok (.invokespecial 259, 3) := dk_183 1 3 (dk_at dksX1_stepsAgain_0 11 rfl rfl)
theorem dX1_stepsAgain_14 : decode cX1_stepsAgain 14 = .ok (.getfield 264, 3) := dk_180 1 8 (dk_at dksX1_stepsAgain_0 14 rfl rfl)
theorem dX1_stepsAgain_17 : decode cX1_stepsAgain 17 = .ok (.invokevirtual 119, 3) := dk_182 0 119 (dk_at dksX1_stepsAgain_0 17 rfl rfl)
theorem dX1_stepsAgain_20 : decode cX1_stepsAgain 20 = .ok (.ireturn, 1) := dk_172 (dk_at dksX1_stepsAgain_0 20 rfl rfl)
abbrev cX1_meanLength : ByteArray := prog_1_method_52_code
def yX1_meanLength : MethodName := ⟨RX1, "meanLength", "()D"⟩
def dkwX1_meanLength_3 : List UInt8 := [180, 0, 47, 180, 0, 115, 182, 0, 119, 135, 111, 175]
abbrev dktX1_meanLength_3 : List UInt8 := dkwX1_meanLength_3 ++ []
def dkwX1_meanLength_2 : List UInt8 := [167, 255, 227, 42, 180, 0, 47, 180, 0, 115, 182, 1, 75, 153, 0, 7, 14, 167, 0, 17, 27, 135, 42]
abbrev dktX1_meanLength_2 : List UInt8 := dkwX1_meanLength_2 ++ dktX1_meanLength_3
def dkwX1_meanLength_1 : List UInt8 := [153, 0, 26, 44, 185, 1, 32, 1, 0, 192, 0, 132, 78, 27, 45, 180, 0, 156, 182, 0, 27, 96, 60]
abbrev dktX1_meanLength_1 : List UInt8 := dkwX1_meanLength_1 ++ dktX1_meanLength_2
def dkwX1_meanLength_0 : List UInt8 := [3, 60, 42, 182, 1, 4, 180, 1, 72, 180, 0, 115, 182, 1, 22, 77, 44, 185, 1, 26, 1, 0]
abbrev dktX1_meanLength_0 : List UInt8 := dkwX1_meanLength_0 ++ dktX1_meanLength_1
theorem dksX1_meanLength_0 : cX1_meanLength.data.toList.drop 0 = dktX1_meanLength_0 := by decide +kernel
theorem dksX1_meanLength_1 : cX1_meanLength.data.toList.drop 22 = dktX1_meanLength_1 := dk_seg dksX1_meanLength_0 22 rfl rfl
theorem dksX1_meanLength_2 : cX1_meanLength.data.toList.drop 45 = dktX1_meanLength_2 := dk_seg dksX1_meanLength_1 23 rfl rfl
theorem dksX1_meanLength_3 : cX1_meanLength.data.toList.drop 68 = dktX1_meanLength_3 := dk_seg dksX1_meanLength_2 23 rfl rfl
theorem dX1_meanLength_0 : decode cX1_meanLength 0 = .ok (.iconst 0, 1) := dk_3 (dk_at dksX1_meanLength_0 0 rfl rfl)
theorem dX1_meanLength_1 : decode cX1_meanLength 1 = .ok (.istore_n 1, 1) := dk_60 (dk_at dksX1_meanLength_0 1 rfl rfl)
theorem dX1_meanLength_2 : decode cX1_meanLength 2 = .ok (.aload_n 0, 1) := dk_42 (dk_at dksX1_meanLength_0 2 rfl rfl)
theorem dX1_meanLength_3 : decode cX1_meanLength 3 = .ok (.invokevirtual 260, 3) := dk_182 1 4 (dk_at dksX1_meanLength_0 3 rfl rfl)
theorem dX1_meanLength_6 : decode cX1_meanLength 6 = .ok (.getfield 328, 3) := dk_180 1 72 (dk_at dksX1_meanLength_0 6 rfl rfl)
theorem dX1_meanLength_9 : decode cX1_meanLength 9 = .ok (.getfield 115, 3) := dk_180 0 115 (dk_at dksX1_meanLength_0 9 rfl rfl)
theorem dX1_meanLength_12 : decode cX1_meanLength 12 = .ok (.invokevirtual 278, 3) := dk_182 1 22 (dk_at dksX1_meanLength_0 12 rfl rfl)
theorem dX1_meanLength_15 : decode cX1_meanLength 15 = .ok (.astore_n 2, 1) := dk_77 (dk_at dksX1_meanLength_0 15 rfl rfl)
theorem dX1_meanLength_16 : decode cX1_meanLength 16 = .ok (.aload_n 2, 1) := dk_44 (dk_at dksX1_meanLength_0 16 rfl rfl)
theorem dX1_meanLength_17 : decode cX1_meanLength 17 = .ok (.invokeinterface 282 1, 5) := by decide +kernel
theorem dX1_meanLength_22 : decode cX1_meanLength 22 = .ok (.ifCond .eq 26, 3) := dk_153 0 26 (dk_at dksX1_meanLength_1 0 rfl rfl)
theorem dX1_meanLength_25 : decode cX1_meanLength 25 = .ok (.aload_n 2, 1) := dk_44 (dk_at dksX1_meanLength_1 3 rfl rfl)
theorem dX1_meanLength_26 : decode cX1_meanLength 26 = .ok (.invokeinterface 288 1, 5) := by decide +kernel
theorem dX1_meanLength_31 : decode cX1_meanLength 31 = .ok (.checkcast 132, 3) := dk_192 0 132 (dk_at dksX1_meanLength_1 9 rfl rfl)
theorem dX1_meanLength_34 : decode cX1_meanLength 34 = .ok (.astore_n 3, 1) := dk_78 (dk_at dksX1_meanLength_1 12 rfl rfl)
theorem dX1_meanLength_35 : decode cX1_meanLength 35 = .ok (.iload_n 1, 1) := dk_27 (dk_at dksX1_meanLength_1 13 rfl rfl)
theorem dX1_meanLength_36 : decode cX1_meanLength 36 = .ok (.aload_n 3, 1) := dk_45 (dk_at dksX1_meanLength_1 14 rfl rfl)
theorem dX1_meanLength_37 : decode cX1_meanLength 37 = .ok (.getfield 156, 3) := dk_180 0 156 (dk_at dksX1_meanLength_1 15 rfl rfl)
theorem dX1_meanLength_40 : decode cX1_meanLength 40 = .ok (.invokevirtual 27, 3) := dk_182 0 27 (dk_at dksX1_meanLength_1 18 rfl rfl)
theorem dX1_meanLength_43 : decode cX1_meanLength 43 = .ok (.iadd, 1) := dk_96 (dk_at dksX1_meanLength_1 21 rfl rfl)
theorem dX1_meanLength_44 : decode cX1_meanLength 44 = .ok (.istore_n 1, 1) := dk_60 (dk_at dksX1_meanLength_1 22 rfl rfl)
theorem dX1_meanLength_45 : decode cX1_meanLength 45 = .ok (.goto (-29), 3) := dk_167 255 227 (dk_at dksX1_meanLength_2 0 rfl rfl)
theorem dX1_meanLength_48 : decode cX1_meanLength 48 = .ok (.aload_n 0, 1) := dk_42 (dk_at dksX1_meanLength_2 3 rfl rfl)
theorem dX1_meanLength_49 : decode cX1_meanLength 49 = .ok (.getfield 47, 3) := dk_180 0 47 (dk_at dksX1_meanLength_2 4 rfl rfl)
theorem dX1_meanLength_52 : decode cX1_meanLength 52 = .ok (.getfield 115, 3) := dk_180 0 115 (dk_at dksX1_meanLength_2 7 rfl rfl)
theorem dX1_meanLength_55 : decode cX1_meanLength 55 = .ok (.invokevirtual 331, 3) := dk_182 1 75 (dk_at dksX1_meanLength_2 10 rfl rfl)
theorem dX1_meanLength_58 : decode cX1_meanLength 58 = .ok (.ifCond .eq 7, 3) := dk_153 0 7 (dk_at dksX1_meanLength_2 13 rfl rfl)
theorem dX1_meanLength_61 : decode cX1_meanLength 61 = .ok (.dconst 0, 1) := dk_14 (dk_at dksX1_meanLength_2 16 rfl rfl)
theorem dX1_meanLength_62 : decode cX1_meanLength 62 = .ok (.goto 17, 3) := dk_167 0 17 (dk_at dksX1_meanLength_2 17 rfl rfl)
theorem dX1_meanLength_65 : decode cX1_meanLength 65 = .ok (.iload_n 1, 1) := dk_27 (dk_at dksX1_meanLength_2 20 rfl rfl)
theorem dX1_meanLength_66 : decode cX1_meanLength 66 = .ok (.i2d, 1) := dk_135 (dk_at dksX1_meanLength_2 21 rfl rfl)
theorem dX1_meanLength_67 : decode cX1_meanLength 67 = .ok (.aload_n 0, 1) := dk_42 (dk_at dksX1_meanLength_2 22 rfl rfl)
theorem dX1_meanLength_68 : decode cX1_meanLength 68 = .ok (.getfield 47, 3) := dk_180 0 47 (dk_at dksX1_meanLength_3 0 rfl rfl)
theorem dX1_meanLength_71 : decode cX1_meanLength 71 = .ok (.getfield 115, 3) := dk_180 0 115 (dk_at dksX1_meanLength_3 3 rfl rfl)
theorem dX1_meanLength_74 : decode cX1_meanLength 74 = .ok (.invokevirtual 119, 3) := dk_182 0 119 (dk_at dksX1_meanLength_3 6 rfl rfl)
theorem dX1_meanLength_77 : decode cX1_meanLength 77 = .ok (.i2d, 1) := dk_135 (dk_at dksX1_meanLength_3 9 rfl rfl)
theorem dX1_meanLength_78 : decode cX1_meanLength 78 = .ok (.ddiv, 1) := dk_111 (dk_at dksX1_meanLength_3 10 rfl rfl)
theorem dX1_meanLength_79 : decode cX1_meanLength 79 = .ok (.dreturn, 1) := dk_175 (dk_at dksX1_meanLength_3 11 rfl rfl)
abbrev cX1_perform : ByteArray := prog_1_method_53_code
def yX1_perform : MethodName := ⟨RX1, "perform", "()I"⟩
def dkwX1_perform_3 : List UInt8 := [182, 1, 88, 43, 182, 0, 119, 172]
abbrev dktX1_perform_3 : List UInt8 := dkwX1_perform_3 ++ []
def dkwX1_perform_2 : List UInt8 := [180, 1, 81, 182, 1, 84, 167, 255, 222, 43, 182, 1, 75, 154, 0, 14, 42, 180, 0, 47, 180, 1, 46, 43]
abbrev dktX1_perform_2 : List UInt8 := dkwX1_perform_2 ++ dktX1_perform_3
def dkwX1_perform_1 : List UInt8 := [153, 0, 31, 44, 185, 1, 32, 1, 0, 192, 1, 11, 78, 42, 180, 0, 47, 45, 180, 1, 17, 45]
abbrev dktX1_perform_1 : List UInt8 := dkwX1_perform_1 ++ dktX1_perform_2
def dkwX1_perform_0 : List UInt8 := [42, 182, 1, 4, 180, 1, 8, 76, 42, 182, 1, 78, 43, 182, 1, 22, 77, 44, 185, 1, 26, 1, 0]
abbrev dktX1_perform_0 : List UInt8 := dkwX1_perform_0 ++ dktX1_perform_1
theorem dksX1_perform_0 : cX1_perform.data.toList.drop 0 = dktX1_perform_0 := by decide +kernel
theorem dksX1_perform_1 : cX1_perform.data.toList.drop 23 = dktX1_perform_1 := dk_seg dksX1_perform_0 23 rfl rfl
theorem dksX1_perform_2 : cX1_perform.data.toList.drop 45 = dktX1_perform_2 := dk_seg dksX1_perform_1 22 rfl rfl
theorem dksX1_perform_3 : cX1_perform.data.toList.drop 69 = dktX1_perform_3 := dk_seg dksX1_perform_2 24 rfl rfl
theorem dX1_perform_0 : decode cX1_perform 0 = .ok (.aload_n 0, 1) := dk_42 (dk_at dksX1_perform_0 0 rfl rfl)
theorem dX1_perform_1 : decode cX1_perform 1 = .ok (.invokevirtual 260, 3) := dk_182 1 4 (dk_at dksX1_perform_0 1 rfl rfl)
theorem dX1_perform_4 : decode cX1_perform 4 = .ok (.getfield 264, 3) := dk_180 1 8 (dk_at dksX1_perform_0 4 rfl rfl)
theorem dX1_perform_7 : decode cX1_perform 7 = .ok (.astore_n 1, 1) := dk_76 (dk_at dksX1_perform_0 7 rfl rfl)
theorem dX1_perform_8 : decode cX1_perform 8 = .ok (.aload_n 0, 1) := dk_42 (dk_at dksX1_perform_0 8 rfl rfl)
theorem dX1_perform_9 : decode cX1_perform 9 = .ok (.invokevirtual 334, 3) := dk_182 1 78 (dk_at dksX1_perform_0 9 rfl rfl)
theorem dX1_perform_12 : decode cX1_perform 12 = .ok (.aload_n 1, 1) := dk_43 (dk_at dksX1_perform_0 12 rfl rfl)
theorem dX1_perform_13 : decode cX1_perform 13 = .ok (.invokevirtual 278, 3) := dk_182 1 22 (dk_at dksX1_perform_0 13 rfl rfl)
theorem dX1_perform_16 : decode cX1_perform 16 = .ok (.astore_n 2, 1) := dk_77 (dk_at dksX1_perform_0 16 rfl rfl)
theorem dX1_perform_17 : decode cX1_perform 17 = .ok (.aload_n 2, 1) := dk_44 (dk_at dksX1_perform_0 17 rfl rfl)
theorem dX1_perform_18 : decode cX1_perform 18 = .ok (.invokeinterface 282 1, 5) := by decide +kernel
theorem dX1_perform_23 : decode cX1_perform 23 = .ok (.ifCond .eq 31, 3) := dk_153 0 31 (dk_at dksX1_perform_1 0 rfl rfl)
theorem dX1_perform_26 : decode cX1_perform 26 = .ok (.aload_n 2, 1) := dk_44 (dk_at dksX1_perform_1 3 rfl rfl)
theorem dX1_perform_27 : decode cX1_perform 27 = .ok (.invokeinterface 288 1, 5) := by decide +kernel
theorem dX1_perform_32 : decode cX1_perform 32 = .ok (.checkcast 267, 3) := dk_192 1 11 (dk_at dksX1_perform_1 9 rfl rfl)
theorem dX1_perform_35 : decode cX1_perform 35 = .ok (.astore_n 3, 1) := dk_78 (dk_at dksX1_perform_1 12 rfl rfl)
theorem dX1_perform_36 : decode cX1_perform 36 = .ok (.aload_n 0, 1) := dk_42 (dk_at dksX1_perform_1 13 rfl rfl)
theorem dX1_perform_37 : decode cX1_perform 37 = .ok (.getfield 47, 3) := dk_180 0 47 (dk_at dksX1_perform_1 14 rfl rfl)
theorem dX1_perform_40 : decode cX1_perform 40 = .ok (.aload_n 3, 1) := dk_45 (dk_at dksX1_perform_1 17 rfl rfl)
theorem dX1_perform_41 : decode cX1_perform 41 = .ok (.getfield 273, 3) := dk_180 1 17 (dk_at dksX1_perform_1 18 rfl rfl)
theorem dX1_perform_44 : decode cX1_perform 44 = .ok (.aload_n 3, 1) := dk_45 (dk_at dksX1_perform_1 21 rfl rfl)
theorem dX1_perform_45 : decode cX1_perform 45 = .ok (.getfield 337, 3) := dk_180 1 81 (dk_at dksX1_perform_2 0 rfl rfl)
theorem dX1_perform_48 : decode cX1_perform 48 = .ok (.invokevirtual 340, 3) := dk_182 1 84 (dk_at dksX1_perform_2 3 rfl rfl)
theorem dX1_perform_51 : decode cX1_perform 51 = .ok (.goto (-34), 3) := dk_167 255 222 (dk_at dksX1_perform_2 6 rfl rfl)
theorem dX1_perform_54 : decode cX1_perform 54 = .ok (.aload_n 1, 1) := dk_43 (dk_at dksX1_perform_2 9 rfl rfl)
theorem dX1_perform_55 : decode cX1_perform 55 = .ok (.invokevirtual 331, 3) := dk_182 1 75 (dk_at dksX1_perform_2 10 rfl rfl)
theorem dX1_perform_58 : decode cX1_perform 58 = .ok (.ifCond .ne 14, 3) := dk_154 0 14 (dk_at dksX1_perform_2 13 rfl rfl)
theorem dX1_perform_61 : decode cX1_perform 61 = .ok (.aload_n 0, 1) := dk_42 (dk_at dksX1_perform_2 16 rfl rfl)
theorem dX1_perform_62 : decode cX1_perform 62 = .ok (.getfield 47, 3) := dk_180 0 47 (dk_at dksX1_perform_2 17 rfl rfl)
theorem dX1_perform_65 : decode cX1_perform 65 = .ok (.getfield 302, 3) := dk_180 1 46 (dk_at dksX1_perform_2 20 rfl rfl)
theorem dX1_perform_68 : decode cX1_perform 68 = .ok (.aload_n 1, 1) := dk_43 (dk_at dksX1_perform_2 23 rfl rfl)
theorem dX1_perform_69 : decode cX1_perform 69 = .ok (.invokevirtual 344, 3) := dk_182 1 88 (dk_at dksX1_perform_3 0 rfl rfl)
theorem dX1_perform_72 : decode cX1_perform 72 = .ok (.aload_n 1, 1) := dk_43 (dk_at dksX1_perform_3 3 rfl rfl)
theorem dX1_perform_73 : decode cX1_perform 73 = .ok (.invokevirtual 119, 3) := dk_182 0 119 (dk_at dksX1_perform_3 4 rfl rfl)
theorem dX1_perform_76 : decode cX1_perform 76 = .ok (.ireturn, 1) := dk_172 (dk_at dksX1_perform_3 7 rfl rfl)
abbrev cX1_remember : ByteArray := prog_1_method_9_code
def yX1_remember : MethodName := ⟨RX1, "remember", "()V"⟩
def dkwX1_remember_0 : List UInt8 := [42, 180, 0, 56, 42, 180, 0, 47, 182, 0, 75, 177]
abbrev dktX1_remember_0 : List UInt8 := dkwX1_remember_0 ++ []
theorem dksX1_remember_0 : cX1_remember.data.toList.drop 0 = dktX1_remember_0 := by decide +kernel
theorem dX1_remember_0 : decode cX1_remember 0 = .ok (.aload_n 0, 1) := dk_42 (dk_at dksX1_remember_0 0 rfl rfl)
theorem dX1_remember_1 : decode cX1_remember 1 = .ok (.getfield 56, 3) := dk_180 0 56 (dk_at dksX1_remember_0 1 rfl rfl)
theorem dX1_remember_4 : decode cX1_remember 4 = .ok (.aload_n 0, 1) := dk_42 (dk_at dksX1_remember_0 4 rfl rfl)
theorem dX1_remember_5 : decode cX1_remember 5 = .ok (.getfield 47, 3) := dk_180 0 47 (dk_at dksX1_remember_0 5 rfl rfl)
theorem dX1_remember_8 : decode cX1_remember 8 = .ok (.invokevirtual 75, 3) := dk_182 0 75 (dk_at dksX1_remember_0 8 rfl rfl)
theorem dX1_remember_11 : decode cX1_remember 11 = .ok (.return_, 1) := dk_177 (dk_at dksX1_remember_0 11 rfl rfl)
abbrev cX1_append : ByteArray := prog_1_method_10_code
def yX1_append : MethodName := ⟨RX1, "append", "(IIIII)I"⟩
def dkwX1_append_5 : List UInt8 := [42, 180, 0, 79, 172]
abbrev dktX1_append_5 : List UInt8 := dkwX1_append_5 ++ []
def dkwX1_append_4 : List UInt8 := [145, 84, 42, 89, 180, 0, 79, 4, 96, 181, 0, 79, 132, 11, 248, 167, 255, 223, 132, 9, 1, 167, 255, 199]
abbrev dktX1_append_4 : List UInt8 := dkwX1_append_4 ++ dktX1_append_5
def dkwX1_append_3 : List UInt8 := [54, 10, 16, 24, 54, 11, 21, 11, 155, 0, 34, 42, 180, 0, 60, 42, 180, 0, 79, 21, 10, 21, 11, 122]
abbrev dktX1_append_3 : List UInt8 := dkwX1_append_3 ++ dktX1_append_4
def dkwX1_append_2 : List UInt8 := [25, 6, 58, 7, 25, 7, 190, 54, 8, 3, 54, 9, 21, 9, 21, 8, 162, 0, 56, 25, 7, 21, 9, 46]
abbrev dktX1_append_2 : List UInt8 := dkwX1_append_2 ++ dktX1_append_3
def dkwX1_append_1 : List UInt8 := [89, 3, 27, 79, 89, 4, 28, 79, 89, 5, 29, 79, 89, 6, 21, 4, 79, 89, 7, 21, 5, 79, 58, 6]
abbrev dktX1_append_1 : List UInt8 := dkwX1_append_1 ++ dktX1_append_2
def dkwX1_append_0 : List UInt8 := [42, 180, 0, 79, 16, 20, 96, 17, 2, 88, 163, 0, 7, 4, 167, 0, 4, 3, 184, 0, 81, 8, 188, 10]
abbrev dktX1_append_0 : List UInt8 := dkwX1_append_0 ++ dktX1_append_1
theorem dksX1_append_0 : cX1_append.data.toList.drop 0 = dktX1_append_0 := by decide +kernel
theorem dksX1_append_1 : cX1_append.data.toList.drop 24 = dktX1_append_1 := dk_seg dksX1_append_0 24 rfl rfl
theorem dksX1_append_2 : cX1_append.data.toList.drop 48 = dktX1_append_2 := dk_seg dksX1_append_1 24 rfl rfl
theorem dksX1_append_3 : cX1_append.data.toList.drop 72 = dktX1_append_3 := dk_seg dksX1_append_2 24 rfl rfl
theorem dksX1_append_4 : cX1_append.data.toList.drop 96 = dktX1_append_4 := dk_seg dksX1_append_3 24 rfl rfl
theorem dksX1_append_5 : cX1_append.data.toList.drop 120 = dktX1_append_5 := dk_seg dksX1_append_4 24 rfl rfl
theorem dX1_append_0 : decode cX1_append 0 = .ok (.aload_n 0, 1) := dk_42 (dk_at dksX1_append_0 0 rfl rfl)
theorem dX1_append_1 : decode cX1_append 1 = .ok (.getfield 79, 3) := dk_180 0 79 (dk_at dksX1_append_0 1 rfl rfl)
theorem dX1_append_4 : decode cX1_append 4 = .ok (.bipush 20, 2) := dk_16 20 (dk_at dksX1_append_0 4 rfl rfl)
theorem dX1_append_6 : decode cX1_append 6 = .ok (.iadd, 1) := dk_96 (dk_at dksX1_append_0 6 rfl rfl)
theorem dX1_append_7 : decode cX1_append 7 = .ok (.sipush 600, 3) := dk_17 2 88 (dk_at dksX1_append_0 7 rfl rfl)
theorem dX1_append_10 : decode cX1_append 10 = .ok (.if_icmp .gt 7, 3) := dk_163 0 7 (dk_at dksX1_append_0 10 rfl rfl)
theorem dX1_append_13 : decode cX1_append 13 = .ok (.iconst 1, 1) := dk_4 (dk_at dksX1_append_0 13 rfl rfl)
theorem dX1_append_14 : decode cX1_append 14 = .ok (.goto 4, 3) := dk_167 0 4 (dk_at dksX1_append_0 14 rfl rfl)
theorem dX1_append_17 : decode cX1_append 17 = .ok (.iconst 0, 1) := dk_3 (dk_at dksX1_append_0 17 rfl rfl)
theorem dX1_append_18 : decode cX1_append 18 = .ok (.invokestatic 81, 3) := dk_184 0 81 (dk_at dksX1_append_0 18 rfl rfl)
theorem dX1_append_21 : decode cX1_append 21 = .ok (.iconst 5, 1) := dk_8 (dk_at dksX1_append_0 21 rfl rfl)
theorem dX1_append_22 : decode cX1_append 22 = .ok (.newarray .int, 2) := dk_188_10 (dk_at dksX1_append_0 22 rfl rfl)
theorem dX1_append_24 : decode cX1_append 24 = .ok (.dup, 1) := dk_89 (dk_at dksX1_append_1 0 rfl rfl)
theorem dX1_append_25 : decode cX1_append 25 = .ok (.iconst 0, 1) := dk_3 (dk_at dksX1_append_1 1 rfl rfl)
theorem dX1_append_26 : decode cX1_append 26 = .ok (.iload_n 1, 1) := dk_27 (dk_at dksX1_append_1 2 rfl rfl)
theorem dX1_append_27 : decode cX1_append 27 = .ok (.iastore, 1) := dk_79 (dk_at dksX1_append_1 3 rfl rfl)
theorem dX1_append_28 : decode cX1_append 28 = .ok (.dup, 1) := dk_89 (dk_at dksX1_append_1 4 rfl rfl)
theorem dX1_append_29 : decode cX1_append 29 = .ok (.iconst 1, 1) := dk_4 (dk_at dksX1_append_1 5 rfl rfl)
theorem dX1_append_30 : decode cX1_append 30 = .ok (.iload_n 2, 1) := dk_28 (dk_at dksX1_append_1 6 rfl rfl)
theorem dX1_append_31 : decode cX1_append 31 = .ok (.iastore, 1) := dk_79 (dk_at dksX1_append_1 7 rfl rfl)
theorem dX1_append_32 : decode cX1_append 32 = .ok (.dup, 1) := dk_89 (dk_at dksX1_append_1 8 rfl rfl)
theorem dX1_append_33 : decode cX1_append 33 = .ok (.iconst 2, 1) := dk_5 (dk_at dksX1_append_1 9 rfl rfl)
theorem dX1_append_34 : decode cX1_append 34 = .ok (.iload_n 3, 1) := dk_29 (dk_at dksX1_append_1 10 rfl rfl)
theorem dX1_append_35 : decode cX1_append 35 = .ok (.iastore, 1) := dk_79 (dk_at dksX1_append_1 11 rfl rfl)
theorem dX1_append_36 : decode cX1_append 36 = .ok (.dup, 1) := dk_89 (dk_at dksX1_append_1 12 rfl rfl)
theorem dX1_append_37 : decode cX1_append 37 = .ok (.iconst 3, 1) := dk_6 (dk_at dksX1_append_1 13 rfl rfl)
theorem dX1_append_38 : decode cX1_append 38 = .ok (.iload 4, 2) := dk_21 4 (dk_at dksX1_append_1 14 rfl rfl)
theorem dX1_append_40 : decode cX1_append 40 = .ok (.iastore, 1) := dk_79 (dk_at dksX1_append_1 16 rfl rfl)
theorem dX1_append_41 : decode cX1_append 41 = .ok (.dup, 1) := dk_89 (dk_at dksX1_append_1 17 rfl rfl)
theorem dX1_append_42 : decode cX1_append 42 = .ok (.iconst 4, 1) := dk_7 (dk_at dksX1_append_1 18 rfl rfl)
theorem dX1_append_43 : decode cX1_append 43 = .ok (.iload 5, 2) := dk_21 5 (dk_at dksX1_append_1 19 rfl rfl)
theorem dX1_append_45 : decode cX1_append 45 = .ok (.iastore, 1) := dk_79 (dk_at dksX1_append_1 21 rfl rfl)
theorem dX1_append_46 : decode cX1_append 46 = .ok (.astore 6, 2) := dk_58 6 (dk_at dksX1_append_1 22 rfl rfl)
theorem dX1_append_48 : decode cX1_append 48 = .ok (.aload 6, 2) := dk_25 6 (dk_at dksX1_append_2 0 rfl rfl)
theorem dX1_append_50 : decode cX1_append 50 = .ok (.astore 7, 2) := dk_58 7 (dk_at dksX1_append_2 2 rfl rfl)
theorem dX1_append_52 : decode cX1_append 52 = .ok (.aload 7, 2) := dk_25 7 (dk_at dksX1_append_2 4 rfl rfl)
theorem dX1_append_54 : decode cX1_append 54 = .ok (.arraylength, 1) := dk_190 (dk_at dksX1_append_2 6 rfl rfl)
theorem dX1_append_55 : decode cX1_append 55 = .ok (.istore 8, 2) := dk_54 8 (dk_at dksX1_append_2 7 rfl rfl)
theorem dX1_append_57 : decode cX1_append 57 = .ok (.iconst 0, 1) := dk_3 (dk_at dksX1_append_2 9 rfl rfl)
theorem dX1_append_58 : decode cX1_append 58 = .ok (.istore 9, 2) := dk_54 9 (dk_at dksX1_append_2 10 rfl rfl)
theorem dX1_append_60 : decode cX1_append 60 = .ok (.iload 9, 2) := dk_21 9 (dk_at dksX1_append_2 12 rfl rfl)
theorem dX1_append_62 : decode cX1_append 62 = .ok (.iload 8, 2) := dk_21 8 (dk_at dksX1_append_2 14 rfl rfl)
theorem dX1_append_64 : decode cX1_append 64 = .ok (.if_icmp .ge 56, 3) := dk_162 0 56 (dk_at dksX1_append_2 16 rfl rfl)
theorem dX1_append_67 : decode cX1_append 67 = .ok (.aload 7, 2) := dk_25 7 (dk_at dksX1_append_2 19 rfl rfl)
theorem dX1_append_69 : decode cX1_append 69 = .ok (.iload 9, 2) := dk_21 9 (dk_at dksX1_append_2 21 rfl rfl)
theorem dX1_append_71 : decode cX1_append 71 = .ok (.iaload, 1) := dk_46 (dk_at dksX1_append_2 23 rfl rfl)
theorem dX1_append_72 : decode cX1_append 72 = .ok (.istore 10, 2) := dk_54 10 (dk_at dksX1_append_3 0 rfl rfl)
theorem dX1_append_74 : decode cX1_append 74 = .ok (.bipush 24, 2) := dk_16 24 (dk_at dksX1_append_3 2 rfl rfl)
theorem dX1_append_76 : decode cX1_append 76 = .ok (.istore 11, 2) := dk_54 11 (dk_at dksX1_append_3 4 rfl rfl)
theorem dX1_append_78 : decode cX1_append 78 = .ok (.iload 11, 2) := dk_21 11 (dk_at dksX1_append_3 6 rfl rfl)
theorem dX1_append_80 : decode cX1_append 80 = .ok (.ifCond .lt 34, 3) := dk_155 0 34 (dk_at dksX1_append_3 8 rfl rfl)
theorem dX1_append_83 : decode cX1_append 83 = .ok (.aload_n 0, 1) := dk_42 (dk_at dksX1_append_3 11 rfl rfl)
theorem dX1_append_84 : decode cX1_append 84 = .ok (.getfield 60, 3) := dk_180 0 60 (dk_at dksX1_append_3 12 rfl rfl)
theorem dX1_append_87 : decode cX1_append 87 = .ok (.aload_n 0, 1) := dk_42 (dk_at dksX1_append_3 15 rfl rfl)
theorem dX1_append_88 : decode cX1_append 88 = .ok (.getfield 79, 3) := dk_180 0 79 (dk_at dksX1_append_3 16 rfl rfl)
theorem dX1_append_91 : decode cX1_append 91 = .ok (.iload 10, 2) := dk_21 10 (dk_at dksX1_append_3 19 rfl rfl)
theorem dX1_append_93 : decode cX1_append 93 = .ok (.iload 11, 2) := dk_21 11 (dk_at dksX1_append_3 21 rfl rfl)
theorem dX1_append_95 : decode cX1_append 95 = .ok (.ishr, 1) := dk_122 (dk_at dksX1_append_3 23 rfl rfl)
theorem dX1_append_96 : decode cX1_append 96 = .ok (.i2b, 1) := dk_145 (dk_at dksX1_append_4 0 rfl rfl)
theorem dX1_append_97 : decode cX1_append 97 = .ok (.bastore, 1) := dk_84 (dk_at dksX1_append_4 1 rfl rfl)
theorem dX1_append_98 : decode cX1_append 98 = .ok (.aload_n 0, 1) := dk_42 (dk_at dksX1_append_4 2 rfl rfl)
theorem dX1_append_99 : decode cX1_append 99 = .ok (.dup, 1) := dk_89 (dk_at dksX1_append_4 3 rfl rfl)
theorem dX1_append_100 : decode cX1_append 100 = .ok (.getfield 79, 3) := dk_180 0 79 (dk_at dksX1_append_4 4 rfl rfl)
theorem dX1_append_103 : decode cX1_append 103 = .ok (.iconst 1, 1) := dk_4 (dk_at dksX1_append_4 7 rfl rfl)
theorem dX1_append_104 : decode cX1_append 104 = .ok (.iadd, 1) := dk_96 (dk_at dksX1_append_4 8 rfl rfl)
theorem dX1_append_105 : decode cX1_append 105 = .ok (.putfield 79, 3) := dk_181 0 79 (dk_at dksX1_append_4 9 rfl rfl)
theorem dX1_append_108 : decode cX1_append 108 = .ok (.iinc 11 (-8), 3) := dk_132 11 248 (dk_at dksX1_append_4 12 rfl rfl)
theorem dX1_append_111 : decode cX1_append 111 = .ok (.goto (-33), 3) := dk_167 255 223 (dk_at dksX1_append_4 15 rfl rfl)
theorem dX1_append_114 : decode cX1_append 114 = .ok (.iinc 9 1, 3) := dk_132 9 1 (dk_at dksX1_append_4 18 rfl rfl)
theorem dX1_append_117 : decode cX1_append 117 = .ok (.goto (-57), 3) := dk_167 255 199 (dk_at dksX1_append_4 21 rfl rfl)
theorem dX1_append_120 : decode cX1_append 120 = .ok (.aload_n 0, 1) := dk_42 (dk_at dksX1_append_5 0 rfl rfl)
theorem dX1_append_121 : decode cX1_append 121 = .ok (.getfield 79, 3) := dk_180 0 79 (dk_at dksX1_append_5 1 rfl rfl)
theorem dX1_append_124 : decode cX1_append 124 = .ok (.ireturn, 1) := dk_172 (dk_at dksX1_append_5 4 rfl rfl)
abbrev cX1_requireState : ByteArray := prog_1_method_3_code
def yX1_requireState : MethodName := ⟨RX1, "requireState", "(Z)V"⟩
def dkwX1_requireState_0 : List UInt8 := [26, 154, 0, 11, 187, 0, 7, 89, 183, 0, 9, 191, 177]
abbrev dktX1_requireState_0 : List UInt8 := dkwX1_requireState_0 ++ []
theorem dksX1_requireState_0 : cX1_requireState.data.toList.drop 0 = dktX1_requireState_0 := by decide +kernel
theorem dX1_requireState_0 : decode cX1_requireState 0 = .ok (.iload_n 0, 1) := dk_26 (dk_at dksX1_requireState_0 0 rfl rfl)
theorem dX1_requireState_1 : decode cX1_requireState 1 = .ok (.ifCond .ne 11, 3) := dk_154 0 11 (dk_at dksX1_requireState_0 1 rfl rfl)
theorem dX1_requireState_4 : decode cX1_requireState 4 = .ok (.new 7, 3) := dk_187 0 7 (dk_at dksX1_requireState_0 4 rfl rfl)
theorem dX1_requireState_7 : decode cX1_requireState 7 = .ok (.dup, 1) := dk_89 (dk_at dksX1_requireState_0 7 rfl rfl)
theorem dX1_requireState_8 : decode cX1_requireState 8 = .ok (.invokespecial 9, 3) := dk_183 0 9 (dk_at dksX1_requireState_0 8 rfl rfl)
theorem dX1_requireState_11 : decode cX1_requireState 11 = .ok (.athrow, 1) := dk_191 (dk_at dksX1_requireState_0 11 rfl rfl)
theorem dX1_requireState_12 : decode cX1_requireState 12 = .ok (.return_, 1) := dk_177 (dk_at dksX1_requireState_0 12 rfl rfl)
abbrev cX1_truncate : ByteArray := prog_1_method_11_code
def yX1_truncate : MethodName := ⟨RX1, "truncate", "(I)V"⟩
def dkwX1_truncate_0 : List UInt8 := [27, 133, 9, 42, 180, 0, 79, 133, 184, 0, 10, 184, 0, 85, 42, 27, 181, 0, 79, 177]
abbrev dktX1_truncate_0 : List UInt8 := dkwX1_truncate_0 ++ []
theorem dksX1_truncate_0 : cX1_truncate.data.toList.drop 0 = dktX1_truncate_0 := by decide +kernel
theorem dX1_truncate_0 : decode cX1_truncate 0 = .ok (.iload_n 1, 1) := dk_27 (dk_at dksX1_truncate_0 0 rfl rfl)
theorem dX1_truncate_1 : decode cX1_truncate 1 = .ok (.i2l, 1) := dk_133 (dk_at dksX1_truncate_0 1 rfl rfl)
theorem dX1_truncate_2 : decode cX1_truncate 2 = .ok (.lconst 0, 1) := dk_9 (dk_at dksX1_truncate_0 2 rfl rfl)
theorem dX1_truncate_3 : decode cX1_truncate 3 = .ok (.aload_n 0, 1) := dk_42 (dk_at dksX1_truncate_0 3 rfl rfl)
theorem dX1_truncate_4 : decode cX1_truncate 4 = .ok (.getfield 79, 3) := dk_180 0 79 (dk_at dksX1_truncate_0 4 rfl rfl)
theorem dX1_truncate_7 : decode cX1_truncate 7 = .ok (.i2l, 1) := dk_133 (dk_at dksX1_truncate_0 7 rfl rfl)
theorem dX1_truncate_8 : decode cX1_truncate 8 = .ok (.invokestatic 10, 3) := dk_184 0 10 (dk_at dksX1_truncate_0 8 rfl rfl)
theorem dX1_truncate_11 : decode cX1_truncate 11 = .ok (.invokestatic 85, 3) := dk_184 0 85 (dk_at dksX1_truncate_0 11 rfl rfl)
theorem dX1_truncate_14 : decode cX1_truncate 14 = .ok (.aload_n 0, 1) := dk_42 (dk_at dksX1_truncate_0 14 rfl rfl)
theorem dX1_truncate_15 : decode cX1_truncate 15 = .ok (.iload_n 1, 1) := dk_27 (dk_at dksX1_truncate_0 15 rfl rfl)
theorem dX1_truncate_16 : decode cX1_truncate 16 = .ok (.putfield 79, 3) := dk_181 0 79 (dk_at dksX1_truncate_0 16 rfl rfl)
theorem dX1_truncate_19 : decode cX1_truncate 19 = .ok (.return_, 1) := dk_177 (dk_at dksX1_truncate_0 19 rfl rfl)
abbrev cX1_in : ByteArray := prog_1_method_1_code
def yX1_in : MethodName := ⟨RX1, "in", "(JJJ)Z"⟩
def dkwX1_in_0 : List UInt8 := [30, 32, 148, 155, 0, 14, 30, 22, 4, 148, 157, 0, 7, 4, 167, 0, 4, 3, 172]
abbrev dktX1_in_0 : List UInt8 := dkwX1_in_0 ++ []
theorem dksX1_in_0 : cX1_in.data.toList.drop 0 = dktX1_in_0 := by decide +kernel
theorem dX1_in_0 : decode cX1_in 0 = .ok (.lload_n 0, 1) := dk_30 (dk_at dksX1_in_0 0 rfl rfl)
theorem dX1_in_1 : decode cX1_in 1 = .ok (.lload_n 2, 1) := dk_32 (dk_at dksX1_in_0 1 rfl rfl)
theorem dX1_in_2 : decode cX1_in 2 = .ok (.lcmp, 1) := dk_148 (dk_at dksX1_in_0 2 rfl rfl)
theorem dX1_in_3 : decode cX1_in 3 = .ok (.ifCond .lt 14, 3) := dk_155 0 14 (dk_at dksX1_in_0 3 rfl rfl)
theorem dX1_in_6 : decode cX1_in 6 = .ok (.lload_n 0, 1) := dk_30 (dk_at dksX1_in_0 6 rfl rfl)
theorem dX1_in_7 : decode cX1_in 7 = .ok (.lload 4, 2) := dk_22 4 (dk_at dksX1_in_0 7 rfl rfl)
theorem dX1_in_9 : decode cX1_in 9 = .ok (.lcmp, 1) := dk_148 (dk_at dksX1_in_0 9 rfl rfl)
theorem dX1_in_10 : decode cX1_in 10 = .ok (.ifCond .gt 7, 3) := dk_157 0 7 (dk_at dksX1_in_0 10 rfl rfl)
theorem dX1_in_13 : decode cX1_in 13 = .ok (.iconst 1, 1) := dk_4 (dk_at dksX1_in_0 13 rfl rfl)
theorem dX1_in_14 : decode cX1_in 14 = .ok (.goto 4, 3) := dk_167 0 4 (dk_at dksX1_in_0 14 rfl rfl)
theorem dX1_in_17 : decode cX1_in 17 = .ok (.iconst 0, 1) := dk_3 (dk_at dksX1_in_0 17 rfl rfl)
theorem dX1_in_18 : decode cX1_in 18 = .ok (.ireturn, 1) := dk_172 (dk_at dksX1_in_0 18 rfl rfl)
abbrev cX1_requireArgument : ByteArray := prog_1_method_2_code
def yX1_requireArgument : MethodName := ⟨RX1, "requireArgument", "(Z)V"⟩
def dkwX1_requireArgument_0 : List UInt8 := [26, 154, 0, 11, 187, 0, 1, 89, 183, 0, 3, 191, 177]
abbrev dktX1_requireArgument_0 : List UInt8 := dkwX1_requireArgument_0 ++ []
theorem dksX1_requireArgument_0 : cX1_requireArgument.data.toList.drop 0 = dktX1_requireArgument_0 := by decide +kernel
theorem dX1_requireArgument_0 : decode cX1_requireArgument 0 = .ok (.iload_n 0, 1) := dk_26 (dk_at dksX1_requireArgument_0 0 rfl rfl)
theorem dX1_requireArgument_1 : decode cX1_requireArgument 1 = .ok (.ifCond .ne 11, 3) := dk_154 0 11 (dk_at dksX1_requireArgument_0 1 rfl rfl)
theorem dX1_requireArgument_4 : decode cX1_requireArgument 4 = .ok (.new 1, 3) := dk_187 0 1 (dk_at dksX1_requireArgument_0 4 rfl rfl)
theorem dX1_requireArgument_7 : decode cX1_requireArgument 7 = .ok (.dup, 1) := dk_89 (dk_at dksX1_requireArgument_0 7 rfl rfl)
theorem dX1_requireArgument_8 : decode cX1_requireArgument 8 = .ok (.invokespecial 3, 3) := dk_183 0 3 (dk_at dksX1_requireArgument_0 8 rfl rfl)
theorem dX1_requireArgument_11 : decode cX1_requireArgument 11 = .ok (.athrow, 1) := dk_191 (dk_at dksX1_requireArgument_0 11 rfl rfl)
theorem dX1_requireArgument_12 : decode cX1_requireArgument 12 = .ok (.return_, 1) := dk_177 (dk_at dksX1_requireArgument_0 12 rfl rfl)
abbrev cX1_load : ByteArray := prog_1_method_13_code
def yX1_load : MethodName := ⟨RX1, "load", "()I"⟩
def dkwX1_load_2 : List UInt8 := [182, 0, 112, 42, 180, 0, 47, 180, 0, 115, 182, 0, 119, 172]
abbrev dktX1_load_2 : List UInt8 := dkwX1_load_2 ++ []
def dkwX1_load_1 : List UInt8 := [167, 0, 20, 77, 42, 44, 180, 0, 109, 181, 0, 64, 187, 0, 1, 89, 183, 0, 3, 191, 42, 180, 0, 56]
abbrev dktX1_load_1 : List UInt8 := dkwX1_load_1 ++ dktX1_load_2
def dkwX1_load_0 : List UInt8 := [42, 182, 0, 99, 76, 42, 3, 181, 0, 79, 42, 2, 181, 0, 64, 42, 43, 182, 0, 103, 181, 0, 47]
abbrev dktX1_load_0 : List UInt8 := dkwX1_load_0 ++ dktX1_load_1
theorem dksX1_load_0 : cX1_load.data.toList.drop 0 = dktX1_load_0 := by decide +kernel
theorem dksX1_load_1 : cX1_load.data.toList.drop 23 = dktX1_load_1 := dk_seg dksX1_load_0 23 rfl rfl
theorem dksX1_load_2 : cX1_load.data.toList.drop 47 = dktX1_load_2 := dk_seg dksX1_load_1 24 rfl rfl
theorem dX1_load_0 : decode cX1_load 0 = .ok (.aload_n 0, 1) := dk_42 (dk_at dksX1_load_0 0 rfl rfl)
theorem dX1_load_1 : decode cX1_load 1 = .ok (.invokevirtual 99, 3) := dk_182 0 99 (dk_at dksX1_load_0 1 rfl rfl)
theorem dX1_load_4 : decode cX1_load 4 = .ok (.astore_n 1, 1) := dk_76 (dk_at dksX1_load_0 4 rfl rfl)
theorem dX1_load_5 : decode cX1_load 5 = .ok (.aload_n 0, 1) := dk_42 (dk_at dksX1_load_0 5 rfl rfl)
theorem dX1_load_6 : decode cX1_load 6 = .ok (.iconst 0, 1) := dk_3 (dk_at dksX1_load_0 6 rfl rfl)
theorem dX1_load_7 : decode cX1_load 7 = .ok (.putfield 79, 3) := dk_181 0 79 (dk_at dksX1_load_0 7 rfl rfl)
theorem dX1_load_10 : decode cX1_load 10 = .ok (.aload_n 0, 1) := dk_42 (dk_at dksX1_load_0 10 rfl rfl)
theorem dX1_load_11 : decode cX1_load 11 = .ok (.iconst (-1), 1) := dk_2 (dk_at dksX1_load_0 11 rfl rfl)
theorem dX1_load_12 : decode cX1_load 12 = .ok (.putfield 64, 3) := dk_181 0 64 (dk_at dksX1_load_0 12 rfl rfl)
theorem dX1_load_15 : decode cX1_load 15 = .ok (.aload_n 0, 1) := dk_42 (dk_at dksX1_load_0 15 rfl rfl)
theorem dX1_load_16 : decode cX1_load 16 = .ok (.aload_n 1, 1) := dk_43 (dk_at dksX1_load_0 16 rfl rfl)
theorem dX1_load_17 : decode cX1_load 17 = .ok (.invokevirtual 103, 3) := dk_182 0 103 (dk_at dksX1_load_0 17 rfl rfl)
theorem dX1_load_20 : decode cX1_load 20 = .ok (.putfield 47, 3) := dk_181 0 47 (dk_at dksX1_load_0 20 rfl rfl)
theorem dX1_load_23 : decode cX1_load 23 = .ok (.goto 20, 3) := dk_167 0 20 (dk_at dksX1_load_1 0 rfl rfl)
theorem dX1_load_26 : decode cX1_load 26 = .ok (.astore_n 2, 1) := dk_77 (dk_at dksX1_load_1 3 rfl rfl)
theorem dX1_load_27 : decode cX1_load 27 = .ok (.aload_n 0, 1) := dk_42 (dk_at dksX1_load_1 4 rfl rfl)
theorem dX1_load_28 : decode cX1_load 28 = .ok (.aload_n 2, 1) := dk_44 (dk_at dksX1_load_1 5 rfl rfl)
theorem dX1_load_29 : decode cX1_load 29 = .ok (.getfield 109, 3) := dk_180 0 109 (dk_at dksX1_load_1 6 rfl rfl)
theorem dX1_load_32 : decode cX1_load 32 = .ok (.putfield 64, 3) := dk_181 0 64 (dk_at dksX1_load_1 9 rfl rfl)
theorem dX1_load_35 : decode cX1_load 35 = .ok (.new 1, 3) := dk_187 0 1 (dk_at dksX1_load_1 12 rfl rfl)
theorem dX1_load_38 : decode cX1_load 38 = .ok (.dup, 1) := dk_89 (dk_at dksX1_load_1 15 rfl rfl)
theorem dX1_load_39 : decode cX1_load 39 = .ok (.invokespecial 3, 3) := dk_183 0 3 (dk_at dksX1_load_1 16 rfl rfl)
theorem dX1_load_42 : decode cX1_load 42 = .ok (.athrow, 1) := dk_191 (dk_at dksX1_load_1 19 rfl rfl)
theorem dX1_load_43 : decode cX1_load 43 = .ok (.aload_n 0, 1) := dk_42 (dk_at dksX1_load_1 20 rfl rfl)
theorem dX1_load_44 : decode cX1_load 44 = .ok (.getfield 56, 3) := dk_180 0 56 (dk_at dksX1_load_1 21 rfl rfl)
theorem dX1_load_47 : decode cX1_load 47 = .ok (.invokevirtual 112, 3) := dk_182 0 112 (dk_at dksX1_load_2 0 rfl rfl)
theorem dX1_load_50 : decode cX1_load 50 = .ok (.aload_n 0, 1) := dk_42 (dk_at dksX1_load_2 3 rfl rfl)
theorem dX1_load_51 : decode cX1_load 51 = .ok (.getfield 47, 3) := dk_180 0 47 (dk_at dksX1_load_2 4 rfl rfl)
theorem dX1_load_54 : decode cX1_load 54 = .ok (.getfield 115, 3) := dk_180 0 115 (dk_at dksX1_load_2 7 rfl rfl)
theorem dX1_load_57 : decode cX1_load 57 = .ok (.invokevirtual 119, 3) := dk_182 0 119 (dk_at dksX1_load_2 10 rfl rfl)
theorem dX1_load_60 : decode cX1_load 60 = .ok (.ireturn, 1) := dk_172 (dk_at dksX1_load_2 13 rfl rfl)
abbrev cX1_parser : ByteArray := prog_1_method_12_code
def yX1_parser : MethodName := ⟨RX1, "parser", "()LBatchRenamer$Parser;"⟩
def dkwX1_parser_1 : List UInt8 := [89, 43, 183, 0, 96, 176]
abbrev dktX1_parser_1 : List UInt8 := dkwX1_parser_1 ++ []
def dkwX1_parser_0 : List UInt8 := [42, 180, 0, 79, 188, 8, 76, 42, 180, 0, 60, 3, 43, 3, 42, 180, 0, 79, 184, 0, 88, 187, 0, 94]
abbrev dktX1_parser_0 : List UInt8 := dkwX1_parser_0 ++ dktX1_parser_1
theorem dksX1_parser_0 : cX1_parser.data.toList.drop 0 = dktX1_parser_0 := by decide +kernel
theorem dksX1_parser_1 : cX1_parser.data.toList.drop 24 = dktX1_parser_1 := dk_seg dksX1_parser_0 24 rfl rfl
theorem dX1_parser_0 : decode cX1_parser 0 = .ok (.aload_n 0, 1) := dk_42 (dk_at dksX1_parser_0 0 rfl rfl)
theorem dX1_parser_1 : decode cX1_parser 1 = .ok (.getfield 79, 3) := dk_180 0 79 (dk_at dksX1_parser_0 1 rfl rfl)
theorem dX1_parser_4 : decode cX1_parser 4 = .ok (.newarray .byte, 2) := dk_188_8 (dk_at dksX1_parser_0 4 rfl rfl)
theorem dX1_parser_6 : decode cX1_parser 6 = .ok (.astore_n 1, 1) := dk_76 (dk_at dksX1_parser_0 6 rfl rfl)
theorem dX1_parser_7 : decode cX1_parser 7 = .ok (.aload_n 0, 1) := dk_42 (dk_at dksX1_parser_0 7 rfl rfl)
theorem dX1_parser_8 : decode cX1_parser 8 = .ok (.getfield 60, 3) := dk_180 0 60 (dk_at dksX1_parser_0 8 rfl rfl)
theorem dX1_parser_11 : decode cX1_parser 11 = .ok (.iconst 0, 1) := dk_3 (dk_at dksX1_parser_0 11 rfl rfl)
theorem dX1_parser_12 : decode cX1_parser 12 = .ok (.aload_n 1, 1) := dk_43 (dk_at dksX1_parser_0 12 rfl rfl)
theorem dX1_parser_13 : decode cX1_parser 13 = .ok (.iconst 0, 1) := dk_3 (dk_at dksX1_parser_0 13 rfl rfl)
theorem dX1_parser_14 : decode cX1_parser 14 = .ok (.aload_n 0, 1) := dk_42 (dk_at dksX1_parser_0 14 rfl rfl)
theorem dX1_parser_15 : decode cX1_parser 15 = .ok (.getfield 79, 3) := dk_180 0 79 (dk_at dksX1_parser_0 15 rfl rfl)
theorem dX1_parser_18 : decode cX1_parser 18 = .ok (.invokestatic 88, 3) := dk_184 0 88 (dk_at dksX1_parser_0 18 rfl rfl)
theorem dX1_parser_21 : decode cX1_parser 21 = .ok (.new 94, 3) := dk_187 0 94 (dk_at dksX1_parser_0 21 rfl rfl)
theorem dX1_parser_24 : decode cX1_parser 24 = .ok (.dup, 1) := dk_89 (dk_at dksX1_parser_1 0 rfl rfl)
theorem dX1_parser_25 : decode cX1_parser 25 = .ok (.aload_n 1, 1) := dk_43 (dk_at dksX1_parser_1 1 rfl rfl)
theorem dX1_parser_26 : decode cX1_parser 26 = .ok (.invokespecial 96, 3) := dk_183 0 96 (dk_at dksX1_parser_1 2 rfl rfl)
theorem dX1_parser_29 : decode cX1_parser 29 = .ok (.areturn, 1) := dk_176 (dk_at dksX1_parser_1 5 rfl rfl)
abbrev cX1_isPlain : ByteArray := prog_1_method_5_code
def yX1_isPlain : MethodName := ⟨RX1, "isPlain", "(C)Z"⟩
def dkwX1_isPlain_1 : List UInt8 := [184, 0, 10, 154, 0, 15, 26, 16, 46, 159, 0, 9, 26, 16, 45, 160, 0, 7, 4, 167, 0, 4, 3, 172]
abbrev dktX1_isPlain_1 : List UInt8 := dkwX1_isPlain_1 ++ []
def dkwX1_isPlain_0 : List UInt8 := [26, 133, 20, 0, 19, 20, 0, 21, 184, 0, 10, 154, 0, 29, 26, 133, 20, 0, 23, 20, 0, 25]
abbrev dktX1_isPlain_0 : List UInt8 := dkwX1_isPlain_0 ++ dktX1_isPlain_1
theorem dksX1_isPlain_0 : cX1_isPlain.data.toList.drop 0 = dktX1_isPlain_0 := by decide +kernel
theorem dksX1_isPlain_1 : cX1_isPlain.data.toList.drop 22 = dktX1_isPlain_1 := dk_seg dksX1_isPlain_0 22 rfl rfl
theorem dX1_isPlain_0 : decode cX1_isPlain 0 = .ok (.iload_n 0, 1) := dk_26 (dk_at dksX1_isPlain_0 0 rfl rfl)
theorem dX1_isPlain_1 : decode cX1_isPlain 1 = .ok (.i2l, 1) := dk_133 (dk_at dksX1_isPlain_0 1 rfl rfl)
theorem dX1_isPlain_2 : decode cX1_isPlain 2 = .ok (.ldc2_w 19, 3) := dk_20 0 19 (dk_at dksX1_isPlain_0 2 rfl rfl)
theorem dX1_isPlain_5 : decode cX1_isPlain 5 = .ok (.ldc2_w 21, 3) := dk_20 0 21 (dk_at dksX1_isPlain_0 5 rfl rfl)
theorem dX1_isPlain_8 : decode cX1_isPlain 8 = .ok (.invokestatic 10, 3) := dk_184 0 10 (dk_at dksX1_isPlain_0 8 rfl rfl)
theorem dX1_isPlain_11 : decode cX1_isPlain 11 = .ok (.ifCond .ne 29, 3) := dk_154 0 29 (dk_at dksX1_isPlain_0 11 rfl rfl)
theorem dX1_isPlain_14 : decode cX1_isPlain 14 = .ok (.iload_n 0, 1) := dk_26 (dk_at dksX1_isPlain_0 14 rfl rfl)
theorem dX1_isPlain_15 : decode cX1_isPlain 15 = .ok (.i2l, 1) := dk_133 (dk_at dksX1_isPlain_0 15 rfl rfl)
theorem dX1_isPlain_16 : decode cX1_isPlain 16 = .ok (.ldc2_w 23, 3) := dk_20 0 23 (dk_at dksX1_isPlain_0 16 rfl rfl)
theorem dX1_isPlain_19 : decode cX1_isPlain 19 = .ok (.ldc2_w 25, 3) := dk_20 0 25 (dk_at dksX1_isPlain_0 19 rfl rfl)
theorem dX1_isPlain_22 : decode cX1_isPlain 22 = .ok (.invokestatic 10, 3) := dk_184 0 10 (dk_at dksX1_isPlain_1 0 rfl rfl)
theorem dX1_isPlain_25 : decode cX1_isPlain 25 = .ok (.ifCond .ne 15, 3) := dk_154 0 15 (dk_at dksX1_isPlain_1 3 rfl rfl)
theorem dX1_isPlain_28 : decode cX1_isPlain 28 = .ok (.iload_n 0, 1) := dk_26 (dk_at dksX1_isPlain_1 6 rfl rfl)
theorem dX1_isPlain_29 : decode cX1_isPlain 29 = .ok (.bipush 46, 2) := dk_16 46 (dk_at dksX1_isPlain_1 7 rfl rfl)
theorem dX1_isPlain_31 : decode cX1_isPlain 31 = .ok (.if_icmp .eq 9, 3) := dk_159 0 9 (dk_at dksX1_isPlain_1 9 rfl rfl)
theorem dX1_isPlain_34 : decode cX1_isPlain 34 = .ok (.iload_n 0, 1) := dk_26 (dk_at dksX1_isPlain_1 12 rfl rfl)
theorem dX1_isPlain_35 : decode cX1_isPlain 35 = .ok (.bipush 45, 2) := dk_16 45 (dk_at dksX1_isPlain_1 13 rfl rfl)
theorem dX1_isPlain_37 : decode cX1_isPlain 37 = .ok (.if_icmp .ne 7, 3) := dk_160 0 7 (dk_at dksX1_isPlain_1 15 rfl rfl)
theorem dX1_isPlain_40 : decode cX1_isPlain 40 = .ok (.iconst 1, 1) := dk_4 (dk_at dksX1_isPlain_1 18 rfl rfl)
theorem dX1_isPlain_41 : decode cX1_isPlain 41 = .ok (.goto 4, 3) := dk_167 0 4 (dk_at dksX1_isPlain_1 19 rfl rfl)
theorem dX1_isPlain_44 : decode cX1_isPlain 44 = .ok (.iconst 0, 1) := dk_3 (dk_at dksX1_isPlain_1 22 rfl rfl)
theorem dX1_isPlain_45 : decode cX1_isPlain 45 = .ok (.ireturn, 1) := dk_172 (dk_at dksX1_isPlain_1 23 rfl rfl)
abbrev cX1_isName : ByteArray := prog_1_method_6_code
def yX1_isName : MethodName := ⟨RX1, "isName", "(Ljava/lang/String;I)Z"⟩
def dkwX1_isName_1 : List UInt8 := [29, 182, 0, 33, 184, 0, 37, 126, 61, 132, 3, 1, 167, 255, 234, 28, 172]
abbrev dktX1_isName_1 : List UInt8 := dkwX1_isName_1 ++ []
def dkwX1_isName_0 : List UInt8 := [42, 182, 0, 27, 133, 10, 27, 133, 184, 0, 10, 61, 3, 62, 29, 42, 182, 0, 27, 162, 0, 20, 28, 42]
abbrev dktX1_isName_0 : List UInt8 := dkwX1_isName_0 ++ dktX1_isName_1
theorem dksX1_isName_0 : cX1_isName.data.toList.drop 0 = dktX1_isName_0 := by decide +kernel
theorem dksX1_isName_1 : cX1_isName.data.toList.drop 24 = dktX1_isName_1 := dk_seg dksX1_isName_0 24 rfl rfl
theorem dX1_isName_0 : decode cX1_isName 0 = .ok (.aload_n 0, 1) := dk_42 (dk_at dksX1_isName_0 0 rfl rfl)
theorem dX1_isName_1 : decode cX1_isName 1 = .ok (.invokevirtual 27, 3) := dk_182 0 27 (dk_at dksX1_isName_0 1 rfl rfl)
theorem dX1_isName_4 : decode cX1_isName 4 = .ok (.i2l, 1) := dk_133 (dk_at dksX1_isName_0 4 rfl rfl)
theorem dX1_isName_5 : decode cX1_isName 5 = .ok (.lconst 1, 1) := dk_10 (dk_at dksX1_isName_0 5 rfl rfl)
theorem dX1_isName_6 : decode cX1_isName 6 = .ok (.iload_n 1, 1) := dk_27 (dk_at dksX1_isName_0 6 rfl rfl)
theorem dX1_isName_7 : decode cX1_isName 7 = .ok (.i2l, 1) := dk_133 (dk_at dksX1_isName_0 7 rfl rfl)
theorem dX1_isName_8 : decode cX1_isName 8 = .ok (.invokestatic 10, 3) := dk_184 0 10 (dk_at dksX1_isName_0 8 rfl rfl)
theorem dX1_isName_11 : decode cX1_isName 11 = .ok (.istore_n 2, 1) := dk_61 (dk_at dksX1_isName_0 11 rfl rfl)
theorem dX1_isName_12 : decode cX1_isName 12 = .ok (.iconst 0, 1) := dk_3 (dk_at dksX1_isName_0 12 rfl rfl)
theorem dX1_isName_13 : decode cX1_isName 13 = .ok (.istore_n 3, 1) := dk_62 (dk_at dksX1_isName_0 13 rfl rfl)
theorem dX1_isName_14 : decode cX1_isName 14 = .ok (.iload_n 3, 1) := dk_29 (dk_at dksX1_isName_0 14 rfl rfl)
theorem dX1_isName_15 : decode cX1_isName 15 = .ok (.aload_n 0, 1) := dk_42 (dk_at dksX1_isName_0 15 rfl rfl)
theorem dX1_isName_16 : decode cX1_isName 16 = .ok (.invokevirtual 27, 3) := dk_182 0 27 (dk_at dksX1_isName_0 16 rfl rfl)
theorem dX1_isName_19 : decode cX1_isName 19 = .ok (.if_icmp .ge 20, 3) := dk_162 0 20 (dk_at dksX1_isName_0 19 rfl rfl)
theorem dX1_isName_22 : decode cX1_isName 22 = .ok (.iload_n 2, 1) := dk_28 (dk_at dksX1_isName_0 22 rfl rfl)
theorem dX1_isName_23 : decode cX1_isName 23 = .ok (.aload_n 0, 1) := dk_42 (dk_at dksX1_isName_0 23 rfl rfl)
theorem dX1_isName_24 : decode cX1_isName 24 = .ok (.iload_n 3, 1) := dk_29 (dk_at dksX1_isName_1 0 rfl rfl)
theorem dX1_isName_25 : decode cX1_isName 25 = .ok (.invokevirtual 33, 3) := dk_182 0 33 (dk_at dksX1_isName_1 1 rfl rfl)
theorem dX1_isName_28 : decode cX1_isName 28 = .ok (.invokestatic 37, 3) := dk_184 0 37 (dk_at dksX1_isName_1 4 rfl rfl)
theorem dX1_isName_31 : decode cX1_isName 31 = .ok (.iand, 1) := dk_126 (dk_at dksX1_isName_1 7 rfl rfl)
theorem dX1_isName_32 : decode cX1_isName 32 = .ok (.istore_n 2, 1) := dk_61 (dk_at dksX1_isName_1 8 rfl rfl)
theorem dX1_isName_33 : decode cX1_isName 33 = .ok (.iinc 3 1, 3) := dk_132 3 1 (dk_at dksX1_isName_1 9 rfl rfl)
theorem dX1_isName_36 : decode cX1_isName 36 = .ok (.goto (-22), 3) := dk_167 255 234 (dk_at dksX1_isName_1 12 rfl rfl)
theorem dX1_isName_39 : decode cX1_isName 39 = .ok (.iload_n 2, 1) := dk_28 (dk_at dksX1_isName_1 15 rfl rfl)
theorem dX1_isName_40 : decode cX1_isName 40 = .ok (.ireturn, 1) := dk_172 (dk_at dksX1_isName_1 16 rfl rfl)
abbrev cX1_isKept : ByteArray := prog_1_method_21_code
def yX1_isKept : MethodName := ⟨RX1, "isKept", "(I)Z"⟩
def dkwX1_isKept_0 : List UInt8 := [42, 27, 182, 0, 144, 180, 0, 152, 172]
abbrev dktX1_isKept_0 : List UInt8 := dkwX1_isKept_0 ++ []
theorem dksX1_isKept_0 : cX1_isKept.data.toList.drop 0 = dktX1_isKept_0 := by decide +kernel
theorem dX1_isKept_0 : decode cX1_isKept 0 = .ok (.aload_n 0, 1) := dk_42 (dk_at dksX1_isKept_0 0 rfl rfl)
theorem dX1_isKept_1 : decode cX1_isKept 1 = .ok (.iload_n 1, 1) := dk_27 (dk_at dksX1_isKept_0 1 rfl rfl)
theorem dX1_isKept_2 : decode cX1_isKept 2 = .ok (.invokevirtual 144, 3) := dk_182 0 144 (dk_at dksX1_isKept_0 2 rfl rfl)
theorem dX1_isKept_5 : decode cX1_isKept 5 = .ok (.getfield 152, 3) := dk_180 0 152 (dk_at dksX1_isKept_0 5 rfl rfl)
theorem dX1_isKept_8 : decode cX1_isKept 8 = .ok (.ireturn, 1) := dk_172 (dk_at dksX1_isKept_0 8 rfl rfl)
abbrev cX1_file : ByteArray := prog_1_method_15_code
def yX1_file : MethodName := ⟨RX1, "file", "(I)LBatchRenamer$Entry;"⟩
def dkwX1_file_1 : List UInt8 := [182, 0, 128, 192, 0, 132, 176]
abbrev dktX1_file_1 : List UInt8 := dkwX1_file_1 ++ []
def dkwX1_file_0 : List UInt8 := [27, 42, 180, 0, 47, 180, 0, 115, 182, 0, 119, 184, 0, 124, 42, 180, 0, 47, 180, 0, 115, 27]
abbrev dktX1_file_0 : List UInt8 := dkwX1_file_0 ++ dktX1_file_1
theorem dksX1_file_0 : cX1_file.data.toList.drop 0 = dktX1_file_0 := by decide +kernel
theorem dksX1_file_1 : cX1_file.data.toList.drop 22 = dktX1_file_1 := dk_seg dksX1_file_0 22 rfl rfl
theorem dX1_file_0 : decode cX1_file 0 = .ok (.iload_n 1, 1) := dk_27 (dk_at dksX1_file_0 0 rfl rfl)
theorem dX1_file_1 : decode cX1_file 1 = .ok (.aload_n 0, 1) := dk_42 (dk_at dksX1_file_0 1 rfl rfl)
theorem dX1_file_2 : decode cX1_file 2 = .ok (.getfield 47, 3) := dk_180 0 47 (dk_at dksX1_file_0 2 rfl rfl)
theorem dX1_file_5 : decode cX1_file 5 = .ok (.getfield 115, 3) := dk_180 0 115 (dk_at dksX1_file_0 5 rfl rfl)
theorem dX1_file_8 : decode cX1_file 8 = .ok (.invokevirtual 119, 3) := dk_182 0 119 (dk_at dksX1_file_0 8 rfl rfl)
theorem dX1_file_11 : decode cX1_file 11 = .ok (.invokestatic 124, 3) := dk_184 0 124 (dk_at dksX1_file_0 11 rfl rfl)
theorem dX1_file_14 : decode cX1_file 14 = .ok (.aload_n 0, 1) := dk_42 (dk_at dksX1_file_0 14 rfl rfl)
theorem dX1_file_15 : decode cX1_file 15 = .ok (.getfield 47, 3) := dk_180 0 47 (dk_at dksX1_file_0 15 rfl rfl)
theorem dX1_file_18 : decode cX1_file 18 = .ok (.getfield 115, 3) := dk_180 0 115 (dk_at dksX1_file_0 18 rfl rfl)
theorem dX1_file_21 : decode cX1_file 21 = .ok (.iload_n 1, 1) := dk_27 (dk_at dksX1_file_0 21 rfl rfl)
theorem dX1_file_22 : decode cX1_file 22 = .ok (.invokevirtual 128, 3) := dk_182 0 128 (dk_at dksX1_file_1 0 rfl rfl)
theorem dX1_file_25 : decode cX1_file 25 = .ok (.checkcast 132, 3) := dk_192 0 132 (dk_at dksX1_file_1 3 rfl rfl)
theorem dX1_file_28 : decode cX1_file 28 = .ok (.areturn, 1) := dk_176 (dk_at dksX1_file_1 6 rfl rfl)
abbrev cX1_requireIndex : ByteArray := prog_1_method_4_code
def yX1_requireIndex : MethodName := ⟨RX1, "requireIndex", "(II)V"⟩
def dkwX1_requireIndex_0 : List UInt8 := [26, 133, 9, 27, 4, 100, 133, 184, 0, 10, 154, 0, 11, 187, 0, 16, 89, 183, 0, 18, 191, 177]
abbrev dktX1_requireIndex_0 : List UInt8 := dkwX1_requireIndex_0 ++ []
theorem dksX1_requireIndex_0 : cX1_requireIndex.data.toList.drop 0 = dktX1_requireIndex_0 := by decide +kernel
theorem dX1_requireIndex_0 : decode cX1_requireIndex 0 = .ok (.iload_n 0, 1) := dk_26 (dk_at dksX1_requireIndex_0 0 rfl rfl)
theorem dX1_requireIndex_1 : decode cX1_requireIndex 1 = .ok (.i2l, 1) := dk_133 (dk_at dksX1_requireIndex_0 1 rfl rfl)
theorem dX1_requireIndex_2 : decode cX1_requireIndex 2 = .ok (.lconst 0, 1) := dk_9 (dk_at dksX1_requireIndex_0 2 rfl rfl)
theorem dX1_requireIndex_3 : decode cX1_requireIndex 3 = .ok (.iload_n 1, 1) := dk_27 (dk_at dksX1_requireIndex_0 3 rfl rfl)
theorem dX1_requireIndex_4 : decode cX1_requireIndex 4 = .ok (.iconst 1, 1) := dk_4 (dk_at dksX1_requireIndex_0 4 rfl rfl)
theorem dX1_requireIndex_5 : decode cX1_requireIndex 5 = .ok (.isub, 1) := dk_100 (dk_at dksX1_requireIndex_0 5 rfl rfl)
theorem dX1_requireIndex_6 : decode cX1_requireIndex 6 = .ok (.i2l, 1) := dk_133 (dk_at dksX1_requireIndex_0 6 rfl rfl)
theorem dX1_requireIndex_7 : decode cX1_requireIndex 7 = .ok (.invokestatic 10, 3) := dk_184 0 10 (dk_at dksX1_requireIndex_0 7 rfl rfl)
theorem dX1_requireIndex_10 : decode cX1_requireIndex 10 = .ok (.ifCond .ne 11, 3) := dk_154 0 11 (dk_at dksX1_requireIndex_0 10 rfl rfl)
theorem dX1_requireIndex_13 : decode cX1_requireIndex 13 = .ok (.new 16, 3) := dk_187 0 16 (dk_at dksX1_requireIndex_0 13 rfl rfl)
theorem dX1_requireIndex_16 : decode cX1_requireIndex 16 = .ok (.dup, 1) := dk_89 (dk_at dksX1_requireIndex_0 16 rfl rfl)
theorem dX1_requireIndex_17 : decode cX1_requireIndex 17 = .ok (.invokespecial 18, 3) := dk_183 0 18 (dk_at dksX1_requireIndex_0 17 rfl rfl)
theorem dX1_requireIndex_20 : decode cX1_requireIndex 20 = .ok (.athrow, 1) := dk_191 (dk_at dksX1_requireIndex_0 20 rfl rfl)
theorem dX1_requireIndex_21 : decode cX1_requireIndex 21 = .ok (.return_, 1) := dk_177 (dk_at dksX1_requireIndex_0 21 rfl rfl)
abbrev cX1_length : ByteArray := prog_1_method_22_code
def yX1_length : MethodName := ⟨RX1, "length", "(I)I"⟩
def dkwX1_length_0 : List UInt8 := [42, 27, 182, 0, 144, 180, 0, 156, 182, 0, 27, 172]
abbrev dktX1_length_0 : List UInt8 := dkwX1_length_0 ++ []
theorem dksX1_length_0 : cX1_length.data.toList.drop 0 = dktX1_length_0 := by decide +kernel
theorem dX1_length_0 : decode cX1_length 0 = .ok (.aload_n 0, 1) := dk_42 (dk_at dksX1_length_0 0 rfl rfl)
theorem dX1_length_1 : decode cX1_length 1 = .ok (.iload_n 1, 1) := dk_27 (dk_at dksX1_length_0 1 rfl rfl)
theorem dX1_length_2 : decode cX1_length 2 = .ok (.invokevirtual 144, 3) := dk_182 0 144 (dk_at dksX1_length_0 2 rfl rfl)
theorem dX1_length_5 : decode cX1_length 5 = .ok (.getfield 156, 3) := dk_180 0 156 (dk_at dksX1_length_0 5 rfl rfl)
theorem dX1_length_8 : decode cX1_length 8 = .ok (.invokevirtual 27, 3) := dk_182 0 27 (dk_at dksX1_length_0 8 rfl rfl)
theorem dX1_length_11 : decode cX1_length 11 = .ok (.ireturn, 1) := dk_172 (dk_at dksX1_length_0 11 rfl rfl)
abbrev cX1_rank : ByteArray := prog_1_method_25_code
def yX1_rank : MethodName := ⟨RX1, "rank", "(I)I"⟩
def dkwX1_rank_0 : List UInt8 := [42, 27, 182, 0, 144, 180, 0, 156, 77, 42, 42, 44, 186, 0, 172, 0, 0, 182, 0, 175, 184, 0, 179, 172]
abbrev dktX1_rank_0 : List UInt8 := dkwX1_rank_0 ++ []
theorem dksX1_rank_0 : cX1_rank.data.toList.drop 0 = dktX1_rank_0 := by decide +kernel
theorem dX1_rank_0 : decode cX1_rank 0 = .ok (.aload_n 0, 1) := dk_42 (dk_at dksX1_rank_0 0 rfl rfl)
theorem dX1_rank_1 : decode cX1_rank 1 = .ok (.iload_n 1, 1) := dk_27 (dk_at dksX1_rank_0 1 rfl rfl)
theorem dX1_rank_2 : decode cX1_rank 2 = .ok (.invokevirtual 144, 3) := dk_182 0 144 (dk_at dksX1_rank_0 2 rfl rfl)
theorem dX1_rank_5 : decode cX1_rank 5 = .ok (.getfield 156, 3) := dk_180 0 156 (dk_at dksX1_rank_0 5 rfl rfl)
theorem dX1_rank_8 : decode cX1_rank 8 = .ok (.astore_n 2, 1) := dk_77 (dk_at dksX1_rank_0 8 rfl rfl)
theorem dX1_rank_9 : decode cX1_rank 9 = .ok (.aload_n 0, 1) := dk_42 (dk_at dksX1_rank_0 9 rfl rfl)
theorem dX1_rank_10 : decode cX1_rank 10 = .ok (.aload_n 0, 1) := dk_42 (dk_at dksX1_rank_0 10 rfl rfl)
theorem dX1_rank_11 : decode cX1_rank 11 = .ok (.aload_n 2, 1) := dk_44 (dk_at dksX1_rank_0 11 rfl rfl)
theorem dX1_rank_12 : decode cX1_rank 12 = .ok (.invokedynamic 172, 5) := by decide +kernel
theorem dX1_rank_17 : decode cX1_rank 17 = .ok (.invokevirtual 175, 3) := dk_182 0 175 (dk_at dksX1_rank_0 17 rfl rfl)
theorem dX1_rank_20 : decode cX1_rank 20 = .ok (.invokestatic 179, 3) := dk_184 0 179 (dk_at dksX1_rank_0 20 rfl rfl)
theorem dX1_rank_23 : decode cX1_rank 23 = .ok (.ireturn, 1) := dk_172 (dk_at dksX1_rank_0 23 rfl rfl)
abbrev cX1_lambda_rank_0 : ByteArray := prog_1_method_76_code
def yX1_lambda_rank_0 : MethodName := ⟨RX1, "lambda$rank$0", "(Ljava/lang/String;I)Z"⟩
def dkwX1_lambda_rank_0_0 : List UInt8 := [42, 180, 0, 47, 180, 0, 115, 28, 182, 0, 128, 192, 0, 132, 180, 0, 156, 43, 184, 1, 157, 172]
abbrev dktX1_lambda_rank_0_0 : List UInt8 := dkwX1_lambda_rank_0_0 ++ []
theorem dksX1_lambda_rank_0_0 : cX1_lambda_rank_0.data.toList.drop 0 = dktX1_lambda_rank_0_0 := by decide +kernel
theorem dX1_lambda_rank_0_0 : decode cX1_lambda_rank_0 0 = .ok (.aload_n 0, 1) := dk_42 (dk_at dksX1_lambda_rank_0_0 0 rfl rfl)
theorem dX1_lambda_rank_0_1 : decode cX1_lambda_rank_0 1 = .ok (.getfield 47, 3) := dk_180 0 47 (dk_at dksX1_lambda_rank_0_0 1 rfl rfl)
theorem dX1_lambda_rank_0_4 : decode cX1_lambda_rank_0 4 = .ok (.getfield 115, 3) := dk_180 0 115 (dk_at dksX1_lambda_rank_0_0 4 rfl rfl)
theorem dX1_lambda_rank_0_7 : decode cX1_lambda_rank_0 7 = .ok (.iload_n 2, 1) := dk_28 (dk_at dksX1_lambda_rank_0_0 7 rfl rfl)
theorem dX1_lambda_rank_0_8 : decode cX1_lambda_rank_0 8 = .ok (.invokevirtual 128, 3) := dk_182 0 128 (dk_at dksX1_lambda_rank_0_0 8 rfl rfl)
theorem dX1_lambda_rank_0_11 : decode cX1_lambda_rank_0 11 = .ok (.checkcast 132, 3) := dk_192 0 132 (dk_at dksX1_lambda_rank_0_0 11 rfl rfl)
theorem dX1_lambda_rank_0_14 : decode cX1_lambda_rank_0 14 = .ok (.getfield 156, 3) := dk_180 0 156 (dk_at dksX1_lambda_rank_0_0 14 rfl rfl)
theorem dX1_lambda_rank_0_17 : decode cX1_lambda_rank_0 17 = .ok (.aload_n 1, 1) := dk_43 (dk_at dksX1_lambda_rank_0_0 17 rfl rfl)
theorem dX1_lambda_rank_0_18 : decode cX1_lambda_rank_0 18 = .ok (.invokestatic 413, 3) := dk_184 1 157 (dk_at dksX1_lambda_rank_0_0 18 rfl rfl)
theorem dX1_lambda_rank_0_21 : decode cX1_lambda_rank_0 21 = .ok (.ireturn, 1) := dk_172 (dk_at dksX1_lambda_rank_0_0 21 rfl rfl)
abbrev cX1_isBefore : ByteArray := prog_1_method_7_code
def yX1_isBefore : MethodName := ⟨RX1, "isBefore", "(Ljava/lang/String;Ljava/lang/String;)Z"⟩
def dkwX1_isBefore_3 : List UInt8 := [172]
abbrev dktX1_isBefore_3 : List UInt8 := dkwX1_isBefore_3 ++ []
def dkwX1_isBefore_2 : List UInt8 := [182, 0, 27, 159, 0, 16, 42, 28, 182, 0, 33, 43, 28, 182, 0, 33, 162, 0, 7, 4, 167, 0, 4, 3]
abbrev dktX1_isBefore_2 : List UInt8 := dkwX1_isBefore_2 ++ dktX1_isBefore_3
def dkwX1_isBefore_1 : List UInt8 := [28, 182, 0, 33, 160, 0, 9, 132, 2, 1, 167, 255, 224, 28, 43, 182, 0, 27, 162, 0, 28, 28, 42]
abbrev dktX1_isBefore_1 : List UInt8 := dkwX1_isBefore_1 ++ dktX1_isBefore_2
def dkwX1_isBefore_0 : List UInt8 := [3, 61, 28, 42, 182, 0, 27, 162, 0, 30, 28, 43, 182, 0, 27, 162, 0, 22, 42, 28, 182, 0, 33, 43]
abbrev dktX1_isBefore_0 : List UInt8 := dkwX1_isBefore_0 ++ dktX1_isBefore_1
theorem dksX1_isBefore_0 : cX1_isBefore.data.toList.drop 0 = dktX1_isBefore_0 := by decide +kernel
theorem dksX1_isBefore_1 : cX1_isBefore.data.toList.drop 24 = dktX1_isBefore_1 := dk_seg dksX1_isBefore_0 24 rfl rfl
theorem dksX1_isBefore_2 : cX1_isBefore.data.toList.drop 47 = dktX1_isBefore_2 := dk_seg dksX1_isBefore_1 23 rfl rfl
theorem dksX1_isBefore_3 : cX1_isBefore.data.toList.drop 71 = dktX1_isBefore_3 := dk_seg dksX1_isBefore_2 24 rfl rfl
theorem dX1_isBefore_0 : decode cX1_isBefore 0 = .ok (.iconst 0, 1) := dk_3 (dk_at dksX1_isBefore_0 0 rfl rfl)
theorem dX1_isBefore_1 : decode cX1_isBefore 1 = .ok (.istore_n 2, 1) := dk_61 (dk_at dksX1_isBefore_0 1 rfl rfl)
theorem dX1_isBefore_2 : decode cX1_isBefore 2 = .ok (.iload_n 2, 1) := dk_28 (dk_at dksX1_isBefore_0 2 rfl rfl)
theorem dX1_isBefore_3 : decode cX1_isBefore 3 = .ok (.aload_n 0, 1) := dk_42 (dk_at dksX1_isBefore_0 3 rfl rfl)
theorem dX1_isBefore_4 : decode cX1_isBefore 4 = .ok (.invokevirtual 27, 3) := dk_182 0 27 (dk_at dksX1_isBefore_0 4 rfl rfl)
theorem dX1_isBefore_7 : decode cX1_isBefore 7 = .ok (.if_icmp .ge 30, 3) := dk_162 0 30 (dk_at dksX1_isBefore_0 7 rfl rfl)
theorem dX1_isBefore_10 : decode cX1_isBefore 10 = .ok (.iload_n 2, 1) := dk_28 (dk_at dksX1_isBefore_0 10 rfl rfl)
theorem dX1_isBefore_11 : decode cX1_isBefore 11 = .ok (.aload_n 1, 1) := dk_43 (dk_at dksX1_isBefore_0 11 rfl rfl)
theorem dX1_isBefore_12 : decode cX1_isBefore 12 = .ok (.invokevirtual 27, 3) := dk_182 0 27 (dk_at dksX1_isBefore_0 12 rfl rfl)
theorem dX1_isBefore_15 : decode cX1_isBefore 15 = .ok (.if_icmp .ge 22, 3) := dk_162 0 22 (dk_at dksX1_isBefore_0 15 rfl rfl)
theorem dX1_isBefore_18 : decode cX1_isBefore 18 = .ok (.aload_n 0, 1) := dk_42 (dk_at dksX1_isBefore_0 18 rfl rfl)
theorem dX1_isBefore_19 : decode cX1_isBefore 19 = .ok (.iload_n 2, 1) := dk_28 (dk_at dksX1_isBefore_0 19 rfl rfl)
theorem dX1_isBefore_20 : decode cX1_isBefore 20 = .ok (.invokevirtual 33, 3) := dk_182 0 33 (dk_at dksX1_isBefore_0 20 rfl rfl)
theorem dX1_isBefore_23 : decode cX1_isBefore 23 = .ok (.aload_n 1, 1) := dk_43 (dk_at dksX1_isBefore_0 23 rfl rfl)
theorem dX1_isBefore_24 : decode cX1_isBefore 24 = .ok (.iload_n 2, 1) := dk_28 (dk_at dksX1_isBefore_1 0 rfl rfl)
theorem dX1_isBefore_25 : decode cX1_isBefore 25 = .ok (.invokevirtual 33, 3) := dk_182 0 33 (dk_at dksX1_isBefore_1 1 rfl rfl)
theorem dX1_isBefore_28 : decode cX1_isBefore 28 = .ok (.if_icmp .ne 9, 3) := dk_160 0 9 (dk_at dksX1_isBefore_1 4 rfl rfl)
theorem dX1_isBefore_31 : decode cX1_isBefore 31 = .ok (.iinc 2 1, 3) := dk_132 2 1 (dk_at dksX1_isBefore_1 7 rfl rfl)
theorem dX1_isBefore_34 : decode cX1_isBefore 34 = .ok (.goto (-32), 3) := dk_167 255 224 (dk_at dksX1_isBefore_1 10 rfl rfl)
theorem dX1_isBefore_37 : decode cX1_isBefore 37 = .ok (.iload_n 2, 1) := dk_28 (dk_at dksX1_isBefore_1 13 rfl rfl)
theorem dX1_isBefore_38 : decode cX1_isBefore 38 = .ok (.aload_n 1, 1) := dk_43 (dk_at dksX1_isBefore_1 14 rfl rfl)
theorem dX1_isBefore_39 : decode cX1_isBefore 39 = .ok (.invokevirtual 27, 3) := dk_182 0 27 (dk_at dksX1_isBefore_1 15 rfl rfl)
theorem dX1_isBefore_42 : decode cX1_isBefore 42 = .ok (.if_icmp .ge 28, 3) := dk_162 0 28 (dk_at dksX1_isBefore_1 18 rfl rfl)
theorem dX1_isBefore_45 : decode cX1_isBefore 45 = .ok (.iload_n 2, 1) := dk_28 (dk_at dksX1_isBefore_1 21 rfl rfl)
theorem dX1_isBefore_46 : decode cX1_isBefore 46 = .ok (.aload_n 0, 1) := dk_42 (dk_at dksX1_isBefore_1 22 rfl rfl)
theorem dX1_isBefore_47 : decode cX1_isBefore 47 = .ok (.invokevirtual 27, 3) := dk_182 0 27 (dk_at dksX1_isBefore_2 0 rfl rfl)
theorem dX1_isBefore_50 : decode cX1_isBefore 50 = .ok (.if_icmp .eq 16, 3) := dk_159 0 16 (dk_at dksX1_isBefore_2 3 rfl rfl)
theorem dX1_isBefore_53 : decode cX1_isBefore 53 = .ok (.aload_n 0, 1) := dk_42 (dk_at dksX1_isBefore_2 6 rfl rfl)
theorem dX1_isBefore_54 : decode cX1_isBefore 54 = .ok (.iload_n 2, 1) := dk_28 (dk_at dksX1_isBefore_2 7 rfl rfl)
theorem dX1_isBefore_55 : decode cX1_isBefore 55 = .ok (.invokevirtual 33, 3) := dk_182 0 33 (dk_at dksX1_isBefore_2 8 rfl rfl)
theorem dX1_isBefore_58 : decode cX1_isBefore 58 = .ok (.aload_n 1, 1) := dk_43 (dk_at dksX1_isBefore_2 11 rfl rfl)
theorem dX1_isBefore_59 : decode cX1_isBefore 59 = .ok (.iload_n 2, 1) := dk_28 (dk_at dksX1_isBefore_2 12 rfl rfl)
theorem dX1_isBefore_60 : decode cX1_isBefore 60 = .ok (.invokevirtual 33, 3) := dk_182 0 33 (dk_at dksX1_isBefore_2 13 rfl rfl)
theorem dX1_isBefore_63 : decode cX1_isBefore 63 = .ok (.if_icmp .ge 7, 3) := dk_162 0 7 (dk_at dksX1_isBefore_2 16 rfl rfl)
theorem dX1_isBefore_66 : decode cX1_isBefore 66 = .ok (.iconst 1, 1) := dk_4 (dk_at dksX1_isBefore_2 19 rfl rfl)
theorem dX1_isBefore_67 : decode cX1_isBefore 67 = .ok (.goto 4, 3) := dk_167 0 4 (dk_at dksX1_isBefore_2 20 rfl rfl)
theorem dX1_isBefore_70 : decode cX1_isBefore 70 = .ok (.iconst 0, 1) := dk_3 (dk_at dksX1_isBefore_2 23 rfl rfl)
theorem dX1_isBefore_71 : decode cX1_isBefore 71 = .ok (.ireturn, 1) := dk_172 (dk_at dksX1_isBefore_3 0 rfl rfl)
abbrev cX1_counting : ByteArray := prog_1_method_26_code
def yX1_counting : MethodName := ⟨RX1, "counting", "(I)I"⟩
def dkwX1_counting_2 : List UInt8 := [180, 0, 190, 172]
abbrev dktX1_counting_2 : List UInt8 := dkwX1_counting_2 ++ []
def dkwX1_counting_1 : List UInt8 := [167, 0, 25, 27, 4, 160, 0, 13, 42, 180, 0, 47, 180, 0, 187, 167, 0, 10, 42, 180, 0, 47]
abbrev dktX1_counting_1 : List UInt8 := dkwX1_counting_1 ++ dktX1_counting_2
def dkwX1_counting_0 : List UInt8 := [27, 133, 9, 20, 0, 182, 184, 0, 10, 184, 0, 85, 27, 154, 0, 13, 42, 180, 0, 47, 180, 0, 184]
abbrev dktX1_counting_0 : List UInt8 := dkwX1_counting_0 ++ dktX1_counting_1
theorem dksX1_counting_0 : cX1_counting.data.toList.drop 0 = dktX1_counting_0 := by decide +kernel
theorem dksX1_counting_1 : cX1_counting.data.toList.drop 23 = dktX1_counting_1 := dk_seg dksX1_counting_0 23 rfl rfl
theorem dksX1_counting_2 : cX1_counting.data.toList.drop 45 = dktX1_counting_2 := dk_seg dksX1_counting_1 22 rfl rfl
theorem dX1_counting_0 : decode cX1_counting 0 = .ok (.iload_n 1, 1) := dk_27 (dk_at dksX1_counting_0 0 rfl rfl)
theorem dX1_counting_1 : decode cX1_counting 1 = .ok (.i2l, 1) := dk_133 (dk_at dksX1_counting_0 1 rfl rfl)
theorem dX1_counting_2 : decode cX1_counting 2 = .ok (.lconst 0, 1) := dk_9 (dk_at dksX1_counting_0 2 rfl rfl)
theorem dX1_counting_3 : decode cX1_counting 3 = .ok (.ldc2_w 182, 3) := dk_20 0 182 (dk_at dksX1_counting_0 3 rfl rfl)
theorem dX1_counting_6 : decode cX1_counting 6 = .ok (.invokestatic 10, 3) := dk_184 0 10 (dk_at dksX1_counting_0 6 rfl rfl)
theorem dX1_counting_9 : decode cX1_counting 9 = .ok (.invokestatic 85, 3) := dk_184 0 85 (dk_at dksX1_counting_0 9 rfl rfl)
theorem dX1_counting_12 : decode cX1_counting 12 = .ok (.iload_n 1, 1) := dk_27 (dk_at dksX1_counting_0 12 rfl rfl)
theorem dX1_counting_13 : decode cX1_counting 13 = .ok (.ifCond .ne 13, 3) := dk_154 0 13 (dk_at dksX1_counting_0 13 rfl rfl)
theorem dX1_counting_16 : decode cX1_counting 16 = .ok (.aload_n 0, 1) := dk_42 (dk_at dksX1_counting_0 16 rfl rfl)
theorem dX1_counting_17 : decode cX1_counting 17 = .ok (.getfield 47, 3) := dk_180 0 47 (dk_at dksX1_counting_0 17 rfl rfl)
theorem dX1_counting_20 : decode cX1_counting 20 = .ok (.getfield 184, 3) := dk_180 0 184 (dk_at dksX1_counting_0 20 rfl rfl)
theorem dX1_counting_23 : decode cX1_counting 23 = .ok (.goto 25, 3) := dk_167 0 25 (dk_at dksX1_counting_1 0 rfl rfl)
theorem dX1_counting_26 : decode cX1_counting 26 = .ok (.iload_n 1, 1) := dk_27 (dk_at dksX1_counting_1 3 rfl rfl)
theorem dX1_counting_27 : decode cX1_counting 27 = .ok (.iconst 1, 1) := dk_4 (dk_at dksX1_counting_1 4 rfl rfl)
theorem dX1_counting_28 : decode cX1_counting 28 = .ok (.if_icmp .ne 13, 3) := dk_160 0 13 (dk_at dksX1_counting_1 5 rfl rfl)
theorem dX1_counting_31 : decode cX1_counting 31 = .ok (.aload_n 0, 1) := dk_42 (dk_at dksX1_counting_1 8 rfl rfl)
theorem dX1_counting_32 : decode cX1_counting 32 = .ok (.getfield 47, 3) := dk_180 0 47 (dk_at dksX1_counting_1 9 rfl rfl)
theorem dX1_counting_35 : decode cX1_counting 35 = .ok (.getfield 187, 3) := dk_180 0 187 (dk_at dksX1_counting_1 12 rfl rfl)
theorem dX1_counting_38 : decode cX1_counting 38 = .ok (.goto 10, 3) := dk_167 0 10 (dk_at dksX1_counting_1 15 rfl rfl)
theorem dX1_counting_41 : decode cX1_counting 41 = .ok (.aload_n 0, 1) := dk_42 (dk_at dksX1_counting_1 18 rfl rfl)
theorem dX1_counting_42 : decode cX1_counting 42 = .ok (.getfield 47, 3) := dk_180 0 47 (dk_at dksX1_counting_1 19 rfl rfl)
theorem dX1_counting_45 : decode cX1_counting 45 = .ok (.getfield 190, 3) := dk_180 0 190 (dk_at dksX1_counting_2 0 rfl rfl)
theorem dX1_counting_48 : decode cX1_counting 48 = .ok (.ireturn, 1) := dk_172 (dk_at dksX1_counting_2 3 rfl rfl)
abbrev cX1_wildcards : ByteArray := prog_1_method_27_code
def yX1_wildcards : MethodName := ⟨RX1, "wildcards", "(I)I"⟩
def dkwX1_wildcards_0 : List UInt8 := [42, 27, 182, 0, 193, 180, 0, 197, 172]
abbrev dktX1_wildcards_0 : List UInt8 := dkwX1_wildcards_0 ++ []
theorem dksX1_wildcards_0 : cX1_wildcards.data.toList.drop 0 = dktX1_wildcards_0 := by decide +kernel
theorem dX1_wildcards_0 : decode cX1_wildcards 0 = .ok (.aload_n 0, 1) := dk_42 (dk_at dksX1_wildcards_0 0 rfl rfl)
theorem dX1_wildcards_1 : decode cX1_wildcards 1 = .ok (.iload_n 1, 1) := dk_27 (dk_at dksX1_wildcards_0 1 rfl rfl)
theorem dX1_wildcards_2 : decode cX1_wildcards 2 = .ok (.invokevirtual 193, 3) := dk_182 0 193 (dk_at dksX1_wildcards_0 2 rfl rfl)
theorem dX1_wildcards_5 : decode cX1_wildcards 5 = .ok (.getfield 197, 3) := dk_180 0 197 (dk_at dksX1_wildcards_0 5 rfl rfl)
theorem dX1_wildcards_8 : decode cX1_wildcards 8 = .ok (.ireturn, 1) := dk_172 (dk_at dksX1_wildcards_0 8 rfl rfl)
abbrev cX1_rule : ByteArray := prog_1_method_16_code
def yX1_rule : MethodName := ⟨RX1, "rule", "(I)LBatchRenamer$Rule;"⟩
def dkwX1_rule_1 : List UInt8 := [182, 0, 128, 192, 0, 137, 176]
abbrev dktX1_rule_1 : List UInt8 := dkwX1_rule_1 ++ []
def dkwX1_rule_0 : List UInt8 := [27, 42, 180, 0, 47, 180, 0, 134, 182, 0, 119, 184, 0, 124, 42, 180, 0, 47, 180, 0, 134, 27]
abbrev dktX1_rule_0 : List UInt8 := dkwX1_rule_0 ++ dktX1_rule_1
theorem dksX1_rule_0 : cX1_rule.data.toList.drop 0 = dktX1_rule_0 := by decide +kernel
theorem dksX1_rule_1 : cX1_rule.data.toList.drop 22 = dktX1_rule_1 := dk_seg dksX1_rule_0 22 rfl rfl
theorem dX1_rule_0 : decode cX1_rule 0 = .ok (.iload_n 1, 1) := dk_27 (dk_at dksX1_rule_0 0 rfl rfl)
theorem dX1_rule_1 : decode cX1_rule 1 = .ok (.aload_n 0, 1) := dk_42 (dk_at dksX1_rule_0 1 rfl rfl)
theorem dX1_rule_2 : decode cX1_rule 2 = .ok (.getfield 47, 3) := dk_180 0 47 (dk_at dksX1_rule_0 2 rfl rfl)
theorem dX1_rule_5 : decode cX1_rule 5 = .ok (.getfield 134, 3) := dk_180 0 134 (dk_at dksX1_rule_0 5 rfl rfl)
theorem dX1_rule_8 : decode cX1_rule 8 = .ok (.invokevirtual 119, 3) := dk_182 0 119 (dk_at dksX1_rule_0 8 rfl rfl)
theorem dX1_rule_11 : decode cX1_rule 11 = .ok (.invokestatic 124, 3) := dk_184 0 124 (dk_at dksX1_rule_0 11 rfl rfl)
theorem dX1_rule_14 : decode cX1_rule 14 = .ok (.aload_n 0, 1) := dk_42 (dk_at dksX1_rule_0 14 rfl rfl)
theorem dX1_rule_15 : decode cX1_rule 15 = .ok (.getfield 47, 3) := dk_180 0 47 (dk_at dksX1_rule_0 15 rfl rfl)
theorem dX1_rule_18 : decode cX1_rule 18 = .ok (.getfield 134, 3) := dk_180 0 134 (dk_at dksX1_rule_0 18 rfl rfl)
theorem dX1_rule_21 : decode cX1_rule 21 = .ok (.iload_n 1, 1) := dk_27 (dk_at dksX1_rule_0 21 rfl rfl)
theorem dX1_rule_22 : decode cX1_rule 22 = .ok (.invokevirtual 128, 3) := dk_182 0 128 (dk_at dksX1_rule_1 0 rfl rfl)
theorem dX1_rule_25 : decode cX1_rule 25 = .ok (.checkcast 137, 3) := dk_192 0 137 (dk_at dksX1_rule_1 3 rfl rfl)
theorem dX1_rule_28 : decode cX1_rule 28 = .ok (.areturn, 1) := dk_176 (dk_at dksX1_rule_1 6 rfl rfl)
abbrev cX1_matches : ByteArray := prog_1_method_28_code
def yX1_matches : MethodName := ⟨RX1, "matches", "(II)Z"⟩
def dkwX1_matches_0 : List UInt8 := [42, 27, 182, 0, 193, 78, 42, 28, 182, 0, 144, 58, 4, 42, 180, 0, 47, 27, 28, 182, 0, 200, 172]
abbrev dktX1_matches_0 : List UInt8 := dkwX1_matches_0 ++ []
theorem dksX1_matches_0 : cX1_matches.data.toList.drop 0 = dktX1_matches_0 := by decide +kernel
theorem dX1_matches_0 : decode cX1_matches 0 = .ok (.aload_n 0, 1) := dk_42 (dk_at dksX1_matches_0 0 rfl rfl)
theorem dX1_matches_1 : decode cX1_matches 1 = .ok (.iload_n 1, 1) := dk_27 (dk_at dksX1_matches_0 1 rfl rfl)
theorem dX1_matches_2 : decode cX1_matches 2 = .ok (.invokevirtual 193, 3) := dk_182 0 193 (dk_at dksX1_matches_0 2 rfl rfl)
theorem dX1_matches_5 : decode cX1_matches 5 = .ok (.astore_n 3, 1) := dk_78 (dk_at dksX1_matches_0 5 rfl rfl)
theorem dX1_matches_6 : decode cX1_matches 6 = .ok (.aload_n 0, 1) := dk_42 (dk_at dksX1_matches_0 6 rfl rfl)
theorem dX1_matches_7 : decode cX1_matches 7 = .ok (.iload_n 2, 1) := dk_28 (dk_at dksX1_matches_0 7 rfl rfl)
theorem dX1_matches_8 : decode cX1_matches 8 = .ok (.invokevirtual 144, 3) := dk_182 0 144 (dk_at dksX1_matches_0 8 rfl rfl)
theorem dX1_matches_11 : decode cX1_matches 11 = .ok (.astore 4, 2) := dk_58 4 (dk_at dksX1_matches_0 11 rfl rfl)
theorem dX1_matches_13 : decode cX1_matches 13 = .ok (.aload_n 0, 1) := dk_42 (dk_at dksX1_matches_0 13 rfl rfl)
theorem dX1_matches_14 : decode cX1_matches 14 = .ok (.getfield 47, 3) := dk_180 0 47 (dk_at dksX1_matches_0 14 rfl rfl)
theorem dX1_matches_17 : decode cX1_matches 17 = .ok (.iload_n 1, 1) := dk_27 (dk_at dksX1_matches_0 17 rfl rfl)
theorem dX1_matches_18 : decode cX1_matches 18 = .ok (.iload_n 2, 1) := dk_28 (dk_at dksX1_matches_0 18 rfl rfl)
theorem dX1_matches_19 : decode cX1_matches 19 = .ok (.invokevirtual 200, 3) := dk_182 0 200 (dk_at dksX1_matches_0 19 rfl rfl)
theorem dX1_matches_22 : decode cX1_matches 22 = .ok (.ireturn, 1) := dk_172 (dk_at dksX1_matches_0 22 rfl rfl)
abbrev cX1_capture : ByteArray := prog_1_method_29_code
def yX1_capture : MethodName := ⟨RX1, "capture", "(IIII)I"⟩
def dkwX1_capture_4 : List UInt8 := [180, 0, 214, 29, 4, 100, 46, 172]
abbrev dktX1_capture_4 : List UInt8 := dkwX1_capture_4 ++ []
def dkwX1_capture_3 : List UInt8 := [180, 0, 47, 180, 0, 204, 180, 0, 208, 29, 4, 100, 46, 167, 0, 17, 42, 180, 0, 47, 180, 0, 204]
abbrev dktX1_capture_3 : List UInt8 := dkwX1_capture_3 ++ dktX1_capture_4
def dkwX1_capture_2 : List UInt8 := [184, 0, 85, 42, 180, 0, 47, 27, 28, 182, 0, 200, 154, 0, 5, 2, 172, 21, 4, 154, 0, 20, 42]
abbrev dktX1_capture_2 : List UInt8 := dkwX1_capture_2 ++ dktX1_capture_3
def dkwX1_capture_1 : List UInt8 := [184, 0, 10, 153, 0, 18, 21, 4, 133, 9, 10, 184, 0, 10, 153, 0, 7, 4, 167, 0, 4, 3]
abbrev dktX1_capture_1 : List UInt8 := dkwX1_capture_1 ++ dktX1_capture_2
def dkwX1_capture_0 : List UInt8 := [42, 27, 182, 0, 193, 58, 5, 42, 28, 182, 0, 144, 58, 6, 29, 133, 10, 25, 5, 180, 0, 197, 133]
abbrev dktX1_capture_0 : List UInt8 := dkwX1_capture_0 ++ dktX1_capture_1
theorem dksX1_capture_0 : cX1_capture.data.toList.drop 0 = dktX1_capture_0 := by decide +kernel
theorem dksX1_capture_1 : cX1_capture.data.toList.drop 23 = dktX1_capture_1 := dk_seg dksX1_capture_0 23 rfl rfl
theorem dksX1_capture_2 : cX1_capture.data.toList.drop 45 = dktX1_capture_2 := dk_seg dksX1_capture_1 22 rfl rfl
theorem dksX1_capture_3 : cX1_capture.data.toList.drop 68 = dktX1_capture_3 := dk_seg dksX1_capture_2 23 rfl rfl
theorem dksX1_capture_4 : cX1_capture.data.toList.drop 91 = dktX1_capture_4 := dk_seg dksX1_capture_3 23 rfl rfl
theorem dX1_capture_0 : decode cX1_capture 0 = .ok (.aload_n 0, 1) := dk_42 (dk_at dksX1_capture_0 0 rfl rfl)
theorem dX1_capture_1 : decode cX1_capture 1 = .ok (.iload_n 1, 1) := dk_27 (dk_at dksX1_capture_0 1 rfl rfl)
theorem dX1_capture_2 : decode cX1_capture 2 = .ok (.invokevirtual 193, 3) := dk_182 0 193 (dk_at dksX1_capture_0 2 rfl rfl)
theorem dX1_capture_5 : decode cX1_capture 5 = .ok (.astore 5, 2) := dk_58 5 (dk_at dksX1_capture_0 5 rfl rfl)
theorem dX1_capture_7 : decode cX1_capture 7 = .ok (.aload_n 0, 1) := dk_42 (dk_at dksX1_capture_0 7 rfl rfl)
theorem dX1_capture_8 : decode cX1_capture 8 = .ok (.iload_n 2, 1) := dk_28 (dk_at dksX1_capture_0 8 rfl rfl)
theorem dX1_capture_9 : decode cX1_capture 9 = .ok (.invokevirtual 144, 3) := dk_182 0 144 (dk_at dksX1_capture_0 9 rfl rfl)
theorem dX1_capture_12 : decode cX1_capture 12 = .ok (.astore 6, 2) := dk_58 6 (dk_at dksX1_capture_0 12 rfl rfl)
theorem dX1_capture_14 : decode cX1_capture 14 = .ok (.iload_n 3, 1) := dk_29 (dk_at dksX1_capture_0 14 rfl rfl)
theorem dX1_capture_15 : decode cX1_capture 15 = .ok (.i2l, 1) := dk_133 (dk_at dksX1_capture_0 15 rfl rfl)
theorem dX1_capture_16 : decode cX1_capture 16 = .ok (.lconst 1, 1) := dk_10 (dk_at dksX1_capture_0 16 rfl rfl)
theorem dX1_capture_17 : decode cX1_capture 17 = .ok (.aload 5, 2) := dk_25 5 (dk_at dksX1_capture_0 17 rfl rfl)
theorem dX1_capture_19 : decode cX1_capture 19 = .ok (.getfield 197, 3) := dk_180 0 197 (dk_at dksX1_capture_0 19 rfl rfl)
theorem dX1_capture_22 : decode cX1_capture 22 = .ok (.i2l, 1) := dk_133 (dk_at dksX1_capture_0 22 rfl rfl)
theorem dX1_capture_23 : decode cX1_capture 23 = .ok (.invokestatic 10, 3) := dk_184 0 10 (dk_at dksX1_capture_1 0 rfl rfl)
theorem dX1_capture_26 : decode cX1_capture 26 = .ok (.ifCond .eq 18, 3) := dk_153 0 18 (dk_at dksX1_capture_1 3 rfl rfl)
theorem dX1_capture_29 : decode cX1_capture 29 = .ok (.iload 4, 2) := dk_21 4 (dk_at dksX1_capture_1 6 rfl rfl)
theorem dX1_capture_31 : decode cX1_capture 31 = .ok (.i2l, 1) := dk_133 (dk_at dksX1_capture_1 8 rfl rfl)
theorem dX1_capture_32 : decode cX1_capture 32 = .ok (.lconst 0, 1) := dk_9 (dk_at dksX1_capture_1 9 rfl rfl)
theorem dX1_capture_33 : decode cX1_capture 33 = .ok (.lconst 1, 1) := dk_10 (dk_at dksX1_capture_1 10 rfl rfl)
theorem dX1_capture_34 : decode cX1_capture 34 = .ok (.invokestatic 10, 3) := dk_184 0 10 (dk_at dksX1_capture_1 11 rfl rfl)
theorem dX1_capture_37 : decode cX1_capture 37 = .ok (.ifCond .eq 7, 3) := dk_153 0 7 (dk_at dksX1_capture_1 14 rfl rfl)
theorem dX1_capture_40 : decode cX1_capture 40 = .ok (.iconst 1, 1) := dk_4 (dk_at dksX1_capture_1 17 rfl rfl)
theorem dX1_capture_41 : decode cX1_capture 41 = .ok (.goto 4, 3) := dk_167 0 4 (dk_at dksX1_capture_1 18 rfl rfl)
theorem dX1_capture_44 : decode cX1_capture 44 = .ok (.iconst 0, 1) := dk_3 (dk_at dksX1_capture_1 21 rfl rfl)
theorem dX1_capture_45 : decode cX1_capture 45 = .ok (.invokestatic 85, 3) := dk_184 0 85 (dk_at dksX1_capture_2 0 rfl rfl)
theorem dX1_capture_48 : decode cX1_capture 48 = .ok (.aload_n 0, 1) := dk_42 (dk_at dksX1_capture_2 3 rfl rfl)
theorem dX1_capture_49 : decode cX1_capture 49 = .ok (.getfield 47, 3) := dk_180 0 47 (dk_at dksX1_capture_2 4 rfl rfl)
theorem dX1_capture_52 : decode cX1_capture 52 = .ok (.iload_n 1, 1) := dk_27 (dk_at dksX1_capture_2 7 rfl rfl)
theorem dX1_capture_53 : decode cX1_capture 53 = .ok (.iload_n 2, 1) := dk_28 (dk_at dksX1_capture_2 8 rfl rfl)
theorem dX1_capture_54 : decode cX1_capture 54 = .ok (.invokevirtual 200, 3) := dk_182 0 200 (dk_at dksX1_capture_2 9 rfl rfl)
theorem dX1_capture_57 : decode cX1_capture 57 = .ok (.ifCond .ne 5, 3) := dk_154 0 5 (dk_at dksX1_capture_2 12 rfl rfl)
theorem dX1_capture_60 : decode cX1_capture 60 = .ok (.iconst (-1), 1) := dk_2 (dk_at dksX1_capture_2 15 rfl rfl)
theorem dX1_capture_61 : decode cX1_capture 61 = .ok (.ireturn, 1) := dk_172 (dk_at dksX1_capture_2 16 rfl rfl)
theorem dX1_capture_62 : decode cX1_capture 62 = .ok (.iload 4, 2) := dk_21 4 (dk_at dksX1_capture_2 17 rfl rfl)
theorem dX1_capture_64 : decode cX1_capture 64 = .ok (.ifCond .ne 20, 3) := dk_154 0 20 (dk_at dksX1_capture_2 19 rfl rfl)
theorem dX1_capture_67 : decode cX1_capture 67 = .ok (.aload_n 0, 1) := dk_42 (dk_at dksX1_capture_2 22 rfl rfl)
theorem dX1_capture_68 : decode cX1_capture 68 = .ok (.getfield 47, 3) := dk_180 0 47 (dk_at dksX1_capture_3 0 rfl rfl)
theorem dX1_capture_71 : decode cX1_capture 71 = .ok (.getfield 204, 3) := dk_180 0 204 (dk_at dksX1_capture_3 3 rfl rfl)
theorem dX1_capture_74 : decode cX1_capture 74 = .ok (.getfield 208, 3) := dk_180 0 208 (dk_at dksX1_capture_3 6 rfl rfl)
theorem dX1_capture_77 : decode cX1_capture 77 = .ok (.iload_n 3, 1) := dk_29 (dk_at dksX1_capture_3 9 rfl rfl)
theorem dX1_capture_78 : decode cX1_capture 78 = .ok (.iconst 1, 1) := dk_4 (dk_at dksX1_capture_3 10 rfl rfl)
theorem dX1_capture_79 : decode cX1_capture 79 = .ok (.isub, 1) := dk_100 (dk_at dksX1_capture_3 11 rfl rfl)
theorem dX1_capture_80 : decode cX1_capture 80 = .ok (.iaload, 1) := dk_46 (dk_at dksX1_capture_3 12 rfl rfl)
theorem dX1_capture_81 : decode cX1_capture 81 = .ok (.goto 17, 3) := dk_167 0 17 (dk_at dksX1_capture_3 13 rfl rfl)
theorem dX1_capture_84 : decode cX1_capture 84 = .ok (.aload_n 0, 1) := dk_42 (dk_at dksX1_capture_3 16 rfl rfl)
theorem dX1_capture_85 : decode cX1_capture 85 = .ok (.getfield 47, 3) := dk_180 0 47 (dk_at dksX1_capture_3 17 rfl rfl)
theorem dX1_capture_88 : decode cX1_capture 88 = .ok (.getfield 204, 3) := dk_180 0 204 (dk_at dksX1_capture_3 20 rfl rfl)
theorem dX1_capture_91 : decode cX1_capture 91 = .ok (.getfield 214, 3) := dk_180 0 214 (dk_at dksX1_capture_4 0 rfl rfl)
theorem dX1_capture_94 : decode cX1_capture 94 = .ok (.iload_n 3, 1) := dk_29 (dk_at dksX1_capture_4 3 rfl rfl)
theorem dX1_capture_95 : decode cX1_capture 95 = .ok (.iconst 1, 1) := dk_4 (dk_at dksX1_capture_4 4 rfl rfl)
theorem dX1_capture_96 : decode cX1_capture 96 = .ok (.isub, 1) := dk_100 (dk_at dksX1_capture_4 5 rfl rfl)
theorem dX1_capture_97 : decode cX1_capture 97 = .ok (.iaload, 1) := dk_46 (dk_at dksX1_capture_4 6 rfl rfl)
theorem dX1_capture_98 : decode cX1_capture 98 = .ok (.ireturn, 1) := dk_172 (dk_at dksX1_capture_4 7 rfl rfl)
abbrev cX1_ruleOf : ByteArray := prog_1_method_30_code
def yX1_ruleOf : MethodName := ⟨RX1, "ruleOf", "(I)I"⟩
def dkwX1_ruleOf_0 : List UInt8 := [42, 27, 182, 0, 144, 77, 42, 180, 0, 47, 27, 182, 0, 217, 172]
abbrev dktX1_ruleOf_0 : List UInt8 := dkwX1_ruleOf_0 ++ []
theorem dksX1_ruleOf_0 : cX1_ruleOf.data.toList.drop 0 = dktX1_ruleOf_0 := by decide +kernel
theorem dX1_ruleOf_0 : decode cX1_ruleOf 0 = .ok (.aload_n 0, 1) := dk_42 (dk_at dksX1_ruleOf_0 0 rfl rfl)
theorem dX1_ruleOf_1 : decode cX1_ruleOf 1 = .ok (.iload_n 1, 1) := dk_27 (dk_at dksX1_ruleOf_0 1 rfl rfl)
theorem dX1_ruleOf_2 : decode cX1_ruleOf 2 = .ok (.invokevirtual 144, 3) := dk_182 0 144 (dk_at dksX1_ruleOf_0 2 rfl rfl)
theorem dX1_ruleOf_5 : decode cX1_ruleOf 5 = .ok (.astore_n 2, 1) := dk_77 (dk_at dksX1_ruleOf_0 5 rfl rfl)
theorem dX1_ruleOf_6 : decode cX1_ruleOf 6 = .ok (.aload_n 0, 1) := dk_42 (dk_at dksX1_ruleOf_0 6 rfl rfl)
theorem dX1_ruleOf_7 : decode cX1_ruleOf 7 = .ok (.getfield 47, 3) := dk_180 0 47 (dk_at dksX1_ruleOf_0 7 rfl rfl)
theorem dX1_ruleOf_10 : decode cX1_ruleOf 10 = .ok (.iload_n 1, 1) := dk_27 (dk_at dksX1_ruleOf_0 10 rfl rfl)
theorem dX1_ruleOf_11 : decode cX1_ruleOf 11 = .ok (.invokevirtual 217, 3) := dk_182 0 217 (dk_at dksX1_ruleOf_0 11 rfl rfl)
theorem dX1_ruleOf_14 : decode cX1_ruleOf 14 = .ok (.ireturn, 1) := dk_172 (dk_at dksX1_ruleOf_0 14 rfl rfl)
abbrev cX1_filesOf : ByteArray := prog_1_method_31_code
def yX1_filesOf : MethodName := ⟨RX1, "filesOf", "(I)I"⟩
def dkwX1_filesOf_0 : List UInt8 := [42, 27, 182, 0, 193, 77, 42, 42, 27, 186, 0, 220, 0, 0, 182, 0, 175, 172]
abbrev dktX1_filesOf_0 : List UInt8 := dkwX1_filesOf_0 ++ []
theorem dksX1_filesOf_0 : cX1_filesOf.data.toList.drop 0 = dktX1_filesOf_0 := by decide +kernel
theorem dX1_filesOf_0 : decode cX1_filesOf 0 = .ok (.aload_n 0, 1) := dk_42 (dk_at dksX1_filesOf_0 0 rfl rfl)
theorem dX1_filesOf_1 : decode cX1_filesOf 1 = .ok (.iload_n 1, 1) := dk_27 (dk_at dksX1_filesOf_0 1 rfl rfl)
theorem dX1_filesOf_2 : decode cX1_filesOf 2 = .ok (.invokevirtual 193, 3) := dk_182 0 193 (dk_at dksX1_filesOf_0 2 rfl rfl)
theorem dX1_filesOf_5 : decode cX1_filesOf 5 = .ok (.astore_n 2, 1) := dk_77 (dk_at dksX1_filesOf_0 5 rfl rfl)
theorem dX1_filesOf_6 : decode cX1_filesOf 6 = .ok (.aload_n 0, 1) := dk_42 (dk_at dksX1_filesOf_0 6 rfl rfl)
theorem dX1_filesOf_7 : decode cX1_filesOf 7 = .ok (.aload_n 0, 1) := dk_42 (dk_at dksX1_filesOf_0 7 rfl rfl)
theorem dX1_filesOf_8 : decode cX1_filesOf 8 = .ok (.iload_n 1, 1) := dk_27 (dk_at dksX1_filesOf_0 8 rfl rfl)
theorem dX1_filesOf_9 : decode cX1_filesOf 9 = .ok (.invokedynamic 220, 5) := by decide +kernel
theorem dX1_filesOf_14 : decode cX1_filesOf 14 = .ok (.invokevirtual 175, 3) := dk_182 0 175 (dk_at dksX1_filesOf_0 14 rfl rfl)
theorem dX1_filesOf_17 : decode cX1_filesOf 17 = .ok (.ireturn, 1) := dk_172 (dk_at dksX1_filesOf_0 17 rfl rfl)
abbrev cX1_lambda_filesOf_1 : ByteArray := prog_1_method_75_code
def yX1_lambda_filesOf_1 : MethodName := ⟨RX1, "lambda$filesOf$1", "(II)Z"⟩
def dkwX1_lambda_filesOf_1_0 : List UInt8 := [42, 180, 0, 47, 28, 182, 0, 217, 27, 160, 0, 7, 4, 167, 0, 4, 3, 172]
abbrev dktX1_lambda_filesOf_1_0 : List UInt8 := dkwX1_lambda_filesOf_1_0 ++ []
theorem dksX1_lambda_filesOf_1_0 : cX1_lambda_filesOf_1.data.toList.drop 0 = dktX1_lambda_filesOf_1_0 := by decide +kernel
theorem dX1_lambda_filesOf_1_0 : decode cX1_lambda_filesOf_1 0 = .ok (.aload_n 0, 1) := dk_42 (dk_at dksX1_lambda_filesOf_1_0 0 rfl rfl)
theorem dX1_lambda_filesOf_1_1 : decode cX1_lambda_filesOf_1 1 = .ok (.getfield 47, 3) := dk_180 0 47 (dk_at dksX1_lambda_filesOf_1_0 1 rfl rfl)
theorem dX1_lambda_filesOf_1_4 : decode cX1_lambda_filesOf_1 4 = .ok (.iload_n 2, 1) := dk_28 (dk_at dksX1_lambda_filesOf_1_0 4 rfl rfl)
theorem dX1_lambda_filesOf_1_5 : decode cX1_lambda_filesOf_1 5 = .ok (.invokevirtual 217, 3) := dk_182 0 217 (dk_at dksX1_lambda_filesOf_1_0 5 rfl rfl)
theorem dX1_lambda_filesOf_1_8 : decode cX1_lambda_filesOf_1 8 = .ok (.iload_n 1, 1) := dk_27 (dk_at dksX1_lambda_filesOf_1_0 8 rfl rfl)
theorem dX1_lambda_filesOf_1_9 : decode cX1_lambda_filesOf_1 9 = .ok (.if_icmp .ne 7, 3) := dk_160 0 7 (dk_at dksX1_lambda_filesOf_1_0 9 rfl rfl)
theorem dX1_lambda_filesOf_1_12 : decode cX1_lambda_filesOf_1 12 = .ok (.iconst 1, 1) := dk_4 (dk_at dksX1_lambda_filesOf_1_0 12 rfl rfl)
theorem dX1_lambda_filesOf_1_13 : decode cX1_lambda_filesOf_1 13 = .ok (.goto 4, 3) := dk_167 0 4 (dk_at dksX1_lambda_filesOf_1_0 13 rfl rfl)
theorem dX1_lambda_filesOf_1_16 : decode cX1_lambda_filesOf_1 16 = .ok (.iconst 0, 1) := dk_3 (dk_at dksX1_lambda_filesOf_1_0 16 rfl rfl)
theorem dX1_lambda_filesOf_1_17 : decode cX1_lambda_filesOf_1 17 = .ok (.ireturn, 1) := dk_172 (dk_at dksX1_lambda_filesOf_1_0 17 rfl rfl)
abbrev cX1_groups : ByteArray := prog_1_method_32_code
def yX1_groups : MethodName := ⟨RX1, "groups", "(I)I"⟩
def dkwX1_groups_0 : List UInt8 := [42, 27, 182, 0, 193, 77, 42, 182, 0, 148, 180, 0, 223, 27, 46, 172]
abbrev dktX1_groups_0 : List UInt8 := dkwX1_groups_0 ++ []
theorem dksX1_groups_0 : cX1_groups.data.toList.drop 0 = dktX1_groups_0 := by decide +kernel
theorem dX1_groups_0 : decode cX1_groups 0 = .ok (.aload_n 0, 1) := dk_42 (dk_at dksX1_groups_0 0 rfl rfl)
theorem dX1_groups_1 : decode cX1_groups 1 = .ok (.iload_n 1, 1) := dk_27 (dk_at dksX1_groups_0 1 rfl rfl)
theorem dX1_groups_2 : decode cX1_groups 2 = .ok (.invokevirtual 193, 3) := dk_182 0 193 (dk_at dksX1_groups_0 2 rfl rfl)
theorem dX1_groups_5 : decode cX1_groups 5 = .ok (.astore_n 2, 1) := dk_77 (dk_at dksX1_groups_0 5 rfl rfl)
theorem dX1_groups_6 : decode cX1_groups 6 = .ok (.aload_n 0, 1) := dk_42 (dk_at dksX1_groups_0 6 rfl rfl)
theorem dX1_groups_7 : decode cX1_groups 7 = .ok (.invokevirtual 148, 3) := dk_182 0 148 (dk_at dksX1_groups_0 7 rfl rfl)
theorem dX1_groups_10 : decode cX1_groups 10 = .ok (.getfield 223, 3) := dk_180 0 223 (dk_at dksX1_groups_0 10 rfl rfl)
theorem dX1_groups_13 : decode cX1_groups 13 = .ok (.iload_n 1, 1) := dk_27 (dk_at dksX1_groups_0 13 rfl rfl)
theorem dX1_groups_14 : decode cX1_groups 14 = .ok (.iaload, 1) := dk_46 (dk_at dksX1_groups_0 14 rfl rfl)
theorem dX1_groups_15 : decode cX1_groups 15 = .ok (.ireturn, 1) := dk_172 (dk_at dksX1_groups_0 15 rfl rfl)
abbrev cX1_counter : ByteArray := prog_1_method_33_code
def yX1_counter : MethodName := ⟨RX1, "counter", "(I)I"⟩
def dkwX1_counter_1 : List UInt8 := [27, 46, 172]
abbrev dktX1_counter_1 : List UInt8 := dkwX1_counter_1 ++ []
def dkwX1_counter_0 : List UInt8 := [42, 27, 182, 0, 226, 77, 44, 180, 0, 230, 27, 46, 2, 160, 0, 7, 2, 167, 0, 9, 44, 180, 0, 232]
abbrev dktX1_counter_0 : List UInt8 := dkwX1_counter_0 ++ dktX1_counter_1
theorem dksX1_counter_0 : cX1_counter.data.toList.drop 0 = dktX1_counter_0 := by decide +kernel
theorem dksX1_counter_1 : cX1_counter.data.toList.drop 24 = dktX1_counter_1 := dk_seg dksX1_counter_0 24 rfl rfl
theorem dX1_counter_0 : decode cX1_counter 0 = .ok (.aload_n 0, 1) := dk_42 (dk_at dksX1_counter_0 0 rfl rfl)
theorem dX1_counter_1 : decode cX1_counter 1 = .ok (.iload_n 1, 1) := dk_27 (dk_at dksX1_counter_0 1 rfl rfl)
theorem dX1_counter_2 : decode cX1_counter 2 = .ok (.invokevirtual 226, 3) := dk_182 0 226 (dk_at dksX1_counter_0 2 rfl rfl)
theorem dX1_counter_5 : decode cX1_counter 5 = .ok (.astore_n 2, 1) := dk_77 (dk_at dksX1_counter_0 5 rfl rfl)
theorem dX1_counter_6 : decode cX1_counter 6 = .ok (.aload_n 2, 1) := dk_44 (dk_at dksX1_counter_0 6 rfl rfl)
theorem dX1_counter_7 : decode cX1_counter 7 = .ok (.getfield 230, 3) := dk_180 0 230 (dk_at dksX1_counter_0 7 rfl rfl)
theorem dX1_counter_10 : decode cX1_counter 10 = .ok (.iload_n 1, 1) := dk_27 (dk_at dksX1_counter_0 10 rfl rfl)
theorem dX1_counter_11 : decode cX1_counter 11 = .ok (.iaload, 1) := dk_46 (dk_at dksX1_counter_0 11 rfl rfl)
theorem dX1_counter_12 : decode cX1_counter 12 = .ok (.iconst (-1), 1) := dk_2 (dk_at dksX1_counter_0 12 rfl rfl)
theorem dX1_counter_13 : decode cX1_counter 13 = .ok (.if_icmp .ne 7, 3) := dk_160 0 7 (dk_at dksX1_counter_0 13 rfl rfl)
theorem dX1_counter_16 : decode cX1_counter 16 = .ok (.iconst (-1), 1) := dk_2 (dk_at dksX1_counter_0 16 rfl rfl)
theorem dX1_counter_17 : decode cX1_counter 17 = .ok (.goto 9, 3) := dk_167 0 9 (dk_at dksX1_counter_0 17 rfl rfl)
theorem dX1_counter_20 : decode cX1_counter 20 = .ok (.aload_n 2, 1) := dk_44 (dk_at dksX1_counter_0 20 rfl rfl)
theorem dX1_counter_21 : decode cX1_counter 21 = .ok (.getfield 232, 3) := dk_180 0 232 (dk_at dksX1_counter_0 21 rfl rfl)
theorem dX1_counter_24 : decode cX1_counter 24 = .ok (.iload_n 1, 1) := dk_27 (dk_at dksX1_counter_1 0 rfl rfl)
theorem dX1_counter_25 : decode cX1_counter 25 = .ok (.iaload, 1) := dk_46 (dk_at dksX1_counter_1 1 rfl rfl)
theorem dX1_counter_26 : decode cX1_counter 26 = .ok (.ireturn, 1) := dk_172 (dk_at dksX1_counter_1 2 rfl rfl)
abbrev cX1_outlookFor : ByteArray := prog_1_method_18_code
def yX1_outlookFor : MethodName := ⟨RX1, "outlookFor", "(I)LBatchRenamer$Outlook;"⟩
def dkwX1_outlookFor_0 : List UInt8 := [42, 27, 182, 0, 144, 77, 42, 182, 0, 148, 176]
abbrev dktX1_outlookFor_0 : List UInt8 := dkwX1_outlookFor_0 ++ []
theorem dksX1_outlookFor_0 : cX1_outlookFor.data.toList.drop 0 = dktX1_outlookFor_0 := by decide +kernel
theorem dX1_outlookFor_0 : decode cX1_outlookFor 0 = .ok (.aload_n 0, 1) := dk_42 (dk_at dksX1_outlookFor_0 0 rfl rfl)
theorem dX1_outlookFor_1 : decode cX1_outlookFor 1 = .ok (.iload_n 1, 1) := dk_27 (dk_at dksX1_outlookFor_0 1 rfl rfl)
theorem dX1_outlookFor_2 : decode cX1_outlookFor 2 = .ok (.invokevirtual 144, 3) := dk_182 0 144 (dk_at dksX1_outlookFor_0 2 rfl rfl)
theorem dX1_outlookFor_5 : decode cX1_outlookFor 5 = .ok (.astore_n 2, 1) := dk_77 (dk_at dksX1_outlookFor_0 5 rfl rfl)
theorem dX1_outlookFor_6 : decode cX1_outlookFor 6 = .ok (.aload_n 0, 1) := dk_42 (dk_at dksX1_outlookFor_0 6 rfl rfl)
theorem dX1_outlookFor_7 : decode cX1_outlookFor 7 = .ok (.invokevirtual 148, 3) := dk_182 0 148 (dk_at dksX1_outlookFor_0 7 rfl rfl)
theorem dX1_outlookFor_10 : decode cX1_outlookFor 10 = .ok (.areturn, 1) := dk_176 (dk_at dksX1_outlookFor_0 10 rfl rfl)
abbrev cX1_status : ByteArray := prog_1_method_34_code
def yX1_status : MethodName := ⟨RX1, "status", "(I)I"⟩
def dkwX1_status_0 : List UInt8 := [42, 27, 182, 0, 226, 180, 0, 235, 27, 46, 172]
abbrev dktX1_status_0 : List UInt8 := dkwX1_status_0 ++ []
theorem dksX1_status_0 : cX1_status.data.toList.drop 0 = dktX1_status_0 := by decide +kernel
theorem dX1_status_0 : decode cX1_status 0 = .ok (.aload_n 0, 1) := dk_42 (dk_at dksX1_status_0 0 rfl rfl)
theorem dX1_status_1 : decode cX1_status 1 = .ok (.iload_n 1, 1) := dk_27 (dk_at dksX1_status_0 1 rfl rfl)
theorem dX1_status_2 : decode cX1_status 2 = .ok (.invokevirtual 226, 3) := dk_182 0 226 (dk_at dksX1_status_0 2 rfl rfl)
theorem dX1_status_5 : decode cX1_status 5 = .ok (.getfield 235, 3) := dk_180 0 235 (dk_at dksX1_status_0 5 rfl rfl)
theorem dX1_status_8 : decode cX1_status 8 = .ok (.iload_n 1, 1) := dk_27 (dk_at dksX1_status_0 8 rfl rfl)
theorem dX1_status_9 : decode cX1_status 9 = .ok (.iaload, 1) := dk_46 (dk_at dksX1_status_0 9 rfl rfl)
theorem dX1_status_10 : decode cX1_status 10 = .ok (.ireturn, 1) := dk_172 (dk_at dksX1_status_0 10 rfl rfl)
abbrev cX1_newLength : ByteArray := prog_1_method_35_code
def yX1_newLength : MethodName := ⟨RX1, "newLength", "(I)I"⟩
def dkwX1_newLength_1 : List UInt8 := [27, 50, 182, 0, 27, 172]
abbrev dktX1_newLength_1 : List UInt8 := dkwX1_newLength_1 ++ []
def dkwX1_newLength_0 : List UInt8 := [42, 27, 182, 0, 226, 77, 44, 180, 0, 230, 27, 46, 2, 160, 0, 7, 2, 167, 0, 12, 44, 180, 0, 238]
abbrev dktX1_newLength_0 : List UInt8 := dkwX1_newLength_0 ++ dktX1_newLength_1
theorem dksX1_newLength_0 : cX1_newLength.data.toList.drop 0 = dktX1_newLength_0 := by decide +kernel
theorem dksX1_newLength_1 : cX1_newLength.data.toList.drop 24 = dktX1_newLength_1 := dk_seg dksX1_newLength_0 24 rfl rfl
theorem dX1_newLength_0 : decode cX1_newLength 0 = .ok (.aload_n 0, 1) := dk_42 (dk_at dksX1_newLength_0 0 rfl rfl)
theorem dX1_newLength_1 : decode cX1_newLength 1 = .ok (.iload_n 1, 1) := dk_27 (dk_at dksX1_newLength_0 1 rfl rfl)
theorem dX1_newLength_2 : decode cX1_newLength 2 = .ok (.invokevirtual 226, 3) := dk_182 0 226 (dk_at dksX1_newLength_0 2 rfl rfl)
theorem dX1_newLength_5 : decode cX1_newLength 5 = .ok (.astore_n 2, 1) := dk_77 (dk_at dksX1_newLength_0 5 rfl rfl)
theorem dX1_newLength_6 : decode cX1_newLength 6 = .ok (.aload_n 2, 1) := dk_44 (dk_at dksX1_newLength_0 6 rfl rfl)
theorem dX1_newLength_7 : decode cX1_newLength 7 = .ok (.getfield 230, 3) := dk_180 0 230 (dk_at dksX1_newLength_0 7 rfl rfl)
theorem dX1_newLength_10 : decode cX1_newLength 10 = .ok (.iload_n 1, 1) := dk_27 (dk_at dksX1_newLength_0 10 rfl rfl)
theorem dX1_newLength_11 : decode cX1_newLength 11 = .ok (.iaload, 1) := dk_46 (dk_at dksX1_newLength_0 11 rfl rfl)
theorem dX1_newLength_12 : decode cX1_newLength 12 = .ok (.iconst (-1), 1) := dk_2 (dk_at dksX1_newLength_0 12 rfl rfl)
theorem dX1_newLength_13 : decode cX1_newLength 13 = .ok (.if_icmp .ne 7, 3) := dk_160 0 7 (dk_at dksX1_newLength_0 13 rfl rfl)
theorem dX1_newLength_16 : decode cX1_newLength 16 = .ok (.iconst (-1), 1) := dk_2 (dk_at dksX1_newLength_0 16 rfl rfl)
theorem dX1_newLength_17 : decode cX1_newLength 17 = .ok (.goto 12, 3) := dk_167 0 12 (dk_at dksX1_newLength_0 17 rfl rfl)
theorem dX1_newLength_20 : decode cX1_newLength 20 = .ok (.aload_n 2, 1) := dk_44 (dk_at dksX1_newLength_0 20 rfl rfl)
theorem dX1_newLength_21 : decode cX1_newLength 21 = .ok (.getfield 238, 3) := dk_180 0 238 (dk_at dksX1_newLength_0 21 rfl rfl)
theorem dX1_newLength_24 : decode cX1_newLength 24 = .ok (.iload_n 1, 1) := dk_27 (dk_at dksX1_newLength_1 0 rfl rfl)
theorem dX1_newLength_25 : decode cX1_newLength 25 = .ok (.aaload, 1) := dk_50 (dk_at dksX1_newLength_1 1 rfl rfl)
theorem dX1_newLength_26 : decode cX1_newLength 26 = .ok (.invokevirtual 27, 3) := dk_182 0 27 (dk_at dksX1_newLength_1 2 rfl rfl)
theorem dX1_newLength_29 : decode cX1_newLength 29 = .ok (.ireturn, 1) := dk_172 (dk_at dksX1_newLength_1 5 rfl rfl)
abbrev cX1_owner : ByteArray := prog_1_method_37_code
def yX1_owner : MethodName := ⟨RX1, "owner", "(I)I"⟩
def dkwX1_owner_0 : List UInt8 := [42, 27, 182, 0, 226, 77, 42, 42, 27, 44, 186, 0, 245, 0, 0, 182, 0, 175, 184, 0, 248, 172]
abbrev dktX1_owner_0 : List UInt8 := dkwX1_owner_0 ++ []
theorem dksX1_owner_0 : cX1_owner.data.toList.drop 0 = dktX1_owner_0 := by decide +kernel
theorem dX1_owner_0 : decode cX1_owner 0 = .ok (.aload_n 0, 1) := dk_42 (dk_at dksX1_owner_0 0 rfl rfl)
theorem dX1_owner_1 : decode cX1_owner 1 = .ok (.iload_n 1, 1) := dk_27 (dk_at dksX1_owner_0 1 rfl rfl)
theorem dX1_owner_2 : decode cX1_owner 2 = .ok (.invokevirtual 226, 3) := dk_182 0 226 (dk_at dksX1_owner_0 2 rfl rfl)
theorem dX1_owner_5 : decode cX1_owner 5 = .ok (.astore_n 2, 1) := dk_77 (dk_at dksX1_owner_0 5 rfl rfl)
theorem dX1_owner_6 : decode cX1_owner 6 = .ok (.aload_n 0, 1) := dk_42 (dk_at dksX1_owner_0 6 rfl rfl)
theorem dX1_owner_7 : decode cX1_owner 7 = .ok (.aload_n 0, 1) := dk_42 (dk_at dksX1_owner_0 7 rfl rfl)
theorem dX1_owner_8 : decode cX1_owner 8 = .ok (.iload_n 1, 1) := dk_27 (dk_at dksX1_owner_0 8 rfl rfl)
theorem dX1_owner_9 : decode cX1_owner 9 = .ok (.aload_n 2, 1) := dk_44 (dk_at dksX1_owner_0 9 rfl rfl)
theorem dX1_owner_10 : decode cX1_owner 10 = .ok (.invokedynamic 245, 5) := by decide +kernel
theorem dX1_owner_15 : decode cX1_owner 15 = .ok (.invokevirtual 175, 3) := dk_182 0 175 (dk_at dksX1_owner_0 15 rfl rfl)
theorem dX1_owner_18 : decode cX1_owner 18 = .ok (.invokestatic 248, 3) := dk_184 0 248 (dk_at dksX1_owner_0 18 rfl rfl)
theorem dX1_owner_21 : decode cX1_owner 21 = .ok (.ireturn, 1) := dk_172 (dk_at dksX1_owner_0 21 rfl rfl)
abbrev cX1_lambda_owner_3 : ByteArray := prog_1_method_73_code
def yX1_lambda_owner_3 : MethodName := ⟨RX1, "lambda$owner$3", "(ILBatchRenamer$Outlook;I)Z"⟩
def dkwX1_lambda_owner_3_2 : List UInt8 := [167, 0, 4, 3, 172]
abbrev dktX1_lambda_owner_3_2 : List UInt8 := dkwX1_lambda_owner_3_2 ++ []
def dkwX1_lambda_owner_3_1 : List UInt8 := [182, 0, 128, 192, 0, 132, 180, 0, 156, 44, 180, 0, 238, 27, 50, 182, 1, 91, 153, 0, 7, 4]
abbrev dktX1_lambda_owner_3_1 : List UInt8 := dkwX1_lambda_owner_3_1 ++ dktX1_lambda_owner_3_2
def dkwX1_lambda_owner_3_0 : List UInt8 := [29, 27, 159, 0, 46, 44, 180, 0, 230, 27, 46, 2, 159, 0, 36, 42, 180, 0, 47, 180, 0, 115, 29]
abbrev dktX1_lambda_owner_3_0 : List UInt8 := dkwX1_lambda_owner_3_0 ++ dktX1_lambda_owner_3_1
theorem dksX1_lambda_owner_3_0 : cX1_lambda_owner_3.data.toList.drop 0 = dktX1_lambda_owner_3_0 := by decide +kernel
theorem dksX1_lambda_owner_3_1 : cX1_lambda_owner_3.data.toList.drop 23 = dktX1_lambda_owner_3_1 := dk_seg dksX1_lambda_owner_3_0 23 rfl rfl
theorem dksX1_lambda_owner_3_2 : cX1_lambda_owner_3.data.toList.drop 45 = dktX1_lambda_owner_3_2 := dk_seg dksX1_lambda_owner_3_1 22 rfl rfl
theorem dX1_lambda_owner_3_0 : decode cX1_lambda_owner_3 0 = .ok (.iload_n 3, 1) := dk_29 (dk_at dksX1_lambda_owner_3_0 0 rfl rfl)
theorem dX1_lambda_owner_3_1 : decode cX1_lambda_owner_3 1 = .ok (.iload_n 1, 1) := dk_27 (dk_at dksX1_lambda_owner_3_0 1 rfl rfl)
theorem dX1_lambda_owner_3_2 : decode cX1_lambda_owner_3 2 = .ok (.if_icmp .eq 46, 3) := dk_159 0 46 (dk_at dksX1_lambda_owner_3_0 2 rfl rfl)
theorem dX1_lambda_owner_3_5 : decode cX1_lambda_owner_3 5 = .ok (.aload_n 2, 1) := dk_44 (dk_at dksX1_lambda_owner_3_0 5 rfl rfl)
theorem dX1_lambda_owner_3_6 : decode cX1_lambda_owner_3 6 = .ok (.getfield 230, 3) := dk_180 0 230 (dk_at dksX1_lambda_owner_3_0 6 rfl rfl)
theorem dX1_lambda_owner_3_9 : decode cX1_lambda_owner_3 9 = .ok (.iload_n 1, 1) := dk_27 (dk_at dksX1_lambda_owner_3_0 9 rfl rfl)
theorem dX1_lambda_owner_3_10 : decode cX1_lambda_owner_3 10 = .ok (.iaload, 1) := dk_46 (dk_at dksX1_lambda_owner_3_0 10 rfl rfl)
theorem dX1_lambda_owner_3_11 : decode cX1_lambda_owner_3 11 = .ok (.iconst (-1), 1) := dk_2 (dk_at dksX1_lambda_owner_3_0 11 rfl rfl)
theorem dX1_lambda_owner_3_12 : decode cX1_lambda_owner_3 12 = .ok (.if_icmp .eq 36, 3) := dk_159 0 36 (dk_at dksX1_lambda_owner_3_0 12 rfl rfl)
theorem dX1_lambda_owner_3_15 : decode cX1_lambda_owner_3 15 = .ok (.aload_n 0, 1) := dk_42 (dk_at dksX1_lambda_owner_3_0 15 rfl rfl)
theorem dX1_lambda_owner_3_16 : decode cX1_lambda_owner_3 16 = .ok (.getfield 47, 3) := dk_180 0 47 (dk_at dksX1_lambda_owner_3_0 16 rfl rfl)
theorem dX1_lambda_owner_3_19 : decode cX1_lambda_owner_3 19 = .ok (.getfield 115, 3) := dk_180 0 115 (dk_at dksX1_lambda_owner_3_0 19 rfl rfl)
theorem dX1_lambda_owner_3_22 : decode cX1_lambda_owner_3 22 = .ok (.iload_n 3, 1) := dk_29 (dk_at dksX1_lambda_owner_3_0 22 rfl rfl)
theorem dX1_lambda_owner_3_23 : decode cX1_lambda_owner_3 23 = .ok (.invokevirtual 128, 3) := dk_182 0 128 (dk_at dksX1_lambda_owner_3_1 0 rfl rfl)
theorem dX1_lambda_owner_3_26 : decode cX1_lambda_owner_3 26 = .ok (.checkcast 132, 3) := dk_192 0 132 (dk_at dksX1_lambda_owner_3_1 3 rfl rfl)
theorem dX1_lambda_owner_3_29 : decode cX1_lambda_owner_3 29 = .ok (.getfield 156, 3) := dk_180 0 156 (dk_at dksX1_lambda_owner_3_1 6 rfl rfl)
theorem dX1_lambda_owner_3_32 : decode cX1_lambda_owner_3 32 = .ok (.aload_n 2, 1) := dk_44 (dk_at dksX1_lambda_owner_3_1 9 rfl rfl)
theorem dX1_lambda_owner_3_33 : decode cX1_lambda_owner_3 33 = .ok (.getfield 238, 3) := dk_180 0 238 (dk_at dksX1_lambda_owner_3_1 10 rfl rfl)
theorem dX1_lambda_owner_3_36 : decode cX1_lambda_owner_3 36 = .ok (.iload_n 1, 1) := dk_27 (dk_at dksX1_lambda_owner_3_1 13 rfl rfl)
theorem dX1_lambda_owner_3_37 : decode cX1_lambda_owner_3 37 = .ok (.aaload, 1) := dk_50 (dk_at dksX1_lambda_owner_3_1 14 rfl rfl)
theorem dX1_lambda_owner_3_38 : decode cX1_lambda_owner_3 38 = .ok (.invokevirtual 347, 3) := dk_182 1 91 (dk_at dksX1_lambda_owner_3_1 15 rfl rfl)
theorem dX1_lambda_owner_3_41 : decode cX1_lambda_owner_3 41 = .ok (.ifCond .eq 7, 3) := dk_153 0 7 (dk_at dksX1_lambda_owner_3_1 18 rfl rfl)
theorem dX1_lambda_owner_3_44 : decode cX1_lambda_owner_3 44 = .ok (.iconst 1, 1) := dk_4 (dk_at dksX1_lambda_owner_3_1 21 rfl rfl)
theorem dX1_lambda_owner_3_45 : decode cX1_lambda_owner_3 45 = .ok (.goto 4, 3) := dk_167 0 4 (dk_at dksX1_lambda_owner_3_2 0 rfl rfl)
theorem dX1_lambda_owner_3_48 : decode cX1_lambda_owner_3 48 = .ok (.iconst 0, 1) := dk_3 (dk_at dksX1_lambda_owner_3_2 3 rfl rfl)
theorem dX1_lambda_owner_3_49 : decode cX1_lambda_owner_3 49 = .ok (.ireturn, 1) := dk_172 (dk_at dksX1_lambda_owner_3_2 4 rfl rfl)
abbrev cX1_lowest : ByteArray := prog_1_method_24_code
def yX1_lowest : MethodName := ⟨RX1, "lowest", "(I)I"⟩
def dkwX1_lowest_0 : List UInt8 := [26, 154, 0, 7, 2, 167, 0, 7, 26, 184, 0, 166, 172]
abbrev dktX1_lowest_0 : List UInt8 := dkwX1_lowest_0 ++ []
theorem dksX1_lowest_0 : cX1_lowest.data.toList.drop 0 = dktX1_lowest_0 := by decide +kernel
theorem dX1_lowest_0 : decode cX1_lowest 0 = .ok (.iload_n 0, 1) := dk_26 (dk_at dksX1_lowest_0 0 rfl rfl)
theorem dX1_lowest_1 : decode cX1_lowest 1 = .ok (.ifCond .ne 7, 3) := dk_154 0 7 (dk_at dksX1_lowest_0 1 rfl rfl)
theorem dX1_lowest_4 : decode cX1_lowest 4 = .ok (.iconst (-1), 1) := dk_2 (dk_at dksX1_lowest_0 4 rfl rfl)
theorem dX1_lowest_5 : decode cX1_lowest 5 = .ok (.goto 7, 3) := dk_167 0 7 (dk_at dksX1_lowest_0 5 rfl rfl)
theorem dX1_lowest_8 : decode cX1_lowest 8 = .ok (.iload_n 0, 1) := dk_26 (dk_at dksX1_lowest_0 8 rfl rfl)
theorem dX1_lowest_9 : decode cX1_lowest 9 = .ok (.invokestatic 166, 3) := dk_184 0 166 (dk_at dksX1_lowest_0 9 rfl rfl)
theorem dX1_lowest_12 : decode cX1_lowest 12 = .ok (.ireturn, 1) := dk_172 (dk_at dksX1_lowest_0 12 rfl rfl)
abbrev cX1_rival : ByteArray := prog_1_method_38_code
def yX1_rival : MethodName := ⟨RX1, "rival", "(I)I"⟩
def dkwX1_rival_0 : List UInt8 := [42, 27, 182, 0, 226, 77, 42, 27, 44, 186, 0, 251, 0, 0, 182, 0, 175, 184, 0, 248, 172]
abbrev dktX1_rival_0 : List UInt8 := dkwX1_rival_0 ++ []
theorem dksX1_rival_0 : cX1_rival.data.toList.drop 0 = dktX1_rival_0 := by decide +kernel
theorem dX1_rival_0 : decode cX1_rival 0 = .ok (.aload_n 0, 1) := dk_42 (dk_at dksX1_rival_0 0 rfl rfl)
theorem dX1_rival_1 : decode cX1_rival 1 = .ok (.iload_n 1, 1) := dk_27 (dk_at dksX1_rival_0 1 rfl rfl)
theorem dX1_rival_2 : decode cX1_rival 2 = .ok (.invokevirtual 226, 3) := dk_182 0 226 (dk_at dksX1_rival_0 2 rfl rfl)
theorem dX1_rival_5 : decode cX1_rival 5 = .ok (.astore_n 2, 1) := dk_77 (dk_at dksX1_rival_0 5 rfl rfl)
theorem dX1_rival_6 : decode cX1_rival 6 = .ok (.aload_n 0, 1) := dk_42 (dk_at dksX1_rival_0 6 rfl rfl)
theorem dX1_rival_7 : decode cX1_rival 7 = .ok (.iload_n 1, 1) := dk_27 (dk_at dksX1_rival_0 7 rfl rfl)
theorem dX1_rival_8 : decode cX1_rival 8 = .ok (.aload_n 2, 1) := dk_44 (dk_at dksX1_rival_0 8 rfl rfl)
theorem dX1_rival_9 : decode cX1_rival 9 = .ok (.invokedynamic 251, 5) := by decide +kernel
theorem dX1_rival_14 : decode cX1_rival 14 = .ok (.invokevirtual 175, 3) := dk_182 0 175 (dk_at dksX1_rival_0 14 rfl rfl)
theorem dX1_rival_17 : decode cX1_rival 17 = .ok (.invokestatic 248, 3) := dk_184 0 248 (dk_at dksX1_rival_0 17 rfl rfl)
theorem dX1_rival_20 : decode cX1_rival 20 = .ok (.ireturn, 1) := dk_172 (dk_at dksX1_rival_0 20 rfl rfl)
abbrev cX1_lambda_rival_4 : ByteArray := prog_1_method_72_code
def yX1_lambda_rival_4 : MethodName := ⟨RX1, "lambda$rival$4", "(ILBatchRenamer$Outlook;I)Z"⟩
def dkwX1_lambda_rival_4_2 : List UInt8 := [167, 0, 4, 3, 172]
abbrev dktX1_lambda_rival_4_2 : List UInt8 := dkwX1_lambda_rival_4_2 ++ []
def dkwX1_lambda_rival_4_1 : List UInt8 := [159, 0, 25, 43, 180, 0, 238, 28, 50, 43, 180, 0, 238, 26, 50, 182, 1, 91, 153, 0, 7, 4]
abbrev dktX1_lambda_rival_4_1 : List UInt8 := dkwX1_lambda_rival_4_1 ++ dktX1_lambda_rival_4_2
def dkwX1_lambda_rival_4_0 : List UInt8 := [28, 26, 159, 0, 45, 43, 180, 0, 230, 26, 46, 2, 159, 0, 35, 43, 180, 0, 230, 28, 46, 2]
abbrev dktX1_lambda_rival_4_0 : List UInt8 := dkwX1_lambda_rival_4_0 ++ dktX1_lambda_rival_4_1
theorem dksX1_lambda_rival_4_0 : cX1_lambda_rival_4.data.toList.drop 0 = dktX1_lambda_rival_4_0 := by decide +kernel
theorem dksX1_lambda_rival_4_1 : cX1_lambda_rival_4.data.toList.drop 22 = dktX1_lambda_rival_4_1 := dk_seg dksX1_lambda_rival_4_0 22 rfl rfl
theorem dksX1_lambda_rival_4_2 : cX1_lambda_rival_4.data.toList.drop 44 = dktX1_lambda_rival_4_2 := dk_seg dksX1_lambda_rival_4_1 22 rfl rfl
theorem dX1_lambda_rival_4_0 : decode cX1_lambda_rival_4 0 = .ok (.iload_n 2, 1) := dk_28 (dk_at dksX1_lambda_rival_4_0 0 rfl rfl)
theorem dX1_lambda_rival_4_1 : decode cX1_lambda_rival_4 1 = .ok (.iload_n 0, 1) := dk_26 (dk_at dksX1_lambda_rival_4_0 1 rfl rfl)
theorem dX1_lambda_rival_4_2 : decode cX1_lambda_rival_4 2 = .ok (.if_icmp .eq 45, 3) := dk_159 0 45 (dk_at dksX1_lambda_rival_4_0 2 rfl rfl)
theorem dX1_lambda_rival_4_5 : decode cX1_lambda_rival_4 5 = .ok (.aload_n 1, 1) := dk_43 (dk_at dksX1_lambda_rival_4_0 5 rfl rfl)
theorem dX1_lambda_rival_4_6 : decode cX1_lambda_rival_4 6 = .ok (.getfield 230, 3) := dk_180 0 230 (dk_at dksX1_lambda_rival_4_0 6 rfl rfl)
theorem dX1_lambda_rival_4_9 : decode cX1_lambda_rival_4 9 = .ok (.iload_n 0, 1) := dk_26 (dk_at dksX1_lambda_rival_4_0 9 rfl rfl)
theorem dX1_lambda_rival_4_10 : decode cX1_lambda_rival_4 10 = .ok (.iaload, 1) := dk_46 (dk_at dksX1_lambda_rival_4_0 10 rfl rfl)
theorem dX1_lambda_rival_4_11 : decode cX1_lambda_rival_4 11 = .ok (.iconst (-1), 1) := dk_2 (dk_at dksX1_lambda_rival_4_0 11 rfl rfl)
theorem dX1_lambda_rival_4_12 : decode cX1_lambda_rival_4 12 = .ok (.if_icmp .eq 35, 3) := dk_159 0 35 (dk_at dksX1_lambda_rival_4_0 12 rfl rfl)
theorem dX1_lambda_rival_4_15 : decode cX1_lambda_rival_4 15 = .ok (.aload_n 1, 1) := dk_43 (dk_at dksX1_lambda_rival_4_0 15 rfl rfl)
theorem dX1_lambda_rival_4_16 : decode cX1_lambda_rival_4 16 = .ok (.getfield 230, 3) := dk_180 0 230 (dk_at dksX1_lambda_rival_4_0 16 rfl rfl)
theorem dX1_lambda_rival_4_19 : decode cX1_lambda_rival_4 19 = .ok (.iload_n 2, 1) := dk_28 (dk_at dksX1_lambda_rival_4_0 19 rfl rfl)
theorem dX1_lambda_rival_4_20 : decode cX1_lambda_rival_4 20 = .ok (.iaload, 1) := dk_46 (dk_at dksX1_lambda_rival_4_0 20 rfl rfl)
theorem dX1_lambda_rival_4_21 : decode cX1_lambda_rival_4 21 = .ok (.iconst (-1), 1) := dk_2 (dk_at dksX1_lambda_rival_4_0 21 rfl rfl)
theorem dX1_lambda_rival_4_22 : decode cX1_lambda_rival_4 22 = .ok (.if_icmp .eq 25, 3) := dk_159 0 25 (dk_at dksX1_lambda_rival_4_1 0 rfl rfl)
theorem dX1_lambda_rival_4_25 : decode cX1_lambda_rival_4 25 = .ok (.aload_n 1, 1) := dk_43 (dk_at dksX1_lambda_rival_4_1 3 rfl rfl)
theorem dX1_lambda_rival_4_26 : decode cX1_lambda_rival_4 26 = .ok (.getfield 238, 3) := dk_180 0 238 (dk_at dksX1_lambda_rival_4_1 4 rfl rfl)
theorem dX1_lambda_rival_4_29 : decode cX1_lambda_rival_4 29 = .ok (.iload_n 2, 1) := dk_28 (dk_at dksX1_lambda_rival_4_1 7 rfl rfl)
theorem dX1_lambda_rival_4_30 : decode cX1_lambda_rival_4 30 = .ok (.aaload, 1) := dk_50 (dk_at dksX1_lambda_rival_4_1 8 rfl rfl)
theorem dX1_lambda_rival_4_31 : decode cX1_lambda_rival_4 31 = .ok (.aload_n 1, 1) := dk_43 (dk_at dksX1_lambda_rival_4_1 9 rfl rfl)
theorem dX1_lambda_rival_4_32 : decode cX1_lambda_rival_4 32 = .ok (.getfield 238, 3) := dk_180 0 238 (dk_at dksX1_lambda_rival_4_1 10 rfl rfl)
theorem dX1_lambda_rival_4_35 : decode cX1_lambda_rival_4 35 = .ok (.iload_n 0, 1) := dk_26 (dk_at dksX1_lambda_rival_4_1 13 rfl rfl)
theorem dX1_lambda_rival_4_36 : decode cX1_lambda_rival_4 36 = .ok (.aaload, 1) := dk_50 (dk_at dksX1_lambda_rival_4_1 14 rfl rfl)
theorem dX1_lambda_rival_4_37 : decode cX1_lambda_rival_4 37 = .ok (.invokevirtual 347, 3) := dk_182 1 91 (dk_at dksX1_lambda_rival_4_1 15 rfl rfl)
theorem dX1_lambda_rival_4_40 : decode cX1_lambda_rival_4 40 = .ok (.ifCond .eq 7, 3) := dk_153 0 7 (dk_at dksX1_lambda_rival_4_1 18 rfl rfl)
theorem dX1_lambda_rival_4_43 : decode cX1_lambda_rival_4 43 = .ok (.iconst 1, 1) := dk_4 (dk_at dksX1_lambda_rival_4_1 21 rfl rfl)
theorem dX1_lambda_rival_4_44 : decode cX1_lambda_rival_4 44 = .ok (.goto 4, 3) := dk_167 0 4 (dk_at dksX1_lambda_rival_4_2 0 rfl rfl)
theorem dX1_lambda_rival_4_47 : decode cX1_lambda_rival_4 47 = .ok (.iconst 0, 1) := dk_3 (dk_at dksX1_lambda_rival_4_2 3 rfl rfl)
theorem dX1_lambda_rival_4_48 : decode cX1_lambda_rival_4 48 = .ok (.ireturn, 1) := dk_172 (dk_at dksX1_lambda_rival_4_2 4 rfl rfl)
abbrev cX1_step : ByteArray := prog_1_method_43_code
def yX1_step : MethodName := ⟨RX1, "step", "(II)I"⟩
def dkwX1_step_1 : List UInt8 := [167, 0, 7, 45, 180, 1, 19, 172]
abbrev dktX1_step_1 : List UInt8 := dkwX1_step_1 ++ []
def dkwX1_step_0 : List UInt8 := [42, 27, 182, 1, 13, 78, 28, 133, 9, 10, 184, 0, 10, 184, 0, 85, 28, 154, 0, 10, 45, 180, 1, 17]
abbrev dktX1_step_0 : List UInt8 := dkwX1_step_0 ++ dktX1_step_1
theorem dksX1_step_0 : cX1_step.data.toList.drop 0 = dktX1_step_0 := by decide +kernel
theorem dksX1_step_1 : cX1_step.data.toList.drop 24 = dktX1_step_1 := dk_seg dksX1_step_0 24 rfl rfl
theorem dX1_step_0 : decode cX1_step 0 = .ok (.aload_n 0, 1) := dk_42 (dk_at dksX1_step_0 0 rfl rfl)
theorem dX1_step_1 : decode cX1_step 1 = .ok (.iload_n 1, 1) := dk_27 (dk_at dksX1_step_0 1 rfl rfl)
theorem dX1_step_2 : decode cX1_step 2 = .ok (.invokevirtual 269, 3) := dk_182 1 13 (dk_at dksX1_step_0 2 rfl rfl)
theorem dX1_step_5 : decode cX1_step 5 = .ok (.astore_n 3, 1) := dk_78 (dk_at dksX1_step_0 5 rfl rfl)
theorem dX1_step_6 : decode cX1_step 6 = .ok (.iload_n 2, 1) := dk_28 (dk_at dksX1_step_0 6 rfl rfl)
theorem dX1_step_7 : decode cX1_step 7 = .ok (.i2l, 1) := dk_133 (dk_at dksX1_step_0 7 rfl rfl)
theorem dX1_step_8 : decode cX1_step 8 = .ok (.lconst 0, 1) := dk_9 (dk_at dksX1_step_0 8 rfl rfl)
theorem dX1_step_9 : decode cX1_step 9 = .ok (.lconst 1, 1) := dk_10 (dk_at dksX1_step_0 9 rfl rfl)
theorem dX1_step_10 : decode cX1_step 10 = .ok (.invokestatic 10, 3) := dk_184 0 10 (dk_at dksX1_step_0 10 rfl rfl)
theorem dX1_step_13 : decode cX1_step 13 = .ok (.invokestatic 85, 3) := dk_184 0 85 (dk_at dksX1_step_0 13 rfl rfl)
theorem dX1_step_16 : decode cX1_step 16 = .ok (.iload_n 2, 1) := dk_28 (dk_at dksX1_step_0 16 rfl rfl)
theorem dX1_step_17 : decode cX1_step 17 = .ok (.ifCond .ne 10, 3) := dk_154 0 10 (dk_at dksX1_step_0 17 rfl rfl)
theorem dX1_step_20 : decode cX1_step 20 = .ok (.aload_n 3, 1) := dk_45 (dk_at dksX1_step_0 20 rfl rfl)
theorem dX1_step_21 : decode cX1_step 21 = .ok (.getfield 273, 3) := dk_180 1 17 (dk_at dksX1_step_0 21 rfl rfl)
theorem dX1_step_24 : decode cX1_step 24 = .ok (.goto 7, 3) := dk_167 0 7 (dk_at dksX1_step_1 0 rfl rfl)
theorem dX1_step_27 : decode cX1_step 27 = .ok (.aload_n 3, 1) := dk_45 (dk_at dksX1_step_1 3 rfl rfl)
theorem dX1_step_28 : decode cX1_step 28 = .ok (.getfield 275, 3) := dk_180 1 19 (dk_at dksX1_step_1 4 rfl rfl)
theorem dX1_step_31 : decode cX1_step 31 = .ok (.ireturn, 1) := dk_172 (dk_at dksX1_step_1 7 rfl rfl)
abbrev cX1_move : ByteArray := prog_1_method_41_code
def yX1_move : MethodName := ⟨RX1, "move", "(I)LBatchRenamer$Move;"⟩
def dkwX1_move_1 : List UInt8 := [176]
abbrev dktX1_move_1 : List UInt8 := dkwX1_move_1 ++ []
def dkwX1_move_0 : List UInt8 := [42, 182, 1, 4, 180, 1, 8, 77, 27, 44, 182, 0, 119, 184, 0, 124, 44, 27, 182, 0, 128, 192, 1, 11]
abbrev dktX1_move_0 : List UInt8 := dkwX1_move_0 ++ dktX1_move_1
theorem dksX1_move_0 : cX1_move.data.toList.drop 0 = dktX1_move_0 := by decide +kernel
theorem dksX1_move_1 : cX1_move.data.toList.drop 24 = dktX1_move_1 := dk_seg dksX1_move_0 24 rfl rfl
theorem dX1_move_0 : decode cX1_move 0 = .ok (.aload_n 0, 1) := dk_42 (dk_at dksX1_move_0 0 rfl rfl)
theorem dX1_move_1 : decode cX1_move 1 = .ok (.invokevirtual 260, 3) := dk_182 1 4 (dk_at dksX1_move_0 1 rfl rfl)
theorem dX1_move_4 : decode cX1_move 4 = .ok (.getfield 264, 3) := dk_180 1 8 (dk_at dksX1_move_0 4 rfl rfl)
theorem dX1_move_7 : decode cX1_move 7 = .ok (.astore_n 2, 1) := dk_77 (dk_at dksX1_move_0 7 rfl rfl)
theorem dX1_move_8 : decode cX1_move 8 = .ok (.iload_n 1, 1) := dk_27 (dk_at dksX1_move_0 8 rfl rfl)
theorem dX1_move_9 : decode cX1_move 9 = .ok (.aload_n 2, 1) := dk_44 (dk_at dksX1_move_0 9 rfl rfl)
theorem dX1_move_10 : decode cX1_move 10 = .ok (.invokevirtual 119, 3) := dk_182 0 119 (dk_at dksX1_move_0 10 rfl rfl)
theorem dX1_move_13 : decode cX1_move 13 = .ok (.invokestatic 124, 3) := dk_184 0 124 (dk_at dksX1_move_0 13 rfl rfl)
theorem dX1_move_16 : decode cX1_move 16 = .ok (.aload_n 2, 1) := dk_44 (dk_at dksX1_move_0 16 rfl rfl)
theorem dX1_move_17 : decode cX1_move 17 = .ok (.iload_n 1, 1) := dk_27 (dk_at dksX1_move_0 17 rfl rfl)
theorem dX1_move_18 : decode cX1_move 18 = .ok (.invokevirtual 128, 3) := dk_182 0 128 (dk_at dksX1_move_0 18 rfl rfl)
theorem dX1_move_21 : decode cX1_move 21 = .ok (.checkcast 267, 3) := dk_192 1 11 (dk_at dksX1_move_0 21 rfl rfl)
theorem dX1_move_24 : decode cX1_move 24 = .ok (.areturn, 1) := dk_176 (dk_at dksX1_move_1 0 rfl rfl)
abbrev cX1_renamedWithout : ByteArray := prog_1_method_48_code
def yX1_renamedWithout : MethodName := ⟨RX1, "renamedWithout", "(I)I"⟩
def dkwX1_renamedWithout_1 : List UInt8 := [192, 0, 137, 58, 4, 45, 184, 1, 62, 172]
abbrev dktX1_renamedWithout_1 : List UInt8 := dkwX1_renamedWithout_1 ++ []
def dkwX1_renamedWithout_0 : List UInt8 := [42, 27, 182, 0, 193, 77, 42, 180, 0, 47, 182, 1, 56, 78, 45, 180, 0, 134, 27, 182, 1, 59]
abbrev dktX1_renamedWithout_0 : List UInt8 := dkwX1_renamedWithout_0 ++ dktX1_renamedWithout_1
theorem dksX1_renamedWithout_0 : cX1_renamedWithout.data.toList.drop 0 = dktX1_renamedWithout_0 := by decide +kernel
theorem dksX1_renamedWithout_1 : cX1_renamedWithout.data.toList.drop 22 = dktX1_renamedWithout_1 := dk_seg dksX1_renamedWithout_0 22 rfl rfl
theorem dX1_renamedWithout_0 : decode cX1_renamedWithout 0 = .ok (.aload_n 0, 1) := dk_42 (dk_at dksX1_renamedWithout_0 0 rfl rfl)
theorem dX1_renamedWithout_1 : decode cX1_renamedWithout 1 = .ok (.iload_n 1, 1) := dk_27 (dk_at dksX1_renamedWithout_0 1 rfl rfl)
theorem dX1_renamedWithout_2 : decode cX1_renamedWithout 2 = .ok (.invokevirtual 193, 3) := dk_182 0 193 (dk_at dksX1_renamedWithout_0 2 rfl rfl)
theorem dX1_renamedWithout_5 : decode cX1_renamedWithout 5 = .ok (.astore_n 2, 1) := dk_77 (dk_at dksX1_renamedWithout_0 5 rfl rfl)
theorem dX1_renamedWithout_6 : decode cX1_renamedWithout 6 = .ok (.aload_n 0, 1) := dk_42 (dk_at dksX1_renamedWithout_0 6 rfl rfl)
theorem dX1_renamedWithout_7 : decode cX1_renamedWithout 7 = .ok (.getfield 47, 3) := dk_180 0 47 (dk_at dksX1_renamedWithout_0 7 rfl rfl)
theorem dX1_renamedWithout_10 : decode cX1_renamedWithout 10 = .ok (.invokevirtual 312, 3) := dk_182 1 56 (dk_at dksX1_renamedWithout_0 10 rfl rfl)
theorem dX1_renamedWithout_13 : decode cX1_renamedWithout 13 = .ok (.astore_n 3, 1) := dk_78 (dk_at dksX1_renamedWithout_0 13 rfl rfl)
theorem dX1_renamedWithout_14 : decode cX1_renamedWithout 14 = .ok (.aload_n 3, 1) := dk_45 (dk_at dksX1_renamedWithout_0 14 rfl rfl)
theorem dX1_renamedWithout_15 : decode cX1_renamedWithout 15 = .ok (.getfield 134, 3) := dk_180 0 134 (dk_at dksX1_renamedWithout_0 15 rfl rfl)
theorem dX1_renamedWithout_18 : decode cX1_renamedWithout 18 = .ok (.iload_n 1, 1) := dk_27 (dk_at dksX1_renamedWithout_0 18 rfl rfl)
theorem dX1_renamedWithout_19 : decode cX1_renamedWithout 19 = .ok (.invokevirtual 315, 3) := dk_182 1 59 (dk_at dksX1_renamedWithout_0 19 rfl rfl)
theorem dX1_renamedWithout_22 : decode cX1_renamedWithout 22 = .ok (.checkcast 137, 3) := dk_192 0 137 (dk_at dksX1_renamedWithout_1 0 rfl rfl)
theorem dX1_renamedWithout_25 : decode cX1_renamedWithout 25 = .ok (.astore 4, 2) := dk_58 4 (dk_at dksX1_renamedWithout_1 3 rfl rfl)
theorem dX1_renamedWithout_27 : decode cX1_renamedWithout 27 = .ok (.aload_n 3, 1) := dk_45 (dk_at dksX1_renamedWithout_1 5 rfl rfl)
theorem dX1_renamedWithout_28 : decode cX1_renamedWithout 28 = .ok (.invokestatic 318, 3) := dk_184 1 62 (dk_at dksX1_renamedWithout_1 6 rfl rfl)
theorem dX1_renamedWithout_31 : decode cX1_renamedWithout 31 = .ok (.ireturn, 1) := dk_172 (dk_at dksX1_renamedWithout_1 9 rfl rfl)
abbrev cX1_renamed : ByteArray := prog_1_method_47_code
def yX1_renamed : MethodName := ⟨RX1, "renamed", "(LBatchRenamer$Board;)I"⟩
def dkwX1_renamed_0 : List UInt8 := [187, 0, 139, 89, 42, 16, 24, 183, 1, 50, 6, 182, 1, 53, 172]
abbrev dktX1_renamed_0 : List UInt8 := dkwX1_renamed_0 ++ []
theorem dksX1_renamed_0 : cX1_renamed.data.toList.drop 0 = dktX1_renamed_0 := by decide +kernel
theorem dX1_renamed_0 : decode cX1_renamed 0 = .ok (.new 139, 3) := dk_187 0 139 (dk_at dksX1_renamed_0 0 rfl rfl)
theorem dX1_renamed_3 : decode cX1_renamed 3 = .ok (.dup, 1) := dk_89 (dk_at dksX1_renamed_0 3 rfl rfl)
theorem dX1_renamed_4 : decode cX1_renamed 4 = .ok (.aload_n 0, 1) := dk_42 (dk_at dksX1_renamed_0 4 rfl rfl)
theorem dX1_renamed_5 : decode cX1_renamed 5 = .ok (.bipush 24, 2) := dk_16 24 (dk_at dksX1_renamed_0 5 rfl rfl)
theorem dX1_renamed_7 : decode cX1_renamed 7 = .ok (.invokespecial 306, 3) := dk_183 1 50 (dk_at dksX1_renamed_0 7 rfl rfl)
theorem dX1_renamed_10 : decode cX1_renamed 10 = .ok (.iconst 3, 1) := dk_6 (dk_at dksX1_renamed_0 10 rfl rfl)
theorem dX1_renamed_11 : decode cX1_renamed 11 = .ok (.invokevirtual 309, 3) := dk_182 1 53 (dk_at dksX1_renamed_0 11 rfl rfl)
theorem dX1_renamed_14 : decode cX1_renamed 14 = .ok (.ireturn, 1) := dk_172 (dk_at dksX1_renamed_0 14 rfl rfl)
abbrev cX1_bestStart : ByteArray := prog_1_method_49_code
def yX1_bestStart : MethodName := ⟨RX1, "bestStart", "(I)I"⟩
def dkwX1_bestStart_3 : List UInt8 := [132, 5, 1, 167, 255, 212, 29, 172]
abbrev dktX1_bestStart_3 : List UInt8 := dkwX1_bestStart_3 ++ []
def dkwX1_bestStart_2 : List UInt8 := [21, 6, 21, 4, 164, 0, 8, 21, 5, 167, 0, 4, 29, 62, 21, 4, 21, 6, 184, 1, 40, 54, 4]
abbrev dktX1_bestStart_2 : List UInt8 := dkwX1_bestStart_2 ++ dktX1_bestStart_3
def dkwX1_bestStart_1 : List UInt8 := [54, 4, 3, 54, 5, 21, 5, 27, 163, 0, 44, 44, 21, 5, 181, 0, 184, 44, 184, 1, 62, 54, 6]
abbrev dktX1_bestStart_1 : List UInt8 := dkwX1_bestStart_1 ++ dktX1_bestStart_2
def dkwX1_bestStart_0 : List UInt8 := [27, 133, 9, 20, 1, 66, 184, 0, 10, 184, 0, 85, 42, 180, 0, 47, 182, 1, 56, 77, 2, 62, 2]
abbrev dktX1_bestStart_0 : List UInt8 := dkwX1_bestStart_0 ++ dktX1_bestStart_1
theorem dksX1_bestStart_0 : cX1_bestStart.data.toList.drop 0 = dktX1_bestStart_0 := by decide +kernel
theorem dksX1_bestStart_1 : cX1_bestStart.data.toList.drop 23 = dktX1_bestStart_1 := dk_seg dksX1_bestStart_0 23 rfl rfl
theorem dksX1_bestStart_2 : cX1_bestStart.data.toList.drop 46 = dktX1_bestStart_2 := dk_seg dksX1_bestStart_1 23 rfl rfl
theorem dksX1_bestStart_3 : cX1_bestStart.data.toList.drop 69 = dktX1_bestStart_3 := dk_seg dksX1_bestStart_2 23 rfl rfl
theorem dX1_bestStart_0 : decode cX1_bestStart 0 = .ok (.iload_n 1, 1) := dk_27 (dk_at dksX1_bestStart_0 0 rfl rfl)
theorem dX1_bestStart_1 : decode cX1_bestStart 1 = .ok (.i2l, 1) := dk_133 (dk_at dksX1_bestStart_0 1 rfl rfl)
theorem dX1_bestStart_2 : decode cX1_bestStart 2 = .ok (.lconst 0, 1) := dk_9 (dk_at dksX1_bestStart_0 2 rfl rfl)
theorem dX1_bestStart_3 : decode cX1_bestStart 3 = .ok (.ldc2_w 322, 3) := dk_20 1 66 (dk_at dksX1_bestStart_0 3 rfl rfl)
theorem dX1_bestStart_6 : decode cX1_bestStart 6 = .ok (.invokestatic 10, 3) := dk_184 0 10 (dk_at dksX1_bestStart_0 6 rfl rfl)
theorem dX1_bestStart_9 : decode cX1_bestStart 9 = .ok (.invokestatic 85, 3) := dk_184 0 85 (dk_at dksX1_bestStart_0 9 rfl rfl)
theorem dX1_bestStart_12 : decode cX1_bestStart 12 = .ok (.aload_n 0, 1) := dk_42 (dk_at dksX1_bestStart_0 12 rfl rfl)
theorem dX1_bestStart_13 : decode cX1_bestStart 13 = .ok (.getfield 47, 3) := dk_180 0 47 (dk_at dksX1_bestStart_0 13 rfl rfl)
theorem dX1_bestStart_16 : decode cX1_bestStart 16 = .ok (.invokevirtual 312, 3) := dk_182 1 56 (dk_at dksX1_bestStart_0 16 rfl rfl)
theorem dX1_bestStart_19 : decode cX1_bestStart 19 = .ok (.astore_n 2, 1) := dk_77 (dk_at dksX1_bestStart_0 19 rfl rfl)
theorem dX1_bestStart_20 : decode cX1_bestStart 20 = .ok (.iconst (-1), 1) := dk_2 (dk_at dksX1_bestStart_0 20 rfl rfl)
theorem dX1_bestStart_21 : decode cX1_bestStart 21 = .ok (.istore_n 3, 1) := dk_62 (dk_at dksX1_bestStart_0 21 rfl rfl)
theorem dX1_bestStart_22 : decode cX1_bestStart 22 = .ok (.iconst (-1), 1) := dk_2 (dk_at dksX1_bestStart_0 22 rfl rfl)
theorem dX1_bestStart_23 : decode cX1_bestStart 23 = .ok (.istore 4, 2) := dk_54 4 (dk_at dksX1_bestStart_1 0 rfl rfl)
theorem dX1_bestStart_25 : decode cX1_bestStart 25 = .ok (.iconst 0, 1) := dk_3 (dk_at dksX1_bestStart_1 2 rfl rfl)
theorem dX1_bestStart_26 : decode cX1_bestStart 26 = .ok (.istore 5, 2) := dk_54 5 (dk_at dksX1_bestStart_1 3 rfl rfl)
theorem dX1_bestStart_28 : decode cX1_bestStart 28 = .ok (.iload 5, 2) := dk_21 5 (dk_at dksX1_bestStart_1 5 rfl rfl)
theorem dX1_bestStart_30 : decode cX1_bestStart 30 = .ok (.iload_n 1, 1) := dk_27 (dk_at dksX1_bestStart_1 7 rfl rfl)
theorem dX1_bestStart_31 : decode cX1_bestStart 31 = .ok (.if_icmp .gt 44, 3) := dk_163 0 44 (dk_at dksX1_bestStart_1 8 rfl rfl)
theorem dX1_bestStart_34 : decode cX1_bestStart 34 = .ok (.aload_n 2, 1) := dk_44 (dk_at dksX1_bestStart_1 11 rfl rfl)
theorem dX1_bestStart_35 : decode cX1_bestStart 35 = .ok (.iload 5, 2) := dk_21 5 (dk_at dksX1_bestStart_1 12 rfl rfl)
theorem dX1_bestStart_37 : decode cX1_bestStart 37 = .ok (.putfield 184, 3) := dk_181 0 184 (dk_at dksX1_bestStart_1 14 rfl rfl)
theorem dX1_bestStart_40 : decode cX1_bestStart 40 = .ok (.aload_n 2, 1) := dk_44 (dk_at dksX1_bestStart_1 17 rfl rfl)
theorem dX1_bestStart_41 : decode cX1_bestStart 41 = .ok (.invokestatic 318, 3) := dk_184 1 62 (dk_at dksX1_bestStart_1 18 rfl rfl)
theorem dX1_bestStart_44 : decode cX1_bestStart 44 = .ok (.istore 6, 2) := dk_54 6 (dk_at dksX1_bestStart_1 21 rfl rfl)
theorem dX1_bestStart_46 : decode cX1_bestStart 46 = .ok (.iload 6, 2) := dk_21 6 (dk_at dksX1_bestStart_2 0 rfl rfl)
theorem dX1_bestStart_48 : decode cX1_bestStart 48 = .ok (.iload 4, 2) := dk_21 4 (dk_at dksX1_bestStart_2 2 rfl rfl)
theorem dX1_bestStart_50 : decode cX1_bestStart 50 = .ok (.if_icmp .le 8, 3) := dk_164 0 8 (dk_at dksX1_bestStart_2 4 rfl rfl)
theorem dX1_bestStart_53 : decode cX1_bestStart 53 = .ok (.iload 5, 2) := dk_21 5 (dk_at dksX1_bestStart_2 7 rfl rfl)
theorem dX1_bestStart_55 : decode cX1_bestStart 55 = .ok (.goto 4, 3) := dk_167 0 4 (dk_at dksX1_bestStart_2 9 rfl rfl)
theorem dX1_bestStart_58 : decode cX1_bestStart 58 = .ok (.iload_n 3, 1) := dk_29 (dk_at dksX1_bestStart_2 12 rfl rfl)
theorem dX1_bestStart_59 : decode cX1_bestStart 59 = .ok (.istore_n 3, 1) := dk_62 (dk_at dksX1_bestStart_2 13 rfl rfl)
theorem dX1_bestStart_60 : decode cX1_bestStart 60 = .ok (.iload 4, 2) := dk_21 4 (dk_at dksX1_bestStart_2 14 rfl rfl)
theorem dX1_bestStart_62 : decode cX1_bestStart 62 = .ok (.iload 6, 2) := dk_21 6 (dk_at dksX1_bestStart_2 16 rfl rfl)
theorem dX1_bestStart_64 : decode cX1_bestStart 64 = .ok (.invokestatic 296, 3) := dk_184 1 40 (dk_at dksX1_bestStart_2 18 rfl rfl)
theorem dX1_bestStart_67 : decode cX1_bestStart 67 = .ok (.istore 4, 2) := dk_54 4 (dk_at dksX1_bestStart_2 21 rfl rfl)
theorem dX1_bestStart_69 : decode cX1_bestStart 69 = .ok (.iinc 5 1, 3) := dk_132 5 1 (dk_at dksX1_bestStart_3 0 rfl rfl)
theorem dX1_bestStart_72 : decode cX1_bestStart 72 = .ok (.goto (-44), 3) := dk_167 255 212 (dk_at dksX1_bestStart_3 3 rfl rfl)
theorem dX1_bestStart_75 : decode cX1_bestStart 75 = .ok (.iload_n 3, 1) := dk_29 (dk_at dksX1_bestStart_3 6 rfl rfl)
theorem dX1_bestStart_76 : decode cX1_bestStart 76 = .ok (.ireturn, 1) := dk_172 (dk_at dksX1_bestStart_3 7 rfl rfl)
abbrev cX1_bestPlace : ByteArray := prog_1_method_50_code
def yX1_bestPlace : MethodName := ⟨RX1, "bestPlace", "(I)I"⟩
def dkwX1_bestPlace_4 : List UInt8 := [167, 255, 177, 29, 172]
abbrev dktX1_bestPlace_4 : List UInt8 := dkwX1_bestPlace_4 ++ []
def dkwX1_bestPlace_3 : List UInt8 := [164, 0, 8, 21, 5, 167, 0, 4, 29, 62, 21, 4, 21, 7, 184, 1, 40, 54, 4, 132, 5, 1]
abbrev dktX1_bestPlace_3 : List UInt8 := dkwX1_bestPlace_3 ++ dktX1_bestPlace_4
def dkwX1_bestPlace_2 : List UInt8 := [180, 0, 134, 27, 182, 1, 59, 192, 0, 137, 182, 1, 68, 25, 6, 184, 1, 62, 54, 7, 21, 7, 21, 4]
abbrev dktX1_bestPlace_2 : List UInt8 := dkwX1_bestPlace_2 ++ dktX1_bestPlace_3
def dkwX1_bestPlace_1 : List UInt8 := [182, 0, 119, 162, 0, 70, 42, 180, 0, 47, 182, 1, 56, 58, 6, 25, 6, 180, 0, 134, 21, 5, 25, 6]
abbrev dktX1_bestPlace_1 : List UInt8 := dkwX1_bestPlace_1 ++ dktX1_bestPlace_2
def dkwX1_bestPlace_0 : List UInt8 := [42, 27, 182, 0, 193, 77, 2, 62, 2, 54, 4, 3, 54, 5, 21, 5, 42, 180, 0, 47, 180, 0, 134]
abbrev dktX1_bestPlace_0 : List UInt8 := dkwX1_bestPlace_0 ++ dktX1_bestPlace_1
theorem dksX1_bestPlace_0 : cX1_bestPlace.data.toList.drop 0 = dktX1_bestPlace_0 := by decide +kernel
theorem dksX1_bestPlace_1 : cX1_bestPlace.data.toList.drop 23 = dktX1_bestPlace_1 := dk_seg dksX1_bestPlace_0 23 rfl rfl
theorem dksX1_bestPlace_2 : cX1_bestPlace.data.toList.drop 47 = dktX1_bestPlace_2 := dk_seg dksX1_bestPlace_1 24 rfl rfl
theorem dksX1_bestPlace_3 : cX1_bestPlace.data.toList.drop 71 = dktX1_bestPlace_3 := dk_seg dksX1_bestPlace_2 24 rfl rfl
theorem dksX1_bestPlace_4 : cX1_bestPlace.data.toList.drop 93 = dktX1_bestPlace_4 := dk_seg dksX1_bestPlace_3 22 rfl rfl
theorem dX1_bestPlace_0 : decode cX1_bestPlace 0 = .ok (.aload_n 0, 1) := dk_42 (dk_at dksX1_bestPlace_0 0 rfl rfl)
theorem dX1_bestPlace_1 : decode cX1_bestPlace 1 = .ok (.iload_n 1, 1) := dk_27 (dk_at dksX1_bestPlace_0 1 rfl rfl)
theorem dX1_bestPlace_2 : decode cX1_bestPlace 2 = .ok (.invokevirtual 193, 3) := dk_182 0 193 (dk_at dksX1_bestPlace_0 2 rfl rfl)
theorem dX1_bestPlace_5 : decode cX1_bestPlace 5 = .ok (.astore_n 2, 1) := dk_77 (dk_at dksX1_bestPlace_0 5 rfl rfl)
theorem dX1_bestPlace_6 : decode cX1_bestPlace 6 = .ok (.iconst (-1), 1) := dk_2 (dk_at dksX1_bestPlace_0 6 rfl rfl)
theorem dX1_bestPlace_7 : decode cX1_bestPlace 7 = .ok (.istore_n 3, 1) := dk_62 (dk_at dksX1_bestPlace_0 7 rfl rfl)
theorem dX1_bestPlace_8 : decode cX1_bestPlace 8 = .ok (.iconst (-1), 1) := dk_2 (dk_at dksX1_bestPlace_0 8 rfl rfl)
theorem dX1_bestPlace_9 : decode cX1_bestPlace 9 = .ok (.istore 4, 2) := dk_54 4 (dk_at dksX1_bestPlace_0 9 rfl rfl)
theorem dX1_bestPlace_11 : decode cX1_bestPlace 11 = .ok (.iconst 0, 1) := dk_3 (dk_at dksX1_bestPlace_0 11 rfl rfl)
theorem dX1_bestPlace_12 : decode cX1_bestPlace 12 = .ok (.istore 5, 2) := dk_54 5 (dk_at dksX1_bestPlace_0 12 rfl rfl)
theorem dX1_bestPlace_14 : decode cX1_bestPlace 14 = .ok (.iload 5, 2) := dk_21 5 (dk_at dksX1_bestPlace_0 14 rfl rfl)
theorem dX1_bestPlace_16 : decode cX1_bestPlace 16 = .ok (.aload_n 0, 1) := dk_42 (dk_at dksX1_bestPlace_0 16 rfl rfl)
theorem dX1_bestPlace_17 : decode cX1_bestPlace 17 = .ok (.getfield 47, 3) := dk_180 0 47 (dk_at dksX1_bestPlace_0 17 rfl rfl)
theorem dX1_bestPlace_20 : decode cX1_bestPlace 20 = .ok (.getfield 134, 3) := dk_180 0 134 (dk_at dksX1_bestPlace_0 20 rfl rfl)
theorem dX1_bestPlace_23 : decode cX1_bestPlace 23 = .ok (.invokevirtual 119, 3) := dk_182 0 119 (dk_at dksX1_bestPlace_1 0 rfl rfl)
theorem dX1_bestPlace_26 : decode cX1_bestPlace 26 = .ok (.if_icmp .ge 70, 3) := dk_162 0 70 (dk_at dksX1_bestPlace_1 3 rfl rfl)
theorem dX1_bestPlace_29 : decode cX1_bestPlace 29 = .ok (.aload_n 0, 1) := dk_42 (dk_at dksX1_bestPlace_1 6 rfl rfl)
theorem dX1_bestPlace_30 : decode cX1_bestPlace 30 = .ok (.getfield 47, 3) := dk_180 0 47 (dk_at dksX1_bestPlace_1 7 rfl rfl)
theorem dX1_bestPlace_33 : decode cX1_bestPlace 33 = .ok (.invokevirtual 312, 3) := dk_182 1 56 (dk_at dksX1_bestPlace_1 10 rfl rfl)
theorem dX1_bestPlace_36 : decode cX1_bestPlace 36 = .ok (.astore 6, 2) := dk_58 6 (dk_at dksX1_bestPlace_1 13 rfl rfl)
theorem dX1_bestPlace_38 : decode cX1_bestPlace 38 = .ok (.aload 6, 2) := dk_25 6 (dk_at dksX1_bestPlace_1 15 rfl rfl)
theorem dX1_bestPlace_40 : decode cX1_bestPlace 40 = .ok (.getfield 134, 3) := dk_180 0 134 (dk_at dksX1_bestPlace_1 17 rfl rfl)
theorem dX1_bestPlace_43 : decode cX1_bestPlace 43 = .ok (.iload 5, 2) := dk_21 5 (dk_at dksX1_bestPlace_1 20 rfl rfl)
theorem dX1_bestPlace_45 : decode cX1_bestPlace 45 = .ok (.aload 6, 2) := dk_25 6 (dk_at dksX1_bestPlace_1 22 rfl rfl)
theorem dX1_bestPlace_47 : decode cX1_bestPlace 47 = .ok (.getfield 134, 3) := dk_180 0 134 (dk_at dksX1_bestPlace_2 0 rfl rfl)
theorem dX1_bestPlace_50 : decode cX1_bestPlace 50 = .ok (.iload_n 1, 1) := dk_27 (dk_at dksX1_bestPlace_2 3 rfl rfl)
theorem dX1_bestPlace_51 : decode cX1_bestPlace 51 = .ok (.invokevirtual 315, 3) := dk_182 1 59 (dk_at dksX1_bestPlace_2 4 rfl rfl)
theorem dX1_bestPlace_54 : decode cX1_bestPlace 54 = .ok (.checkcast 137, 3) := dk_192 0 137 (dk_at dksX1_bestPlace_2 7 rfl rfl)
theorem dX1_bestPlace_57 : decode cX1_bestPlace 57 = .ok (.invokevirtual 324, 3) := dk_182 1 68 (dk_at dksX1_bestPlace_2 10 rfl rfl)
theorem dX1_bestPlace_60 : decode cX1_bestPlace 60 = .ok (.aload 6, 2) := dk_25 6 (dk_at dksX1_bestPlace_2 13 rfl rfl)
theorem dX1_bestPlace_62 : decode cX1_bestPlace 62 = .ok (.invokestatic 318, 3) := dk_184 1 62 (dk_at dksX1_bestPlace_2 15 rfl rfl)
theorem dX1_bestPlace_65 : decode cX1_bestPlace 65 = .ok (.istore 7, 2) := dk_54 7 (dk_at dksX1_bestPlace_2 18 rfl rfl)
theorem dX1_bestPlace_67 : decode cX1_bestPlace 67 = .ok (.iload 7, 2) := dk_21 7 (dk_at dksX1_bestPlace_2 20 rfl rfl)
theorem dX1_bestPlace_69 : decode cX1_bestPlace 69 = .ok (.iload 4, 2) := dk_21 4 (dk_at dksX1_bestPlace_2 22 rfl rfl)
theorem dX1_bestPlace_71 : decode cX1_bestPlace 71 = .ok (.if_icmp .le 8, 3) := dk_164 0 8 (dk_at dksX1_bestPlace_3 0 rfl rfl)
theorem dX1_bestPlace_74 : decode cX1_bestPlace 74 = .ok (.iload 5, 2) := dk_21 5 (dk_at dksX1_bestPlace_3 3 rfl rfl)
theorem dX1_bestPlace_76 : decode cX1_bestPlace 76 = .ok (.goto 4, 3) := dk_167 0 4 (dk_at dksX1_bestPlace_3 5 rfl rfl)
theorem dX1_bestPlace_79 : decode cX1_bestPlace 79 = .ok (.iload_n 3, 1) := dk_29 (dk_at dksX1_bestPlace_3 8 rfl rfl)
theorem dX1_bestPlace_80 : decode cX1_bestPlace 80 = .ok (.istore_n 3, 1) := dk_62 (dk_at dksX1_bestPlace_3 9 rfl rfl)
theorem dX1_bestPlace_81 : decode cX1_bestPlace 81 = .ok (.iload 4, 2) := dk_21 4 (dk_at dksX1_bestPlace_3 10 rfl rfl)
theorem dX1_bestPlace_83 : decode cX1_bestPlace 83 = .ok (.iload 7, 2) := dk_21 7 (dk_at dksX1_bestPlace_3 12 rfl rfl)
theorem dX1_bestPlace_85 : decode cX1_bestPlace 85 = .ok (.invokestatic 296, 3) := dk_184 1 40 (dk_at dksX1_bestPlace_3 14 rfl rfl)
theorem dX1_bestPlace_88 : decode cX1_bestPlace 88 = .ok (.istore 4, 2) := dk_54 4 (dk_at dksX1_bestPlace_3 17 rfl rfl)
theorem dX1_bestPlace_90 : decode cX1_bestPlace 90 = .ok (.iinc 5 1, 3) := dk_132 5 1 (dk_at dksX1_bestPlace_3 19 rfl rfl)
theorem dX1_bestPlace_93 : decode cX1_bestPlace 93 = .ok (.goto (-79), 3) := dk_167 255 177 (dk_at dksX1_bestPlace_4 0 rfl rfl)
theorem dX1_bestPlace_96 : decode cX1_bestPlace 96 = .ok (.iload_n 3, 1) := dk_29 (dk_at dksX1_bestPlace_4 3 rfl rfl)
theorem dX1_bestPlace_97 : decode cX1_bestPlace 97 = .ok (.ireturn, 1) := dk_172 (dk_at dksX1_bestPlace_4 4 rfl rfl)
abbrev cX1_takeBack : ByteArray := prog_1_method_55_code
def yX1_takeBack : MethodName := ⟨RX1, "takeBack", "()I"⟩
def dkwX1_takeBack_3 : List UInt8 := [182, 0, 119, 172]
abbrev dktX1_takeBack_3 : List UInt8 := dkwX1_takeBack_3 ++ []
def dkwX1_takeBack_2 : List UInt8 := [180, 0, 47, 43, 184, 1, 104, 61, 42, 180, 0, 47, 180, 1, 46, 182, 1, 108, 192, 0, 120, 78, 43]
abbrev dktX1_takeBack_2 : List UInt8 := dkwX1_takeBack_2 ++ dktX1_takeBack_3
def dkwX1_takeBack_1 : List UInt8 := [182, 1, 56, 43, 184, 1, 104, 153, 0, 7, 4, 167, 0, 4, 3, 184, 0, 81, 42, 182, 1, 78, 42]
abbrev dktX1_takeBack_1 : List UInt8 := dkwX1_takeBack_1 ++ dktX1_takeBack_2
def dkwX1_takeBack_0 : List UInt8 := [42, 180, 0, 47, 180, 1, 46, 182, 1, 101, 192, 0, 120, 76, 43, 198, 0, 21, 42, 180, 0, 47]
abbrev dktX1_takeBack_0 : List UInt8 := dkwX1_takeBack_0 ++ dktX1_takeBack_1
theorem dksX1_takeBack_0 : cX1_takeBack.data.toList.drop 0 = dktX1_takeBack_0 := by decide +kernel
theorem dksX1_takeBack_1 : cX1_takeBack.data.toList.drop 22 = dktX1_takeBack_1 := dk_seg dksX1_takeBack_0 22 rfl rfl
theorem dksX1_takeBack_2 : cX1_takeBack.data.toList.drop 45 = dktX1_takeBack_2 := dk_seg dksX1_takeBack_1 23 rfl rfl
theorem dksX1_takeBack_3 : cX1_takeBack.data.toList.drop 68 = dktX1_takeBack_3 := dk_seg dksX1_takeBack_2 23 rfl rfl
theorem dX1_takeBack_0 : decode cX1_takeBack 0 = .ok (.aload_n 0, 1) := dk_42 (dk_at dksX1_takeBack_0 0 rfl rfl)
theorem dX1_takeBack_1 : decode cX1_takeBack 1 = .ok (.getfield 47, 3) := dk_180 0 47 (dk_at dksX1_takeBack_0 1 rfl rfl)
theorem dX1_takeBack_4 : decode cX1_takeBack 4 = .ok (.getfield 302, 3) := dk_180 1 46 (dk_at dksX1_takeBack_0 4 rfl rfl)
theorem dX1_takeBack_7 : decode cX1_takeBack 7 = .ok (.invokevirtual 357, 3) := dk_182 1 101 (dk_at dksX1_takeBack_0 7 rfl rfl)
theorem dX1_takeBack_10 : decode cX1_takeBack 10 = .ok (.checkcast 120, 3) := dk_192 0 120 (dk_at dksX1_takeBack_0 10 rfl rfl)
theorem dX1_takeBack_13 : decode cX1_takeBack 13 = .ok (.astore_n 1, 1) := dk_76 (dk_at dksX1_takeBack_0 13 rfl rfl)
theorem dX1_takeBack_14 : decode cX1_takeBack 14 = .ok (.aload_n 1, 1) := dk_43 (dk_at dksX1_takeBack_0 14 rfl rfl)
theorem dX1_takeBack_15 : decode cX1_takeBack 15 = .ok (.ifnull 21, 3) := dk_198 0 21 (dk_at dksX1_takeBack_0 15 rfl rfl)
theorem dX1_takeBack_18 : decode cX1_takeBack 18 = .ok (.aload_n 0, 1) := dk_42 (dk_at dksX1_takeBack_0 18 rfl rfl)
theorem dX1_takeBack_19 : decode cX1_takeBack 19 = .ok (.getfield 47, 3) := dk_180 0 47 (dk_at dksX1_takeBack_0 19 rfl rfl)
theorem dX1_takeBack_22 : decode cX1_takeBack 22 = .ok (.invokevirtual 312, 3) := dk_182 1 56 (dk_at dksX1_takeBack_1 0 rfl rfl)
theorem dX1_takeBack_25 : decode cX1_takeBack 25 = .ok (.aload_n 1, 1) := dk_43 (dk_at dksX1_takeBack_1 3 rfl rfl)
theorem dX1_takeBack_26 : decode cX1_takeBack 26 = .ok (.invokestatic 360, 3) := dk_184 1 104 (dk_at dksX1_takeBack_1 4 rfl rfl)
theorem dX1_takeBack_29 : decode cX1_takeBack 29 = .ok (.ifCond .eq 7, 3) := dk_153 0 7 (dk_at dksX1_takeBack_1 7 rfl rfl)
theorem dX1_takeBack_32 : decode cX1_takeBack 32 = .ok (.iconst 1, 1) := dk_4 (dk_at dksX1_takeBack_1 10 rfl rfl)
theorem dX1_takeBack_33 : decode cX1_takeBack 33 = .ok (.goto 4, 3) := dk_167 0 4 (dk_at dksX1_takeBack_1 11 rfl rfl)
theorem dX1_takeBack_36 : decode cX1_takeBack 36 = .ok (.iconst 0, 1) := dk_3 (dk_at dksX1_takeBack_1 14 rfl rfl)
theorem dX1_takeBack_37 : decode cX1_takeBack 37 = .ok (.invokestatic 81, 3) := dk_184 0 81 (dk_at dksX1_takeBack_1 15 rfl rfl)
theorem dX1_takeBack_40 : decode cX1_takeBack 40 = .ok (.aload_n 0, 1) := dk_42 (dk_at dksX1_takeBack_1 18 rfl rfl)
theorem dX1_takeBack_41 : decode cX1_takeBack 41 = .ok (.invokevirtual 334, 3) := dk_182 1 78 (dk_at dksX1_takeBack_1 19 rfl rfl)
theorem dX1_takeBack_44 : decode cX1_takeBack 44 = .ok (.aload_n 0, 1) := dk_42 (dk_at dksX1_takeBack_1 22 rfl rfl)
theorem dX1_takeBack_45 : decode cX1_takeBack 45 = .ok (.getfield 47, 3) := dk_180 0 47 (dk_at dksX1_takeBack_2 0 rfl rfl)
theorem dX1_takeBack_48 : decode cX1_takeBack 48 = .ok (.aload_n 1, 1) := dk_43 (dk_at dksX1_takeBack_2 3 rfl rfl)
theorem dX1_takeBack_49 : decode cX1_takeBack 49 = .ok (.invokestatic 360, 3) := dk_184 1 104 (dk_at dksX1_takeBack_2 4 rfl rfl)
theorem dX1_takeBack_52 : decode cX1_takeBack 52 = .ok (.istore_n 2, 1) := dk_61 (dk_at dksX1_takeBack_2 7 rfl rfl)
theorem dX1_takeBack_53 : decode cX1_takeBack 53 = .ok (.aload_n 0, 1) := dk_42 (dk_at dksX1_takeBack_2 8 rfl rfl)
theorem dX1_takeBack_54 : decode cX1_takeBack 54 = .ok (.getfield 47, 3) := dk_180 0 47 (dk_at dksX1_takeBack_2 9 rfl rfl)
theorem dX1_takeBack_57 : decode cX1_takeBack 57 = .ok (.getfield 302, 3) := dk_180 1 46 (dk_at dksX1_takeBack_2 12 rfl rfl)
theorem dX1_takeBack_60 : decode cX1_takeBack 60 = .ok (.invokevirtual 364, 3) := dk_182 1 108 (dk_at dksX1_takeBack_2 15 rfl rfl)
theorem dX1_takeBack_63 : decode cX1_takeBack 63 = .ok (.checkcast 120, 3) := dk_192 0 120 (dk_at dksX1_takeBack_2 18 rfl rfl)
theorem dX1_takeBack_66 : decode cX1_takeBack 66 = .ok (.astore_n 3, 1) := dk_78 (dk_at dksX1_takeBack_2 21 rfl rfl)
theorem dX1_takeBack_67 : decode cX1_takeBack 67 = .ok (.aload_n 1, 1) := dk_43 (dk_at dksX1_takeBack_2 22 rfl rfl)
theorem dX1_takeBack_68 : decode cX1_takeBack 68 = .ok (.invokevirtual 119, 3) := dk_182 0 119 (dk_at dksX1_takeBack_3 0 rfl rfl)
theorem dX1_takeBack_71 : decode cX1_takeBack 71 = .ok (.ireturn, 1) := dk_172 (dk_at dksX1_takeBack_3 3 rfl rfl)
abbrev cX1_goesBack : ByteArray := prog_1_method_54_code
def yX1_goesBack : MethodName := ⟨RX1, "goesBack", "(LBatchRenamer$Board;Ljava/util/ArrayList;)Z"⟩
def dkwX1_goesBack_3 : List UInt8 := [182, 1, 84, 132, 2, 255, 167, 255, 187, 4, 172]
abbrev dktX1_goesBack_3 : List UInt8 := dkwX1_goesBack_3 ++ []
def dkwX1_goesBack_2 : List UInt8 := [45, 180, 1, 95, 182, 1, 97, 2, 159, 0, 5, 3, 172, 42, 45, 180, 1, 17, 45, 180, 1, 95]
abbrev dktX1_goesBack_2 : List UInt8 := dkwX1_goesBack_2 ++ dktX1_goesBack_3
def dkwX1_goesBack_1 : List UInt8 := [45, 180, 1, 17, 182, 0, 128, 192, 0, 132, 180, 0, 156, 45, 180, 1, 81, 182, 1, 91, 153, 0, 15, 42]
abbrev dktX1_goesBack_1 : List UInt8 := dkwX1_goesBack_1 ++ dktX1_goesBack_2
def dkwX1_goesBack_0 : List UInt8 := [43, 182, 0, 119, 4, 100, 61, 28, 155, 0, 71, 43, 28, 182, 0, 128, 192, 1, 11, 78, 42, 180, 0, 115]
abbrev dktX1_goesBack_0 : List UInt8 := dkwX1_goesBack_0 ++ dktX1_goesBack_1
theorem dksX1_goesBack_0 : cX1_goesBack.data.toList.drop 0 = dktX1_goesBack_0 := by decide +kernel
theorem dksX1_goesBack_1 : cX1_goesBack.data.toList.drop 24 = dktX1_goesBack_1 := dk_seg dksX1_goesBack_0 24 rfl rfl
theorem dksX1_goesBack_2 : cX1_goesBack.data.toList.drop 48 = dktX1_goesBack_2 := dk_seg dksX1_goesBack_1 24 rfl rfl
theorem dksX1_goesBack_3 : cX1_goesBack.data.toList.drop 70 = dktX1_goesBack_3 := dk_seg dksX1_goesBack_2 22 rfl rfl
theorem dX1_goesBack_0 : decode cX1_goesBack 0 = .ok (.aload_n 1, 1) := dk_43 (dk_at dksX1_goesBack_0 0 rfl rfl)
theorem dX1_goesBack_1 : decode cX1_goesBack 1 = .ok (.invokevirtual 119, 3) := dk_182 0 119 (dk_at dksX1_goesBack_0 1 rfl rfl)
theorem dX1_goesBack_4 : decode cX1_goesBack 4 = .ok (.iconst 1, 1) := dk_4 (dk_at dksX1_goesBack_0 4 rfl rfl)
theorem dX1_goesBack_5 : decode cX1_goesBack 5 = .ok (.isub, 1) := dk_100 (dk_at dksX1_goesBack_0 5 rfl rfl)
theorem dX1_goesBack_6 : decode cX1_goesBack 6 = .ok (.istore_n 2, 1) := dk_61 (dk_at dksX1_goesBack_0 6 rfl rfl)
theorem dX1_goesBack_7 : decode cX1_goesBack 7 = .ok (.iload_n 2, 1) := dk_28 (dk_at dksX1_goesBack_0 7 rfl rfl)
theorem dX1_goesBack_8 : decode cX1_goesBack 8 = .ok (.ifCond .lt 71, 3) := dk_155 0 71 (dk_at dksX1_goesBack_0 8 rfl rfl)
theorem dX1_goesBack_11 : decode cX1_goesBack 11 = .ok (.aload_n 1, 1) := dk_43 (dk_at dksX1_goesBack_0 11 rfl rfl)
theorem dX1_goesBack_12 : decode cX1_goesBack 12 = .ok (.iload_n 2, 1) := dk_28 (dk_at dksX1_goesBack_0 12 rfl rfl)
theorem dX1_goesBack_13 : decode cX1_goesBack 13 = .ok (.invokevirtual 128, 3) := dk_182 0 128 (dk_at dksX1_goesBack_0 13 rfl rfl)
theorem dX1_goesBack_16 : decode cX1_goesBack 16 = .ok (.checkcast 267, 3) := dk_192 1 11 (dk_at dksX1_goesBack_0 16 rfl rfl)
theorem dX1_goesBack_19 : decode cX1_goesBack 19 = .ok (.astore_n 3, 1) := dk_78 (dk_at dksX1_goesBack_0 19 rfl rfl)
theorem dX1_goesBack_20 : decode cX1_goesBack 20 = .ok (.aload_n 0, 1) := dk_42 (dk_at dksX1_goesBack_0 20 rfl rfl)
theorem dX1_goesBack_21 : decode cX1_goesBack 21 = .ok (.getfield 115, 3) := dk_180 0 115 (dk_at dksX1_goesBack_0 21 rfl rfl)
theorem dX1_goesBack_24 : decode cX1_goesBack 24 = .ok (.aload_n 3, 1) := dk_45 (dk_at dksX1_goesBack_1 0 rfl rfl)
theorem dX1_goesBack_25 : decode cX1_goesBack 25 = .ok (.getfield 273, 3) := dk_180 1 17 (dk_at dksX1_goesBack_1 1 rfl rfl)
theorem dX1_goesBack_28 : decode cX1_goesBack 28 = .ok (.invokevirtual 128, 3) := dk_182 0 128 (dk_at dksX1_goesBack_1 4 rfl rfl)
theorem dX1_goesBack_31 : decode cX1_goesBack 31 = .ok (.checkcast 132, 3) := dk_192 0 132 (dk_at dksX1_goesBack_1 7 rfl rfl)
theorem dX1_goesBack_34 : decode cX1_goesBack 34 = .ok (.getfield 156, 3) := dk_180 0 156 (dk_at dksX1_goesBack_1 10 rfl rfl)
theorem dX1_goesBack_37 : decode cX1_goesBack 37 = .ok (.aload_n 3, 1) := dk_45 (dk_at dksX1_goesBack_1 13 rfl rfl)
theorem dX1_goesBack_38 : decode cX1_goesBack 38 = .ok (.getfield 337, 3) := dk_180 1 81 (dk_at dksX1_goesBack_1 14 rfl rfl)
theorem dX1_goesBack_41 : decode cX1_goesBack 41 = .ok (.invokevirtual 347, 3) := dk_182 1 91 (dk_at dksX1_goesBack_1 17 rfl rfl)
theorem dX1_goesBack_44 : decode cX1_goesBack 44 = .ok (.ifCond .eq 15, 3) := dk_153 0 15 (dk_at dksX1_goesBack_1 20 rfl rfl)
theorem dX1_goesBack_47 : decode cX1_goesBack 47 = .ok (.aload_n 0, 1) := dk_42 (dk_at dksX1_goesBack_1 23 rfl rfl)
theorem dX1_goesBack_48 : decode cX1_goesBack 48 = .ok (.aload_n 3, 1) := dk_45 (dk_at dksX1_goesBack_2 0 rfl rfl)
theorem dX1_goesBack_49 : decode cX1_goesBack 49 = .ok (.getfield 351, 3) := dk_180 1 95 (dk_at dksX1_goesBack_2 1 rfl rfl)
theorem dX1_goesBack_52 : decode cX1_goesBack 52 = .ok (.invokevirtual 353, 3) := dk_182 1 97 (dk_at dksX1_goesBack_2 4 rfl rfl)
theorem dX1_goesBack_55 : decode cX1_goesBack 55 = .ok (.iconst (-1), 1) := dk_2 (dk_at dksX1_goesBack_2 7 rfl rfl)
theorem dX1_goesBack_56 : decode cX1_goesBack 56 = .ok (.if_icmp .eq 5, 3) := dk_159 0 5 (dk_at dksX1_goesBack_2 8 rfl rfl)
theorem dX1_goesBack_59 : decode cX1_goesBack 59 = .ok (.iconst 0, 1) := dk_3 (dk_at dksX1_goesBack_2 11 rfl rfl)
theorem dX1_goesBack_60 : decode cX1_goesBack 60 = .ok (.ireturn, 1) := dk_172 (dk_at dksX1_goesBack_2 12 rfl rfl)
theorem dX1_goesBack_61 : decode cX1_goesBack 61 = .ok (.aload_n 0, 1) := dk_42 (dk_at dksX1_goesBack_2 13 rfl rfl)
theorem dX1_goesBack_62 : decode cX1_goesBack 62 = .ok (.aload_n 3, 1) := dk_45 (dk_at dksX1_goesBack_2 14 rfl rfl)
theorem dX1_goesBack_63 : decode cX1_goesBack 63 = .ok (.getfield 273, 3) := dk_180 1 17 (dk_at dksX1_goesBack_2 15 rfl rfl)
theorem dX1_goesBack_66 : decode cX1_goesBack 66 = .ok (.aload_n 3, 1) := dk_45 (dk_at dksX1_goesBack_2 18 rfl rfl)
theorem dX1_goesBack_67 : decode cX1_goesBack 67 = .ok (.getfield 351, 3) := dk_180 1 95 (dk_at dksX1_goesBack_2 19 rfl rfl)
theorem dX1_goesBack_70 : decode cX1_goesBack 70 = .ok (.invokevirtual 340, 3) := dk_182 1 84 (dk_at dksX1_goesBack_3 0 rfl rfl)
theorem dX1_goesBack_73 : decode cX1_goesBack 73 = .ok (.iinc 2 (-1), 3) := dk_132 2 255 (dk_at dksX1_goesBack_3 3 rfl rfl)
theorem dX1_goesBack_76 : decode cX1_goesBack 76 = .ok (.goto (-69), 3) := dk_167 255 187 (dk_at dksX1_goesBack_3 6 rfl rfl)
theorem dX1_goesBack_79 : decode cX1_goesBack 79 = .ok (.iconst 1, 1) := dk_4 (dk_at dksX1_goesBack_3 9 rfl rfl)
theorem dX1_goesBack_80 : decode cX1_goesBack 80 = .ok (.ireturn, 1) := dk_172 (dk_at dksX1_goesBack_3 10 rfl rfl)
abbrev cX1_addFile : ByteArray := prog_1_method_57_code
def yX1_addFile : MethodName := ⟨RX1, "addFile", "()I"⟩
def dkwX1_addFile_3 : List UInt8 := [172]
abbrev dktX1_addFile_3 : List UInt8 := dkwX1_addFile_3 ++ []
def dkwX1_addFile_2 : List UInt8 := [187, 0, 132, 89, 43, 183, 1, 123, 182, 1, 126, 87, 42, 180, 0, 47, 180, 0, 115, 182, 0, 119, 4, 100]
abbrev dktX1_addFile_2 : List UInt8 := dkwX1_addFile_2 ++ dktX1_addFile_3
def dkwX1_addFile_1 : List UInt8 := [167, 0, 4, 3, 184, 0, 81, 42, 3, 181, 0, 79, 42, 182, 1, 78, 42, 180, 0, 47, 180, 0, 115]
abbrev dktX1_addFile_1 : List UInt8 := dkwX1_addFile_1 ++ dktX1_addFile_2
def dkwX1_addFile_0 : List UInt8 := [42, 2, 182, 1, 119, 76, 42, 180, 0, 47, 180, 0, 115, 182, 0, 119, 16, 20, 162, 0, 7, 4]
abbrev dktX1_addFile_0 : List UInt8 := dkwX1_addFile_0 ++ dktX1_addFile_1
theorem dksX1_addFile_0 : cX1_addFile.data.toList.drop 0 = dktX1_addFile_0 := by decide +kernel
theorem dksX1_addFile_1 : cX1_addFile.data.toList.drop 22 = dktX1_addFile_1 := dk_seg dksX1_addFile_0 22 rfl rfl
theorem dksX1_addFile_2 : cX1_addFile.data.toList.drop 45 = dktX1_addFile_2 := dk_seg dksX1_addFile_1 23 rfl rfl
theorem dksX1_addFile_3 : cX1_addFile.data.toList.drop 69 = dktX1_addFile_3 := dk_seg dksX1_addFile_2 24 rfl rfl
theorem dX1_addFile_0 : decode cX1_addFile 0 = .ok (.aload_n 0, 1) := dk_42 (dk_at dksX1_addFile_0 0 rfl rfl)
theorem dX1_addFile_1 : decode cX1_addFile 1 = .ok (.iconst (-1), 1) := dk_2 (dk_at dksX1_addFile_0 1 rfl rfl)
theorem dX1_addFile_2 : decode cX1_addFile 2 = .ok (.invokevirtual 375, 3) := dk_182 1 119 (dk_at dksX1_addFile_0 2 rfl rfl)
theorem dX1_addFile_5 : decode cX1_addFile 5 = .ok (.astore_n 1, 1) := dk_76 (dk_at dksX1_addFile_0 5 rfl rfl)
theorem dX1_addFile_6 : decode cX1_addFile 6 = .ok (.aload_n 0, 1) := dk_42 (dk_at dksX1_addFile_0 6 rfl rfl)
theorem dX1_addFile_7 : decode cX1_addFile 7 = .ok (.getfield 47, 3) := dk_180 0 47 (dk_at dksX1_addFile_0 7 rfl rfl)
theorem dX1_addFile_10 : decode cX1_addFile 10 = .ok (.getfield 115, 3) := dk_180 0 115 (dk_at dksX1_addFile_0 10 rfl rfl)
theorem dX1_addFile_13 : decode cX1_addFile 13 = .ok (.invokevirtual 119, 3) := dk_182 0 119 (dk_at dksX1_addFile_0 13 rfl rfl)
theorem dX1_addFile_16 : decode cX1_addFile 16 = .ok (.bipush 20, 2) := dk_16 20 (dk_at dksX1_addFile_0 16 rfl rfl)
theorem dX1_addFile_18 : decode cX1_addFile 18 = .ok (.if_icmp .ge 7, 3) := dk_162 0 7 (dk_at dksX1_addFile_0 18 rfl rfl)
theorem dX1_addFile_21 : decode cX1_addFile 21 = .ok (.iconst 1, 1) := dk_4 (dk_at dksX1_addFile_0 21 rfl rfl)
theorem dX1_addFile_22 : decode cX1_addFile 22 = .ok (.goto 4, 3) := dk_167 0 4 (dk_at dksX1_addFile_1 0 rfl rfl)
theorem dX1_addFile_25 : decode cX1_addFile 25 = .ok (.iconst 0, 1) := dk_3 (dk_at dksX1_addFile_1 3 rfl rfl)
theorem dX1_addFile_26 : decode cX1_addFile 26 = .ok (.invokestatic 81, 3) := dk_184 0 81 (dk_at dksX1_addFile_1 4 rfl rfl)
theorem dX1_addFile_29 : decode cX1_addFile 29 = .ok (.aload_n 0, 1) := dk_42 (dk_at dksX1_addFile_1 7 rfl rfl)
theorem dX1_addFile_30 : decode cX1_addFile 30 = .ok (.iconst 0, 1) := dk_3 (dk_at dksX1_addFile_1 8 rfl rfl)
theorem dX1_addFile_31 : decode cX1_addFile 31 = .ok (.putfield 79, 3) := dk_181 0 79 (dk_at dksX1_addFile_1 9 rfl rfl)
theorem dX1_addFile_34 : decode cX1_addFile 34 = .ok (.aload_n 0, 1) := dk_42 (dk_at dksX1_addFile_1 12 rfl rfl)
theorem dX1_addFile_35 : decode cX1_addFile 35 = .ok (.invokevirtual 334, 3) := dk_182 1 78 (dk_at dksX1_addFile_1 13 rfl rfl)
theorem dX1_addFile_38 : decode cX1_addFile 38 = .ok (.aload_n 0, 1) := dk_42 (dk_at dksX1_addFile_1 16 rfl rfl)
theorem dX1_addFile_39 : decode cX1_addFile 39 = .ok (.getfield 47, 3) := dk_180 0 47 (dk_at dksX1_addFile_1 17 rfl rfl)
theorem dX1_addFile_42 : decode cX1_addFile 42 = .ok (.getfield 115, 3) := dk_180 0 115 (dk_at dksX1_addFile_1 20 rfl rfl)
theorem dX1_addFile_45 : decode cX1_addFile 45 = .ok (.new 132, 3) := dk_187 0 132 (dk_at dksX1_addFile_2 0 rfl rfl)
theorem dX1_addFile_48 : decode cX1_addFile 48 = .ok (.dup, 1) := dk_89 (dk_at dksX1_addFile_2 3 rfl rfl)
theorem dX1_addFile_49 : decode cX1_addFile 49 = .ok (.aload_n 1, 1) := dk_43 (dk_at dksX1_addFile_2 4 rfl rfl)
theorem dX1_addFile_50 : decode cX1_addFile 50 = .ok (.invokespecial 379, 3) := dk_183 1 123 (dk_at dksX1_addFile_2 5 rfl rfl)
theorem dX1_addFile_53 : decode cX1_addFile 53 = .ok (.invokevirtual 382, 3) := dk_182 1 126 (dk_at dksX1_addFile_2 8 rfl rfl)
theorem dX1_addFile_56 : decode cX1_addFile 56 = .ok (.pop, 1) := dk_87 (dk_at dksX1_addFile_2 11 rfl rfl)
theorem dX1_addFile_57 : decode cX1_addFile 57 = .ok (.aload_n 0, 1) := dk_42 (dk_at dksX1_addFile_2 12 rfl rfl)
theorem dX1_addFile_58 : decode cX1_addFile 58 = .ok (.getfield 47, 3) := dk_180 0 47 (dk_at dksX1_addFile_2 13 rfl rfl)
theorem dX1_addFile_61 : decode cX1_addFile 61 = .ok (.getfield 115, 3) := dk_180 0 115 (dk_at dksX1_addFile_2 16 rfl rfl)
theorem dX1_addFile_64 : decode cX1_addFile 64 = .ok (.invokevirtual 119, 3) := dk_182 0 119 (dk_at dksX1_addFile_2 19 rfl rfl)
theorem dX1_addFile_67 : decode cX1_addFile 67 = .ok (.iconst 1, 1) := dk_4 (dk_at dksX1_addFile_2 22 rfl rfl)
theorem dX1_addFile_68 : decode cX1_addFile 68 = .ok (.isub, 1) := dk_100 (dk_at dksX1_addFile_2 23 rfl rfl)
theorem dX1_addFile_69 : decode cX1_addFile 69 = .ok (.ireturn, 1) := dk_172 (dk_at dksX1_addFile_3 0 rfl rfl)
abbrev cX1_typed : ByteArray := prog_1_method_56_code
def yX1_typed : MethodName := ⟨RX1, "typed", "(I)Ljava/lang/String;"⟩
def dkwX1_typed_2 : List UInt8 := [62, 42, 29, 153, 0, 10, 42, 180, 0, 79, 167, 0, 4, 3, 181, 0, 79, 29, 184, 0, 85, 44, 176]
abbrev dktX1_typed_2 : List UInt8 := dkwX1_typed_2 ++ []
def dkwX1_typed_1 : List UInt8 := [182, 1, 97, 2, 159, 0, 15, 42, 180, 0, 47, 44, 182, 1, 97, 27, 160, 0, 7, 4, 167, 0, 4, 3]
abbrev dktX1_typed_1 : List UInt8 := dkwX1_typed_1 ++ dktX1_typed_2
def dkwX1_typed_0 : List UInt8 := [42, 182, 0, 99, 182, 1, 111, 77, 44, 16, 12, 184, 1, 115, 153, 0, 31, 42, 180, 0, 47, 44]
abbrev dktX1_typed_0 : List UInt8 := dkwX1_typed_0 ++ dktX1_typed_1
theorem dksX1_typed_0 : cX1_typed.data.toList.drop 0 = dktX1_typed_0 := by decide +kernel
theorem dksX1_typed_1 : cX1_typed.data.toList.drop 22 = dktX1_typed_1 := dk_seg dksX1_typed_0 22 rfl rfl
theorem dksX1_typed_2 : cX1_typed.data.toList.drop 46 = dktX1_typed_2 := dk_seg dksX1_typed_1 24 rfl rfl
theorem dX1_typed_0 : decode cX1_typed 0 = .ok (.aload_n 0, 1) := dk_42 (dk_at dksX1_typed_0 0 rfl rfl)
theorem dX1_typed_1 : decode cX1_typed 1 = .ok (.invokevirtual 99, 3) := dk_182 0 99 (dk_at dksX1_typed_0 1 rfl rfl)
theorem dX1_typed_4 : decode cX1_typed 4 = .ok (.invokevirtual 367, 3) := dk_182 1 111 (dk_at dksX1_typed_0 4 rfl rfl)
theorem dX1_typed_7 : decode cX1_typed 7 = .ok (.astore_n 2, 1) := dk_77 (dk_at dksX1_typed_0 7 rfl rfl)
theorem dX1_typed_8 : decode cX1_typed 8 = .ok (.aload_n 2, 1) := dk_44 (dk_at dksX1_typed_0 8 rfl rfl)
theorem dX1_typed_9 : decode cX1_typed 9 = .ok (.bipush 12, 2) := dk_16 12 (dk_at dksX1_typed_0 9 rfl rfl)
theorem dX1_typed_11 : decode cX1_typed 11 = .ok (.invokestatic 371, 3) := dk_184 1 115 (dk_at dksX1_typed_0 11 rfl rfl)
theorem dX1_typed_14 : decode cX1_typed 14 = .ok (.ifCond .eq 31, 3) := dk_153 0 31 (dk_at dksX1_typed_0 14 rfl rfl)
theorem dX1_typed_17 : decode cX1_typed 17 = .ok (.aload_n 0, 1) := dk_42 (dk_at dksX1_typed_0 17 rfl rfl)
theorem dX1_typed_18 : decode cX1_typed 18 = .ok (.getfield 47, 3) := dk_180 0 47 (dk_at dksX1_typed_0 18 rfl rfl)
theorem dX1_typed_21 : decode cX1_typed 21 = .ok (.aload_n 2, 1) := dk_44 (dk_at dksX1_typed_0 21 rfl rfl)
theorem dX1_typed_22 : decode cX1_typed 22 = .ok (.invokevirtual 353, 3) := dk_182 1 97 (dk_at dksX1_typed_1 0 rfl rfl)
theorem dX1_typed_25 : decode cX1_typed 25 = .ok (.iconst (-1), 1) := dk_2 (dk_at dksX1_typed_1 3 rfl rfl)
theorem dX1_typed_26 : decode cX1_typed 26 = .ok (.if_icmp .eq 15, 3) := dk_159 0 15 (dk_at dksX1_typed_1 4 rfl rfl)
theorem dX1_typed_29 : decode cX1_typed 29 = .ok (.aload_n 0, 1) := dk_42 (dk_at dksX1_typed_1 7 rfl rfl)
theorem dX1_typed_30 : decode cX1_typed 30 = .ok (.getfield 47, 3) := dk_180 0 47 (dk_at dksX1_typed_1 8 rfl rfl)
theorem dX1_typed_33 : decode cX1_typed 33 = .ok (.aload_n 2, 1) := dk_44 (dk_at dksX1_typed_1 11 rfl rfl)
theorem dX1_typed_34 : decode cX1_typed 34 = .ok (.invokevirtual 353, 3) := dk_182 1 97 (dk_at dksX1_typed_1 12 rfl rfl)
theorem dX1_typed_37 : decode cX1_typed 37 = .ok (.iload_n 1, 1) := dk_27 (dk_at dksX1_typed_1 15 rfl rfl)
theorem dX1_typed_38 : decode cX1_typed 38 = .ok (.if_icmp .ne 7, 3) := dk_160 0 7 (dk_at dksX1_typed_1 16 rfl rfl)
theorem dX1_typed_41 : decode cX1_typed 41 = .ok (.iconst 1, 1) := dk_4 (dk_at dksX1_typed_1 19 rfl rfl)
theorem dX1_typed_42 : decode cX1_typed 42 = .ok (.goto 4, 3) := dk_167 0 4 (dk_at dksX1_typed_1 20 rfl rfl)
theorem dX1_typed_45 : decode cX1_typed 45 = .ok (.iconst 0, 1) := dk_3 (dk_at dksX1_typed_1 23 rfl rfl)
theorem dX1_typed_46 : decode cX1_typed 46 = .ok (.istore_n 3, 1) := dk_62 (dk_at dksX1_typed_2 0 rfl rfl)
theorem dX1_typed_47 : decode cX1_typed 47 = .ok (.aload_n 0, 1) := dk_42 (dk_at dksX1_typed_2 1 rfl rfl)
theorem dX1_typed_48 : decode cX1_typed 48 = .ok (.iload_n 3, 1) := dk_29 (dk_at dksX1_typed_2 2 rfl rfl)
theorem dX1_typed_49 : decode cX1_typed 49 = .ok (.ifCond .eq 10, 3) := dk_153 0 10 (dk_at dksX1_typed_2 3 rfl rfl)
theorem dX1_typed_52 : decode cX1_typed 52 = .ok (.aload_n 0, 1) := dk_42 (dk_at dksX1_typed_2 6 rfl rfl)
theorem dX1_typed_53 : decode cX1_typed 53 = .ok (.getfield 79, 3) := dk_180 0 79 (dk_at dksX1_typed_2 7 rfl rfl)
theorem dX1_typed_56 : decode cX1_typed 56 = .ok (.goto 4, 3) := dk_167 0 4 (dk_at dksX1_typed_2 10 rfl rfl)
theorem dX1_typed_59 : decode cX1_typed 59 = .ok (.iconst 0, 1) := dk_3 (dk_at dksX1_typed_2 13 rfl rfl)
theorem dX1_typed_60 : decode cX1_typed 60 = .ok (.putfield 79, 3) := dk_181 0 79 (dk_at dksX1_typed_2 14 rfl rfl)
theorem dX1_typed_63 : decode cX1_typed 63 = .ok (.iload_n 3, 1) := dk_29 (dk_at dksX1_typed_2 17 rfl rfl)
theorem dX1_typed_64 : decode cX1_typed 64 = .ok (.invokestatic 85, 3) := dk_184 0 85 (dk_at dksX1_typed_2 18 rfl rfl)
theorem dX1_typed_67 : decode cX1_typed 67 = .ok (.aload_n 2, 1) := dk_44 (dk_at dksX1_typed_2 21 rfl rfl)
theorem dX1_typed_68 : decode cX1_typed 68 = .ok (.areturn, 1) := dk_176 (dk_at dksX1_typed_2 22 rfl rfl)
abbrev cX1_removeFile : ByteArray := prog_1_method_58_code
def yX1_removeFile : MethodName := ⟨RX1, "removeFile", "(I)I"⟩
def dkwX1_removeFile_1 : List UInt8 := [78, 42, 180, 0, 47, 180, 1, 46, 182, 0, 112, 42, 180, 0, 47, 180, 0, 115, 182, 0, 119, 172]
abbrev dktX1_removeFile_1 : List UInt8 := dkwX1_removeFile_1 ++ []
def dkwX1_removeFile_0 : List UInt8 := [42, 27, 182, 0, 144, 77, 42, 182, 1, 78, 42, 180, 0, 47, 180, 0, 115, 27, 182, 1, 59, 192, 0, 132]
abbrev dktX1_removeFile_0 : List UInt8 := dkwX1_removeFile_0 ++ dktX1_removeFile_1
theorem dksX1_removeFile_0 : cX1_removeFile.data.toList.drop 0 = dktX1_removeFile_0 := by decide +kernel
theorem dksX1_removeFile_1 : cX1_removeFile.data.toList.drop 24 = dktX1_removeFile_1 := dk_seg dksX1_removeFile_0 24 rfl rfl
theorem dX1_removeFile_0 : decode cX1_removeFile 0 = .ok (.aload_n 0, 1) := dk_42 (dk_at dksX1_removeFile_0 0 rfl rfl)
theorem dX1_removeFile_1 : decode cX1_removeFile 1 = .ok (.iload_n 1, 1) := dk_27 (dk_at dksX1_removeFile_0 1 rfl rfl)
theorem dX1_removeFile_2 : decode cX1_removeFile 2 = .ok (.invokevirtual 144, 3) := dk_182 0 144 (dk_at dksX1_removeFile_0 2 rfl rfl)
theorem dX1_removeFile_5 : decode cX1_removeFile 5 = .ok (.astore_n 2, 1) := dk_77 (dk_at dksX1_removeFile_0 5 rfl rfl)
theorem dX1_removeFile_6 : decode cX1_removeFile 6 = .ok (.aload_n 0, 1) := dk_42 (dk_at dksX1_removeFile_0 6 rfl rfl)
theorem dX1_removeFile_7 : decode cX1_removeFile 7 = .ok (.invokevirtual 334, 3) := dk_182 1 78 (dk_at dksX1_removeFile_0 7 rfl rfl)
theorem dX1_removeFile_10 : decode cX1_removeFile 10 = .ok (.aload_n 0, 1) := dk_42 (dk_at dksX1_removeFile_0 10 rfl rfl)
theorem dX1_removeFile_11 : decode cX1_removeFile 11 = .ok (.getfield 47, 3) := dk_180 0 47 (dk_at dksX1_removeFile_0 11 rfl rfl)
theorem dX1_removeFile_14 : decode cX1_removeFile 14 = .ok (.getfield 115, 3) := dk_180 0 115 (dk_at dksX1_removeFile_0 14 rfl rfl)
theorem dX1_removeFile_17 : decode cX1_removeFile 17 = .ok (.iload_n 1, 1) := dk_27 (dk_at dksX1_removeFile_0 17 rfl rfl)
theorem dX1_removeFile_18 : decode cX1_removeFile 18 = .ok (.invokevirtual 315, 3) := dk_182 1 59 (dk_at dksX1_removeFile_0 18 rfl rfl)
theorem dX1_removeFile_21 : decode cX1_removeFile 21 = .ok (.checkcast 132, 3) := dk_192 0 132 (dk_at dksX1_removeFile_0 21 rfl rfl)
theorem dX1_removeFile_24 : decode cX1_removeFile 24 = .ok (.astore_n 3, 1) := dk_78 (dk_at dksX1_removeFile_1 0 rfl rfl)
theorem dX1_removeFile_25 : decode cX1_removeFile 25 = .ok (.aload_n 0, 1) := dk_42 (dk_at dksX1_removeFile_1 1 rfl rfl)
theorem dX1_removeFile_26 : decode cX1_removeFile 26 = .ok (.getfield 47, 3) := dk_180 0 47 (dk_at dksX1_removeFile_1 2 rfl rfl)
theorem dX1_removeFile_29 : decode cX1_removeFile 29 = .ok (.getfield 302, 3) := dk_180 1 46 (dk_at dksX1_removeFile_1 5 rfl rfl)
theorem dX1_removeFile_32 : decode cX1_removeFile 32 = .ok (.invokevirtual 112, 3) := dk_182 0 112 (dk_at dksX1_removeFile_1 8 rfl rfl)
theorem dX1_removeFile_35 : decode cX1_removeFile 35 = .ok (.aload_n 0, 1) := dk_42 (dk_at dksX1_removeFile_1 11 rfl rfl)
theorem dX1_removeFile_36 : decode cX1_removeFile 36 = .ok (.getfield 47, 3) := dk_180 0 47 (dk_at dksX1_removeFile_1 12 rfl rfl)
theorem dX1_removeFile_39 : decode cX1_removeFile 39 = .ok (.getfield 115, 3) := dk_180 0 115 (dk_at dksX1_removeFile_1 15 rfl rfl)
theorem dX1_removeFile_42 : decode cX1_removeFile 42 = .ok (.invokevirtual 119, 3) := dk_182 0 119 (dk_at dksX1_removeFile_1 18 rfl rfl)
theorem dX1_removeFile_45 : decode cX1_removeFile 45 = .ok (.ireturn, 1) := dk_172 (dk_at dksX1_removeFile_1 21 rfl rfl)
abbrev cX1_moveFile : ByteArray := prog_1_method_59_code
def yX1_moveFile : MethodName := ⟨RX1, "moveFile", "(II)I"⟩
def dkwX1_moveFile_3 : List UInt8 := [182, 0, 148, 180, 0, 235, 28, 46, 172]
abbrev dktX1_moveFile_3 : List UInt8 := dkwX1_moveFile_3 ++ []
def dkwX1_moveFile_2 : List UInt8 := [180, 0, 115, 27, 182, 1, 59, 192, 0, 132, 182, 1, 68, 42, 180, 0, 47, 180, 1, 46, 182, 0, 112, 42]
abbrev dktX1_moveFile_2 : List UInt8 := dkwX1_moveFile_2 ++ dktX1_moveFile_3
def dkwX1_moveFile_1 : List UInt8 := [184, 0, 10, 184, 0, 85, 42, 182, 1, 78, 42, 180, 0, 47, 180, 0, 115, 28, 42, 180, 0, 47]
abbrev dktX1_moveFile_1 : List UInt8 := dkwX1_moveFile_1 ++ dktX1_moveFile_2
def dkwX1_moveFile_0 : List UInt8 := [42, 27, 182, 0, 144, 78, 28, 133, 9, 42, 180, 0, 47, 180, 0, 115, 182, 0, 119, 4, 100, 133]
abbrev dktX1_moveFile_0 : List UInt8 := dkwX1_moveFile_0 ++ dktX1_moveFile_1
theorem dksX1_moveFile_0 : cX1_moveFile.data.toList.drop 0 = dktX1_moveFile_0 := by decide +kernel
theorem dksX1_moveFile_1 : cX1_moveFile.data.toList.drop 22 = dktX1_moveFile_1 := dk_seg dksX1_moveFile_0 22 rfl rfl
theorem dksX1_moveFile_2 : cX1_moveFile.data.toList.drop 44 = dktX1_moveFile_2 := dk_seg dksX1_moveFile_1 22 rfl rfl
theorem dksX1_moveFile_3 : cX1_moveFile.data.toList.drop 68 = dktX1_moveFile_3 := dk_seg dksX1_moveFile_2 24 rfl rfl
theorem dX1_moveFile_0 : decode cX1_moveFile 0 = .ok (.aload_n 0, 1) := dk_42 (dk_at dksX1_moveFile_0 0 rfl rfl)
theorem dX1_moveFile_1 : decode cX1_moveFile 1 = .ok (.iload_n 1, 1) := dk_27 (dk_at dksX1_moveFile_0 1 rfl rfl)
theorem dX1_moveFile_2 : decode cX1_moveFile 2 = .ok (.invokevirtual 144, 3) := dk_182 0 144 (dk_at dksX1_moveFile_0 2 rfl rfl)
theorem dX1_moveFile_5 : decode cX1_moveFile 5 = .ok (.astore_n 3, 1) := dk_78 (dk_at dksX1_moveFile_0 5 rfl rfl)
theorem dX1_moveFile_6 : decode cX1_moveFile 6 = .ok (.iload_n 2, 1) := dk_28 (dk_at dksX1_moveFile_0 6 rfl rfl)
theorem dX1_moveFile_7 : decode cX1_moveFile 7 = .ok (.i2l, 1) := dk_133 (dk_at dksX1_moveFile_0 7 rfl rfl)
theorem dX1_moveFile_8 : decode cX1_moveFile 8 = .ok (.lconst 0, 1) := dk_9 (dk_at dksX1_moveFile_0 8 rfl rfl)
theorem dX1_moveFile_9 : decode cX1_moveFile 9 = .ok (.aload_n 0, 1) := dk_42 (dk_at dksX1_moveFile_0 9 rfl rfl)
theorem dX1_moveFile_10 : decode cX1_moveFile 10 = .ok (.getfield 47, 3) := dk_180 0 47 (dk_at dksX1_moveFile_0 10 rfl rfl)
theorem dX1_moveFile_13 : decode cX1_moveFile 13 = .ok (.getfield 115, 3) := dk_180 0 115 (dk_at dksX1_moveFile_0 13 rfl rfl)
theorem dX1_moveFile_16 : decode cX1_moveFile 16 = .ok (.invokevirtual 119, 3) := dk_182 0 119 (dk_at dksX1_moveFile_0 16 rfl rfl)
theorem dX1_moveFile_19 : decode cX1_moveFile 19 = .ok (.iconst 1, 1) := dk_4 (dk_at dksX1_moveFile_0 19 rfl rfl)
theorem dX1_moveFile_20 : decode cX1_moveFile 20 = .ok (.isub, 1) := dk_100 (dk_at dksX1_moveFile_0 20 rfl rfl)
theorem dX1_moveFile_21 : decode cX1_moveFile 21 = .ok (.i2l, 1) := dk_133 (dk_at dksX1_moveFile_0 21 rfl rfl)
theorem dX1_moveFile_22 : decode cX1_moveFile 22 = .ok (.invokestatic 10, 3) := dk_184 0 10 (dk_at dksX1_moveFile_1 0 rfl rfl)
theorem dX1_moveFile_25 : decode cX1_moveFile 25 = .ok (.invokestatic 85, 3) := dk_184 0 85 (dk_at dksX1_moveFile_1 3 rfl rfl)
theorem dX1_moveFile_28 : decode cX1_moveFile 28 = .ok (.aload_n 0, 1) := dk_42 (dk_at dksX1_moveFile_1 6 rfl rfl)
theorem dX1_moveFile_29 : decode cX1_moveFile 29 = .ok (.invokevirtual 334, 3) := dk_182 1 78 (dk_at dksX1_moveFile_1 7 rfl rfl)
theorem dX1_moveFile_32 : decode cX1_moveFile 32 = .ok (.aload_n 0, 1) := dk_42 (dk_at dksX1_moveFile_1 10 rfl rfl)
theorem dX1_moveFile_33 : decode cX1_moveFile 33 = .ok (.getfield 47, 3) := dk_180 0 47 (dk_at dksX1_moveFile_1 11 rfl rfl)
theorem dX1_moveFile_36 : decode cX1_moveFile 36 = .ok (.getfield 115, 3) := dk_180 0 115 (dk_at dksX1_moveFile_1 14 rfl rfl)
theorem dX1_moveFile_39 : decode cX1_moveFile 39 = .ok (.iload_n 2, 1) := dk_28 (dk_at dksX1_moveFile_1 17 rfl rfl)
theorem dX1_moveFile_40 : decode cX1_moveFile 40 = .ok (.aload_n 0, 1) := dk_42 (dk_at dksX1_moveFile_1 18 rfl rfl)
theorem dX1_moveFile_41 : decode cX1_moveFile 41 = .ok (.getfield 47, 3) := dk_180 0 47 (dk_at dksX1_moveFile_1 19 rfl rfl)
theorem dX1_moveFile_44 : decode cX1_moveFile 44 = .ok (.getfield 115, 3) := dk_180 0 115 (dk_at dksX1_moveFile_2 0 rfl rfl)
theorem dX1_moveFile_47 : decode cX1_moveFile 47 = .ok (.iload_n 1, 1) := dk_27 (dk_at dksX1_moveFile_2 3 rfl rfl)
theorem dX1_moveFile_48 : decode cX1_moveFile 48 = .ok (.invokevirtual 315, 3) := dk_182 1 59 (dk_at dksX1_moveFile_2 4 rfl rfl)
theorem dX1_moveFile_51 : decode cX1_moveFile 51 = .ok (.checkcast 132, 3) := dk_192 0 132 (dk_at dksX1_moveFile_2 7 rfl rfl)
theorem dX1_moveFile_54 : decode cX1_moveFile 54 = .ok (.invokevirtual 324, 3) := dk_182 1 68 (dk_at dksX1_moveFile_2 10 rfl rfl)
theorem dX1_moveFile_57 : decode cX1_moveFile 57 = .ok (.aload_n 0, 1) := dk_42 (dk_at dksX1_moveFile_2 13 rfl rfl)
theorem dX1_moveFile_58 : decode cX1_moveFile 58 = .ok (.getfield 47, 3) := dk_180 0 47 (dk_at dksX1_moveFile_2 14 rfl rfl)
theorem dX1_moveFile_61 : decode cX1_moveFile 61 = .ok (.getfield 302, 3) := dk_180 1 46 (dk_at dksX1_moveFile_2 17 rfl rfl)
theorem dX1_moveFile_64 : decode cX1_moveFile 64 = .ok (.invokevirtual 112, 3) := dk_182 0 112 (dk_at dksX1_moveFile_2 20 rfl rfl)
theorem dX1_moveFile_67 : decode cX1_moveFile 67 = .ok (.aload_n 0, 1) := dk_42 (dk_at dksX1_moveFile_2 23 rfl rfl)
theorem dX1_moveFile_68 : decode cX1_moveFile 68 = .ok (.invokevirtual 148, 3) := dk_182 0 148 (dk_at dksX1_moveFile_3 0 rfl rfl)
theorem dX1_moveFile_71 : decode cX1_moveFile 71 = .ok (.getfield 235, 3) := dk_180 0 235 (dk_at dksX1_moveFile_3 3 rfl rfl)
theorem dX1_moveFile_74 : decode cX1_moveFile 74 = .ok (.iload_n 2, 1) := dk_28 (dk_at dksX1_moveFile_3 6 rfl rfl)
theorem dX1_moveFile_75 : decode cX1_moveFile 75 = .ok (.iaload, 1) := dk_46 (dk_at dksX1_moveFile_3 7 rfl rfl)
theorem dX1_moveFile_76 : decode cX1_moveFile 76 = .ok (.ireturn, 1) := dk_172 (dk_at dksX1_moveFile_3 8 rfl rfl)
abbrev cX1_rename : ByteArray := prog_1_method_60_code
def yX1_rename : MethodName := ⟨RX1, "rename", "(I)I"⟩
def dkwX1_rename_1 : List UInt8 := [180, 0, 156, 182, 0, 27, 54, 4, 44, 45, 181, 0, 156, 21, 4, 172]
abbrev dktX1_rename_1 : List UInt8 := dkwX1_rename_1 ++ []
def dkwX1_rename_0 : List UInt8 := [42, 27, 182, 0, 144, 77, 42, 27, 182, 1, 119, 78, 42, 3, 181, 0, 79, 42, 182, 1, 78, 44]
abbrev dktX1_rename_0 : List UInt8 := dkwX1_rename_0 ++ dktX1_rename_1
theorem dksX1_rename_0 : cX1_rename.data.toList.drop 0 = dktX1_rename_0 := by decide +kernel
theorem dksX1_rename_1 : cX1_rename.data.toList.drop 22 = dktX1_rename_1 := dk_seg dksX1_rename_0 22 rfl rfl
theorem dX1_rename_0 : decode cX1_rename 0 = .ok (.aload_n 0, 1) := dk_42 (dk_at dksX1_rename_0 0 rfl rfl)
theorem dX1_rename_1 : decode cX1_rename 1 = .ok (.iload_n 1, 1) := dk_27 (dk_at dksX1_rename_0 1 rfl rfl)
theorem dX1_rename_2 : decode cX1_rename 2 = .ok (.invokevirtual 144, 3) := dk_182 0 144 (dk_at dksX1_rename_0 2 rfl rfl)
theorem dX1_rename_5 : decode cX1_rename 5 = .ok (.astore_n 2, 1) := dk_77 (dk_at dksX1_rename_0 5 rfl rfl)
theorem dX1_rename_6 : decode cX1_rename 6 = .ok (.aload_n 0, 1) := dk_42 (dk_at dksX1_rename_0 6 rfl rfl)
theorem dX1_rename_7 : decode cX1_rename 7 = .ok (.iload_n 1, 1) := dk_27 (dk_at dksX1_rename_0 7 rfl rfl)
theorem dX1_rename_8 : decode cX1_rename 8 = .ok (.invokevirtual 375, 3) := dk_182 1 119 (dk_at dksX1_rename_0 8 rfl rfl)
theorem dX1_rename_11 : decode cX1_rename 11 = .ok (.astore_n 3, 1) := dk_78 (dk_at dksX1_rename_0 11 rfl rfl)
theorem dX1_rename_12 : decode cX1_rename 12 = .ok (.aload_n 0, 1) := dk_42 (dk_at dksX1_rename_0 12 rfl rfl)
theorem dX1_rename_13 : decode cX1_rename 13 = .ok (.iconst 0, 1) := dk_3 (dk_at dksX1_rename_0 13 rfl rfl)
theorem dX1_rename_14 : decode cX1_rename 14 = .ok (.putfield 79, 3) := dk_181 0 79 (dk_at dksX1_rename_0 14 rfl rfl)
theorem dX1_rename_17 : decode cX1_rename 17 = .ok (.aload_n 0, 1) := dk_42 (dk_at dksX1_rename_0 17 rfl rfl)
theorem dX1_rename_18 : decode cX1_rename 18 = .ok (.invokevirtual 334, 3) := dk_182 1 78 (dk_at dksX1_rename_0 18 rfl rfl)
theorem dX1_rename_21 : decode cX1_rename 21 = .ok (.aload_n 2, 1) := dk_44 (dk_at dksX1_rename_0 21 rfl rfl)
theorem dX1_rename_22 : decode cX1_rename 22 = .ok (.getfield 156, 3) := dk_180 0 156 (dk_at dksX1_rename_1 0 rfl rfl)
theorem dX1_rename_25 : decode cX1_rename 25 = .ok (.invokevirtual 27, 3) := dk_182 0 27 (dk_at dksX1_rename_1 3 rfl rfl)
theorem dX1_rename_28 : decode cX1_rename 28 = .ok (.istore 4, 2) := dk_54 4 (dk_at dksX1_rename_1 6 rfl rfl)
theorem dX1_rename_30 : decode cX1_rename 30 = .ok (.aload_n 2, 1) := dk_44 (dk_at dksX1_rename_1 8 rfl rfl)
theorem dX1_rename_31 : decode cX1_rename 31 = .ok (.aload_n 3, 1) := dk_45 (dk_at dksX1_rename_1 9 rfl rfl)
theorem dX1_rename_32 : decode cX1_rename 32 = .ok (.putfield 156, 3) := dk_181 0 156 (dk_at dksX1_rename_1 10 rfl rfl)
theorem dX1_rename_35 : decode cX1_rename 35 = .ok (.iload 4, 2) := dk_21 4 (dk_at dksX1_rename_1 13 rfl rfl)
theorem dX1_rename_37 : decode cX1_rename 37 = .ok (.ireturn, 1) := dk_172 (dk_at dksX1_rename_1 15 rfl rfl)
abbrev cX1_keep : ByteArray := prog_1_method_61_code
def yX1_keep : MethodName := ⟨RX1, "keep", "(IZ)Z"⟩
def dkwX1_keep_0 : List UInt8 := [42, 27, 182, 0, 144, 78, 42, 182, 1, 78, 45, 180, 0, 152, 54, 4, 45, 28, 181, 0, 152, 21, 4, 172]
abbrev dktX1_keep_0 : List UInt8 := dkwX1_keep_0 ++ []
theorem dksX1_keep_0 : cX1_keep.data.toList.drop 0 = dktX1_keep_0 := by decide +kernel
theorem dX1_keep_0 : decode cX1_keep 0 = .ok (.aload_n 0, 1) := dk_42 (dk_at dksX1_keep_0 0 rfl rfl)
theorem dX1_keep_1 : decode cX1_keep 1 = .ok (.iload_n 1, 1) := dk_27 (dk_at dksX1_keep_0 1 rfl rfl)
theorem dX1_keep_2 : decode cX1_keep 2 = .ok (.invokevirtual 144, 3) := dk_182 0 144 (dk_at dksX1_keep_0 2 rfl rfl)
theorem dX1_keep_5 : decode cX1_keep 5 = .ok (.astore_n 3, 1) := dk_78 (dk_at dksX1_keep_0 5 rfl rfl)
theorem dX1_keep_6 : decode cX1_keep 6 = .ok (.aload_n 0, 1) := dk_42 (dk_at dksX1_keep_0 6 rfl rfl)
theorem dX1_keep_7 : decode cX1_keep 7 = .ok (.invokevirtual 334, 3) := dk_182 1 78 (dk_at dksX1_keep_0 7 rfl rfl)
theorem dX1_keep_10 : decode cX1_keep 10 = .ok (.aload_n 3, 1) := dk_45 (dk_at dksX1_keep_0 10 rfl rfl)
theorem dX1_keep_11 : decode cX1_keep 11 = .ok (.getfield 152, 3) := dk_180 0 152 (dk_at dksX1_keep_0 11 rfl rfl)
theorem dX1_keep_14 : decode cX1_keep 14 = .ok (.istore 4, 2) := dk_54 4 (dk_at dksX1_keep_0 14 rfl rfl)
theorem dX1_keep_16 : decode cX1_keep 16 = .ok (.aload_n 3, 1) := dk_45 (dk_at dksX1_keep_0 16 rfl rfl)
theorem dX1_keep_17 : decode cX1_keep 17 = .ok (.iload_n 2, 1) := dk_28 (dk_at dksX1_keep_0 17 rfl rfl)
theorem dX1_keep_18 : decode cX1_keep 18 = .ok (.putfield 152, 3) := dk_181 0 152 (dk_at dksX1_keep_0 18 rfl rfl)
theorem dX1_keep_21 : decode cX1_keep 21 = .ok (.iload 4, 2) := dk_21 4 (dk_at dksX1_keep_0 21 rfl rfl)
theorem dX1_keep_23 : decode cX1_keep 23 = .ok (.ireturn, 1) := dk_172 (dk_at dksX1_keep_0 23 rfl rfl)
abbrev cX1_addRule : ByteArray := prog_1_method_62_code
def yX1_addRule : MethodName := ⟨RX1, "addRule", "()I"⟩
def dkwX1_addRule_3 : List UInt8 := [180, 0, 47, 180, 0, 134, 182, 0, 119, 4, 100, 172]
abbrev dktX1_addRule_3 : List UInt8 := dkwX1_addRule_3 ++ []
def dkwX1_addRule_2 : List UInt8 := [42, 3, 181, 0, 79, 42, 182, 1, 78, 42, 180, 0, 47, 180, 0, 134, 43, 182, 1, 126, 87, 42]
abbrev dktX1_addRule_2 : List UInt8 := dkwX1_addRule_2 ++ dktX1_addRule_3
def dkwX1_addRule_1 : List UInt8 := [191, 42, 180, 0, 47, 180, 0, 134, 182, 0, 119, 16, 8, 162, 0, 7, 4, 167, 0, 4, 3, 184, 0, 81]
abbrev dktX1_addRule_1 : List UInt8 := dkwX1_addRule_1 ++ dktX1_addRule_2
def dkwX1_addRule_0 : List UInt8 := [42, 182, 0, 99, 182, 1, 128, 76, 167, 0, 17, 77, 42, 3, 181, 0, 79, 187, 0, 1, 89, 183, 0, 3]
abbrev dktX1_addRule_0 : List UInt8 := dkwX1_addRule_0 ++ dktX1_addRule_1
theorem dksX1_addRule_0 : cX1_addRule.data.toList.drop 0 = dktX1_addRule_0 := by decide +kernel
theorem dksX1_addRule_1 : cX1_addRule.data.toList.drop 24 = dktX1_addRule_1 := dk_seg dksX1_addRule_0 24 rfl rfl
theorem dksX1_addRule_2 : cX1_addRule.data.toList.drop 48 = dktX1_addRule_2 := dk_seg dksX1_addRule_1 24 rfl rfl
theorem dksX1_addRule_3 : cX1_addRule.data.toList.drop 70 = dktX1_addRule_3 := dk_seg dksX1_addRule_2 22 rfl rfl
theorem dX1_addRule_0 : decode cX1_addRule 0 = .ok (.aload_n 0, 1) := dk_42 (dk_at dksX1_addRule_0 0 rfl rfl)
theorem dX1_addRule_1 : decode cX1_addRule 1 = .ok (.invokevirtual 99, 3) := dk_182 0 99 (dk_at dksX1_addRule_0 1 rfl rfl)
theorem dX1_addRule_4 : decode cX1_addRule 4 = .ok (.invokevirtual 384, 3) := dk_182 1 128 (dk_at dksX1_addRule_0 4 rfl rfl)
theorem dX1_addRule_7 : decode cX1_addRule 7 = .ok (.astore_n 1, 1) := dk_76 (dk_at dksX1_addRule_0 7 rfl rfl)
theorem dX1_addRule_8 : decode cX1_addRule 8 = .ok (.goto 17, 3) := dk_167 0 17 (dk_at dksX1_addRule_0 8 rfl rfl)
theorem dX1_addRule_11 : decode cX1_addRule 11 = .ok (.astore_n 2, 1) := dk_77 (dk_at dksX1_addRule_0 11 rfl rfl)
theorem dX1_addRule_12 : decode cX1_addRule 12 = .ok (.aload_n 0, 1) := dk_42 (dk_at dksX1_addRule_0 12 rfl rfl)
theorem dX1_addRule_13 : decode cX1_addRule 13 = .ok (.iconst 0, 1) := dk_3 (dk_at dksX1_addRule_0 13 rfl rfl)
theorem dX1_addRule_14 : decode cX1_addRule 14 = .ok (.putfield 79, 3) := dk_181 0 79 (dk_at dksX1_addRule_0 14 rfl rfl)
theorem dX1_addRule_17 : decode cX1_addRule 17 = .ok (.new 1, 3) := dk_187 0 1 (dk_at dksX1_addRule_0 17 rfl rfl)
theorem dX1_addRule_20 : decode cX1_addRule 20 = .ok (.dup, 1) := dk_89 (dk_at dksX1_addRule_0 20 rfl rfl)
theorem dX1_addRule_21 : decode cX1_addRule 21 = .ok (.invokespecial 3, 3) := dk_183 0 3 (dk_at dksX1_addRule_0 21 rfl rfl)
theorem dX1_addRule_24 : decode cX1_addRule 24 = .ok (.athrow, 1) := dk_191 (dk_at dksX1_addRule_1 0 rfl rfl)
theorem dX1_addRule_25 : decode cX1_addRule 25 = .ok (.aload_n 0, 1) := dk_42 (dk_at dksX1_addRule_1 1 rfl rfl)
theorem dX1_addRule_26 : decode cX1_addRule 26 = .ok (.getfield 47, 3) := dk_180 0 47 (dk_at dksX1_addRule_1 2 rfl rfl)
theorem dX1_addRule_29 : decode cX1_addRule 29 = .ok (.getfield 134, 3) := dk_180 0 134 (dk_at dksX1_addRule_1 5 rfl rfl)
theorem dX1_addRule_32 : decode cX1_addRule 32 = .ok (.invokevirtual 119, 3) := dk_182 0 119 (dk_at dksX1_addRule_1 8 rfl rfl)
theorem dX1_addRule_35 : decode cX1_addRule 35 = .ok (.bipush 8, 2) := dk_16 8 (dk_at dksX1_addRule_1 11 rfl rfl)
theorem dX1_addRule_37 : decode cX1_addRule 37 = .ok (.if_icmp .ge 7, 3) := dk_162 0 7 (dk_at dksX1_addRule_1 13 rfl rfl)
theorem dX1_addRule_40 : decode cX1_addRule 40 = .ok (.iconst 1, 1) := dk_4 (dk_at dksX1_addRule_1 16 rfl rfl)
theorem dX1_addRule_41 : decode cX1_addRule 41 = .ok (.goto 4, 3) := dk_167 0 4 (dk_at dksX1_addRule_1 17 rfl rfl)
theorem dX1_addRule_44 : decode cX1_addRule 44 = .ok (.iconst 0, 1) := dk_3 (dk_at dksX1_addRule_1 20 rfl rfl)
theorem dX1_addRule_45 : decode cX1_addRule 45 = .ok (.invokestatic 81, 3) := dk_184 0 81 (dk_at dksX1_addRule_1 21 rfl rfl)
theorem dX1_addRule_48 : decode cX1_addRule 48 = .ok (.aload_n 0, 1) := dk_42 (dk_at dksX1_addRule_2 0 rfl rfl)
theorem dX1_addRule_49 : decode cX1_addRule 49 = .ok (.iconst 0, 1) := dk_3 (dk_at dksX1_addRule_2 1 rfl rfl)
theorem dX1_addRule_50 : decode cX1_addRule 50 = .ok (.putfield 79, 3) := dk_181 0 79 (dk_at dksX1_addRule_2 2 rfl rfl)
theorem dX1_addRule_53 : decode cX1_addRule 53 = .ok (.aload_n 0, 1) := dk_42 (dk_at dksX1_addRule_2 5 rfl rfl)
theorem dX1_addRule_54 : decode cX1_addRule 54 = .ok (.invokevirtual 334, 3) := dk_182 1 78 (dk_at dksX1_addRule_2 6 rfl rfl)
theorem dX1_addRule_57 : decode cX1_addRule 57 = .ok (.aload_n 0, 1) := dk_42 (dk_at dksX1_addRule_2 9 rfl rfl)
theorem dX1_addRule_58 : decode cX1_addRule 58 = .ok (.getfield 47, 3) := dk_180 0 47 (dk_at dksX1_addRule_2 10 rfl rfl)
theorem dX1_addRule_61 : decode cX1_addRule 61 = .ok (.getfield 134, 3) := dk_180 0 134 (dk_at dksX1_addRule_2 13 rfl rfl)
theorem dX1_addRule_64 : decode cX1_addRule 64 = .ok (.aload_n 1, 1) := dk_43 (dk_at dksX1_addRule_2 16 rfl rfl)
theorem dX1_addRule_65 : decode cX1_addRule 65 = .ok (.invokevirtual 382, 3) := dk_182 1 126 (dk_at dksX1_addRule_2 17 rfl rfl)
theorem dX1_addRule_68 : decode cX1_addRule 68 = .ok (.pop, 1) := dk_87 (dk_at dksX1_addRule_2 20 rfl rfl)
theorem dX1_addRule_69 : decode cX1_addRule 69 = .ok (.aload_n 0, 1) := dk_42 (dk_at dksX1_addRule_2 21 rfl rfl)
theorem dX1_addRule_70 : decode cX1_addRule 70 = .ok (.getfield 47, 3) := dk_180 0 47 (dk_at dksX1_addRule_3 0 rfl rfl)
theorem dX1_addRule_73 : decode cX1_addRule 73 = .ok (.getfield 134, 3) := dk_180 0 134 (dk_at dksX1_addRule_3 3 rfl rfl)
theorem dX1_addRule_76 : decode cX1_addRule 76 = .ok (.invokevirtual 119, 3) := dk_182 0 119 (dk_at dksX1_addRule_3 6 rfl rfl)
theorem dX1_addRule_79 : decode cX1_addRule 79 = .ok (.iconst 1, 1) := dk_4 (dk_at dksX1_addRule_3 9 rfl rfl)
theorem dX1_addRule_80 : decode cX1_addRule 80 = .ok (.isub, 1) := dk_100 (dk_at dksX1_addRule_3 10 rfl rfl)
theorem dX1_addRule_81 : decode cX1_addRule 81 = .ok (.ireturn, 1) := dk_172 (dk_at dksX1_addRule_3 11 rfl rfl)
abbrev cX1_removeRule : ByteArray := prog_1_method_63_code
def yX1_removeRule : MethodName := ⟨RX1, "removeRule", "(I)I"⟩
def dkwX1_removeRule_1 : List UInt8 := [78, 42, 180, 0, 47, 180, 0, 134, 182, 0, 119, 172]
abbrev dktX1_removeRule_1 : List UInt8 := dkwX1_removeRule_1 ++ []
def dkwX1_removeRule_0 : List UInt8 := [42, 27, 182, 0, 193, 77, 42, 182, 1, 78, 42, 180, 0, 47, 180, 0, 134, 27, 182, 1, 59, 192, 0, 137]
abbrev dktX1_removeRule_0 : List UInt8 := dkwX1_removeRule_0 ++ dktX1_removeRule_1
theorem dksX1_removeRule_0 : cX1_removeRule.data.toList.drop 0 = dktX1_removeRule_0 := by decide +kernel
theorem dksX1_removeRule_1 : cX1_removeRule.data.toList.drop 24 = dktX1_removeRule_1 := dk_seg dksX1_removeRule_0 24 rfl rfl
theorem dX1_removeRule_0 : decode cX1_removeRule 0 = .ok (.aload_n 0, 1) := dk_42 (dk_at dksX1_removeRule_0 0 rfl rfl)
theorem dX1_removeRule_1 : decode cX1_removeRule 1 = .ok (.iload_n 1, 1) := dk_27 (dk_at dksX1_removeRule_0 1 rfl rfl)
theorem dX1_removeRule_2 : decode cX1_removeRule 2 = .ok (.invokevirtual 193, 3) := dk_182 0 193 (dk_at dksX1_removeRule_0 2 rfl rfl)
theorem dX1_removeRule_5 : decode cX1_removeRule 5 = .ok (.astore_n 2, 1) := dk_77 (dk_at dksX1_removeRule_0 5 rfl rfl)
theorem dX1_removeRule_6 : decode cX1_removeRule 6 = .ok (.aload_n 0, 1) := dk_42 (dk_at dksX1_removeRule_0 6 rfl rfl)
theorem dX1_removeRule_7 : decode cX1_removeRule 7 = .ok (.invokevirtual 334, 3) := dk_182 1 78 (dk_at dksX1_removeRule_0 7 rfl rfl)
theorem dX1_removeRule_10 : decode cX1_removeRule 10 = .ok (.aload_n 0, 1) := dk_42 (dk_at dksX1_removeRule_0 10 rfl rfl)
theorem dX1_removeRule_11 : decode cX1_removeRule 11 = .ok (.getfield 47, 3) := dk_180 0 47 (dk_at dksX1_removeRule_0 11 rfl rfl)
theorem dX1_removeRule_14 : decode cX1_removeRule 14 = .ok (.getfield 134, 3) := dk_180 0 134 (dk_at dksX1_removeRule_0 14 rfl rfl)
theorem dX1_removeRule_17 : decode cX1_removeRule 17 = .ok (.iload_n 1, 1) := dk_27 (dk_at dksX1_removeRule_0 17 rfl rfl)
theorem dX1_removeRule_18 : decode cX1_removeRule 18 = .ok (.invokevirtual 315, 3) := dk_182 1 59 (dk_at dksX1_removeRule_0 18 rfl rfl)
theorem dX1_removeRule_21 : decode cX1_removeRule 21 = .ok (.checkcast 137, 3) := dk_192 0 137 (dk_at dksX1_removeRule_0 21 rfl rfl)
theorem dX1_removeRule_24 : decode cX1_removeRule 24 = .ok (.astore_n 3, 1) := dk_78 (dk_at dksX1_removeRule_1 0 rfl rfl)
theorem dX1_removeRule_25 : decode cX1_removeRule 25 = .ok (.aload_n 0, 1) := dk_42 (dk_at dksX1_removeRule_1 1 rfl rfl)
theorem dX1_removeRule_26 : decode cX1_removeRule 26 = .ok (.getfield 47, 3) := dk_180 0 47 (dk_at dksX1_removeRule_1 2 rfl rfl)
theorem dX1_removeRule_29 : decode cX1_removeRule 29 = .ok (.getfield 134, 3) := dk_180 0 134 (dk_at dksX1_removeRule_1 5 rfl rfl)
theorem dX1_removeRule_32 : decode cX1_removeRule 32 = .ok (.invokevirtual 119, 3) := dk_182 0 119 (dk_at dksX1_removeRule_1 8 rfl rfl)
theorem dX1_removeRule_35 : decode cX1_removeRule 35 = .ok (.ireturn, 1) := dk_172 (dk_at dksX1_removeRule_1 11 rfl rfl)
abbrev cX1_moveRule : ByteArray := prog_1_method_64_code
def yX1_moveRule : MethodName := ⟨RX1, "moveRule", "(II)I"⟩
def dkwX1_moveRule_2 : List UInt8 := [180, 0, 134, 27, 182, 1, 59, 192, 0, 137, 182, 1, 68, 42, 28, 182, 1, 132, 184, 0, 179, 172]
abbrev dktX1_moveRule_2 : List UInt8 := dkwX1_moveRule_2 ++ []
def dkwX1_moveRule_1 : List UInt8 := [184, 0, 10, 184, 0, 85, 42, 182, 1, 78, 42, 180, 0, 47, 180, 0, 134, 28, 42, 180, 0, 47]
abbrev dktX1_moveRule_1 : List UInt8 := dkwX1_moveRule_1 ++ dktX1_moveRule_2
def dkwX1_moveRule_0 : List UInt8 := [42, 27, 182, 0, 193, 78, 28, 133, 9, 42, 180, 0, 47, 180, 0, 134, 182, 0, 119, 4, 100, 133]
abbrev dktX1_moveRule_0 : List UInt8 := dkwX1_moveRule_0 ++ dktX1_moveRule_1
theorem dksX1_moveRule_0 : cX1_moveRule.data.toList.drop 0 = dktX1_moveRule_0 := by decide +kernel
theorem dksX1_moveRule_1 : cX1_moveRule.data.toList.drop 22 = dktX1_moveRule_1 := dk_seg dksX1_moveRule_0 22 rfl rfl
theorem dksX1_moveRule_2 : cX1_moveRule.data.toList.drop 44 = dktX1_moveRule_2 := dk_seg dksX1_moveRule_1 22 rfl rfl
theorem dX1_moveRule_0 : decode cX1_moveRule 0 = .ok (.aload_n 0, 1) := dk_42 (dk_at dksX1_moveRule_0 0 rfl rfl)
theorem dX1_moveRule_1 : decode cX1_moveRule 1 = .ok (.iload_n 1, 1) := dk_27 (dk_at dksX1_moveRule_0 1 rfl rfl)
theorem dX1_moveRule_2 : decode cX1_moveRule 2 = .ok (.invokevirtual 193, 3) := dk_182 0 193 (dk_at dksX1_moveRule_0 2 rfl rfl)
theorem dX1_moveRule_5 : decode cX1_moveRule 5 = .ok (.astore_n 3, 1) := dk_78 (dk_at dksX1_moveRule_0 5 rfl rfl)
theorem dX1_moveRule_6 : decode cX1_moveRule 6 = .ok (.iload_n 2, 1) := dk_28 (dk_at dksX1_moveRule_0 6 rfl rfl)
theorem dX1_moveRule_7 : decode cX1_moveRule 7 = .ok (.i2l, 1) := dk_133 (dk_at dksX1_moveRule_0 7 rfl rfl)
theorem dX1_moveRule_8 : decode cX1_moveRule 8 = .ok (.lconst 0, 1) := dk_9 (dk_at dksX1_moveRule_0 8 rfl rfl)
theorem dX1_moveRule_9 : decode cX1_moveRule 9 = .ok (.aload_n 0, 1) := dk_42 (dk_at dksX1_moveRule_0 9 rfl rfl)
theorem dX1_moveRule_10 : decode cX1_moveRule 10 = .ok (.getfield 47, 3) := dk_180 0 47 (dk_at dksX1_moveRule_0 10 rfl rfl)
theorem dX1_moveRule_13 : decode cX1_moveRule 13 = .ok (.getfield 134, 3) := dk_180 0 134 (dk_at dksX1_moveRule_0 13 rfl rfl)
theorem dX1_moveRule_16 : decode cX1_moveRule 16 = .ok (.invokevirtual 119, 3) := dk_182 0 119 (dk_at dksX1_moveRule_0 16 rfl rfl)
theorem dX1_moveRule_19 : decode cX1_moveRule 19 = .ok (.iconst 1, 1) := dk_4 (dk_at dksX1_moveRule_0 19 rfl rfl)
theorem dX1_moveRule_20 : decode cX1_moveRule 20 = .ok (.isub, 1) := dk_100 (dk_at dksX1_moveRule_0 20 rfl rfl)
theorem dX1_moveRule_21 : decode cX1_moveRule 21 = .ok (.i2l, 1) := dk_133 (dk_at dksX1_moveRule_0 21 rfl rfl)
theorem dX1_moveRule_22 : decode cX1_moveRule 22 = .ok (.invokestatic 10, 3) := dk_184 0 10 (dk_at dksX1_moveRule_1 0 rfl rfl)
theorem dX1_moveRule_25 : decode cX1_moveRule 25 = .ok (.invokestatic 85, 3) := dk_184 0 85 (dk_at dksX1_moveRule_1 3 rfl rfl)
theorem dX1_moveRule_28 : decode cX1_moveRule 28 = .ok (.aload_n 0, 1) := dk_42 (dk_at dksX1_moveRule_1 6 rfl rfl)
theorem dX1_moveRule_29 : decode cX1_moveRule 29 = .ok (.invokevirtual 334, 3) := dk_182 1 78 (dk_at dksX1_moveRule_1 7 rfl rfl)
theorem dX1_moveRule_32 : decode cX1_moveRule 32 = .ok (.aload_n 0, 1) := dk_42 (dk_at dksX1_moveRule_1 10 rfl rfl)
theorem dX1_moveRule_33 : decode cX1_moveRule 33 = .ok (.getfield 47, 3) := dk_180 0 47 (dk_at dksX1_moveRule_1 11 rfl rfl)
theorem dX1_moveRule_36 : decode cX1_moveRule 36 = .ok (.getfield 134, 3) := dk_180 0 134 (dk_at dksX1_moveRule_1 14 rfl rfl)
theorem dX1_moveRule_39 : decode cX1_moveRule 39 = .ok (.iload_n 2, 1) := dk_28 (dk_at dksX1_moveRule_1 17 rfl rfl)
theorem dX1_moveRule_40 : decode cX1_moveRule 40 = .ok (.aload_n 0, 1) := dk_42 (dk_at dksX1_moveRule_1 18 rfl rfl)
theorem dX1_moveRule_41 : decode cX1_moveRule 41 = .ok (.getfield 47, 3) := dk_180 0 47 (dk_at dksX1_moveRule_1 19 rfl rfl)
theorem dX1_moveRule_44 : decode cX1_moveRule 44 = .ok (.getfield 134, 3) := dk_180 0 134 (dk_at dksX1_moveRule_2 0 rfl rfl)
theorem dX1_moveRule_47 : decode cX1_moveRule 47 = .ok (.iload_n 1, 1) := dk_27 (dk_at dksX1_moveRule_2 3 rfl rfl)
theorem dX1_moveRule_48 : decode cX1_moveRule 48 = .ok (.invokevirtual 315, 3) := dk_182 1 59 (dk_at dksX1_moveRule_2 4 rfl rfl)
theorem dX1_moveRule_51 : decode cX1_moveRule 51 = .ok (.checkcast 137, 3) := dk_192 0 137 (dk_at dksX1_moveRule_2 7 rfl rfl)
theorem dX1_moveRule_54 : decode cX1_moveRule 54 = .ok (.invokevirtual 324, 3) := dk_182 1 68 (dk_at dksX1_moveRule_2 10 rfl rfl)
theorem dX1_moveRule_57 : decode cX1_moveRule 57 = .ok (.aload_n 0, 1) := dk_42 (dk_at dksX1_moveRule_2 13 rfl rfl)
theorem dX1_moveRule_58 : decode cX1_moveRule 58 = .ok (.iload_n 2, 1) := dk_28 (dk_at dksX1_moveRule_2 14 rfl rfl)
theorem dX1_moveRule_59 : decode cX1_moveRule 59 = .ok (.invokevirtual 388, 3) := dk_182 1 132 (dk_at dksX1_moveRule_2 15 rfl rfl)
theorem dX1_moveRule_62 : decode cX1_moveRule 62 = .ok (.invokestatic 179, 3) := dk_184 0 179 (dk_at dksX1_moveRule_2 18 rfl rfl)
theorem dX1_moveRule_65 : decode cX1_moveRule 65 = .ok (.ireturn, 1) := dk_172 (dk_at dksX1_moveRule_2 21 rfl rfl)
abbrev cX1_setCount : ByteArray := prog_1_method_65_code
def yX1_setCount : MethodName := ⟨RX1, "setCount", "(III)I"⟩
def dkwX1_setCount_3 : List UInt8 := [42, 180, 0, 47, 184, 1, 62, 172]
abbrev dktX1_setCount_3 : List UInt8 := dkwX1_setCount_3 ++ []
def dkwX1_setCount_2 : List UInt8 := [42, 180, 0, 47, 27, 181, 0, 184, 42, 180, 0, 47, 28, 181, 0, 187, 42, 180, 0, 47, 29, 181, 0, 190]
abbrev dktX1_setCount_2 : List UInt8 := dkwX1_setCount_2 ++ dktX1_setCount_3
def dkwX1_setCount_1 : List UInt8 := [29, 133, 10, 20, 1, 139, 184, 0, 10, 153, 0, 7, 4, 167, 0, 4, 3, 184, 0, 85, 42, 182, 1, 78]
abbrev dktX1_setCount_1 : List UInt8 := dkwX1_setCount_1 ++ dktX1_setCount_2
def dkwX1_setCount_0 : List UInt8 := [27, 133, 9, 20, 1, 135, 184, 0, 10, 153, 0, 31, 28, 133, 10, 20, 1, 137, 184, 0, 10, 153, 0, 19]
abbrev dktX1_setCount_0 : List UInt8 := dkwX1_setCount_0 ++ dktX1_setCount_1
theorem dksX1_setCount_0 : cX1_setCount.data.toList.drop 0 = dktX1_setCount_0 := by decide +kernel
theorem dksX1_setCount_1 : cX1_setCount.data.toList.drop 24 = dktX1_setCount_1 := dk_seg dksX1_setCount_0 24 rfl rfl
theorem dksX1_setCount_2 : cX1_setCount.data.toList.drop 48 = dktX1_setCount_2 := dk_seg dksX1_setCount_1 24 rfl rfl
theorem dksX1_setCount_3 : cX1_setCount.data.toList.drop 72 = dktX1_setCount_3 := dk_seg dksX1_setCount_2 24 rfl rfl
theorem dX1_setCount_0 : decode cX1_setCount 0 = .ok (.iload_n 1, 1) := dk_27 (dk_at dksX1_setCount_0 0 rfl rfl)
theorem dX1_setCount_1 : decode cX1_setCount 1 = .ok (.i2l, 1) := dk_133 (dk_at dksX1_setCount_0 1 rfl rfl)
theorem dX1_setCount_2 : decode cX1_setCount 2 = .ok (.lconst 0, 1) := dk_9 (dk_at dksX1_setCount_0 2 rfl rfl)
theorem dX1_setCount_3 : decode cX1_setCount 3 = .ok (.ldc2_w 391, 3) := dk_20 1 135 (dk_at dksX1_setCount_0 3 rfl rfl)
theorem dX1_setCount_6 : decode cX1_setCount 6 = .ok (.invokestatic 10, 3) := dk_184 0 10 (dk_at dksX1_setCount_0 6 rfl rfl)
theorem dX1_setCount_9 : decode cX1_setCount 9 = .ok (.ifCond .eq 31, 3) := dk_153 0 31 (dk_at dksX1_setCount_0 9 rfl rfl)
theorem dX1_setCount_12 : decode cX1_setCount 12 = .ok (.iload_n 2, 1) := dk_28 (dk_at dksX1_setCount_0 12 rfl rfl)
theorem dX1_setCount_13 : decode cX1_setCount 13 = .ok (.i2l, 1) := dk_133 (dk_at dksX1_setCount_0 13 rfl rfl)
theorem dX1_setCount_14 : decode cX1_setCount 14 = .ok (.lconst 1, 1) := dk_10 (dk_at dksX1_setCount_0 14 rfl rfl)
theorem dX1_setCount_15 : decode cX1_setCount 15 = .ok (.ldc2_w 393, 3) := dk_20 1 137 (dk_at dksX1_setCount_0 15 rfl rfl)
theorem dX1_setCount_18 : decode cX1_setCount 18 = .ok (.invokestatic 10, 3) := dk_184 0 10 (dk_at dksX1_setCount_0 18 rfl rfl)
theorem dX1_setCount_21 : decode cX1_setCount 21 = .ok (.ifCond .eq 19, 3) := dk_153 0 19 (dk_at dksX1_setCount_0 21 rfl rfl)
theorem dX1_setCount_24 : decode cX1_setCount 24 = .ok (.iload_n 3, 1) := dk_29 (dk_at dksX1_setCount_1 0 rfl rfl)
theorem dX1_setCount_25 : decode cX1_setCount 25 = .ok (.i2l, 1) := dk_133 (dk_at dksX1_setCount_1 1 rfl rfl)
theorem dX1_setCount_26 : decode cX1_setCount 26 = .ok (.lconst 1, 1) := dk_10 (dk_at dksX1_setCount_1 2 rfl rfl)
theorem dX1_setCount_27 : decode cX1_setCount 27 = .ok (.ldc2_w 395, 3) := dk_20 1 139 (dk_at dksX1_setCount_1 3 rfl rfl)
theorem dX1_setCount_30 : decode cX1_setCount 30 = .ok (.invokestatic 10, 3) := dk_184 0 10 (dk_at dksX1_setCount_1 6 rfl rfl)
theorem dX1_setCount_33 : decode cX1_setCount 33 = .ok (.ifCond .eq 7, 3) := dk_153 0 7 (dk_at dksX1_setCount_1 9 rfl rfl)
theorem dX1_setCount_36 : decode cX1_setCount 36 = .ok (.iconst 1, 1) := dk_4 (dk_at dksX1_setCount_1 12 rfl rfl)
theorem dX1_setCount_37 : decode cX1_setCount 37 = .ok (.goto 4, 3) := dk_167 0 4 (dk_at dksX1_setCount_1 13 rfl rfl)
theorem dX1_setCount_40 : decode cX1_setCount 40 = .ok (.iconst 0, 1) := dk_3 (dk_at dksX1_setCount_1 16 rfl rfl)
theorem dX1_setCount_41 : decode cX1_setCount 41 = .ok (.invokestatic 85, 3) := dk_184 0 85 (dk_at dksX1_setCount_1 17 rfl rfl)
theorem dX1_setCount_44 : decode cX1_setCount 44 = .ok (.aload_n 0, 1) := dk_42 (dk_at dksX1_setCount_1 20 rfl rfl)
theorem dX1_setCount_45 : decode cX1_setCount 45 = .ok (.invokevirtual 334, 3) := dk_182 1 78 (dk_at dksX1_setCount_1 21 rfl rfl)
theorem dX1_setCount_48 : decode cX1_setCount 48 = .ok (.aload_n 0, 1) := dk_42 (dk_at dksX1_setCount_2 0 rfl rfl)
theorem dX1_setCount_49 : decode cX1_setCount 49 = .ok (.getfield 47, 3) := dk_180 0 47 (dk_at dksX1_setCount_2 1 rfl rfl)
theorem dX1_setCount_52 : decode cX1_setCount 52 = .ok (.iload_n 1, 1) := dk_27 (dk_at dksX1_setCount_2 4 rfl rfl)
theorem dX1_setCount_53 : decode cX1_setCount 53 = .ok (.putfield 184, 3) := dk_181 0 184 (dk_at dksX1_setCount_2 5 rfl rfl)
theorem dX1_setCount_56 : decode cX1_setCount 56 = .ok (.aload_n 0, 1) := dk_42 (dk_at dksX1_setCount_2 8 rfl rfl)
theorem dX1_setCount_57 : decode cX1_setCount 57 = .ok (.getfield 47, 3) := dk_180 0 47 (dk_at dksX1_setCount_2 9 rfl rfl)
theorem dX1_setCount_60 : decode cX1_setCount 60 = .ok (.iload_n 2, 1) := dk_28 (dk_at dksX1_setCount_2 12 rfl rfl)
theorem dX1_setCount_61 : decode cX1_setCount 61 = .ok (.putfield 187, 3) := dk_181 0 187 (dk_at dksX1_setCount_2 13 rfl rfl)
theorem dX1_setCount_64 : decode cX1_setCount 64 = .ok (.aload_n 0, 1) := dk_42 (dk_at dksX1_setCount_2 16 rfl rfl)
theorem dX1_setCount_65 : decode cX1_setCount 65 = .ok (.getfield 47, 3) := dk_180 0 47 (dk_at dksX1_setCount_2 17 rfl rfl)
theorem dX1_setCount_68 : decode cX1_setCount 68 = .ok (.iload_n 3, 1) := dk_29 (dk_at dksX1_setCount_2 20 rfl rfl)
theorem dX1_setCount_69 : decode cX1_setCount 69 = .ok (.putfield 190, 3) := dk_181 0 190 (dk_at dksX1_setCount_2 21 rfl rfl)
theorem dX1_setCount_72 : decode cX1_setCount 72 = .ok (.aload_n 0, 1) := dk_42 (dk_at dksX1_setCount_3 0 rfl rfl)
theorem dX1_setCount_73 : decode cX1_setCount 73 = .ok (.getfield 47, 3) := dk_180 0 47 (dk_at dksX1_setCount_3 1 rfl rfl)
theorem dX1_setCount_76 : decode cX1_setCount 76 = .ok (.invokestatic 318, 3) := dk_184 1 62 (dk_at dksX1_setCount_3 4 rfl rfl)
theorem dX1_setCount_79 : decode cX1_setCount 79 = .ok (.ireturn, 1) := dk_172 (dk_at dksX1_setCount_3 7 rfl rfl)
abbrev cX1_undo : ByteArray := prog_1_method_66_code
def yX1_undo : MethodName := ⟨RX1, "undo", "()I"⟩
def dkwX1_undo_1 : List UInt8 := [182, 1, 108, 192, 0, 44, 181, 0, 47, 42, 180, 0, 56, 182, 1, 49, 172]
abbrev dktX1_undo_1 : List UInt8 := dkwX1_undo_1 ++ []
def dkwX1_undo_0 : List UInt8 := [42, 180, 0, 56, 182, 1, 49, 158, 0, 7, 4, 167, 0, 4, 3, 184, 0, 81, 42, 42, 180, 0, 56]
abbrev dktX1_undo_0 : List UInt8 := dkwX1_undo_0 ++ dktX1_undo_1
theorem dksX1_undo_0 : cX1_undo.data.toList.drop 0 = dktX1_undo_0 := by decide +kernel
theorem dksX1_undo_1 : cX1_undo.data.toList.drop 23 = dktX1_undo_1 := dk_seg dksX1_undo_0 23 rfl rfl
theorem dX1_undo_0 : decode cX1_undo 0 = .ok (.aload_n 0, 1) := dk_42 (dk_at dksX1_undo_0 0 rfl rfl)
theorem dX1_undo_1 : decode cX1_undo 1 = .ok (.getfield 56, 3) := dk_180 0 56 (dk_at dksX1_undo_0 1 rfl rfl)
theorem dX1_undo_4 : decode cX1_undo 4 = .ok (.invokevirtual 305, 3) := dk_182 1 49 (dk_at dksX1_undo_0 4 rfl rfl)
theorem dX1_undo_7 : decode cX1_undo 7 = .ok (.ifCond .le 7, 3) := dk_158 0 7 (dk_at dksX1_undo_0 7 rfl rfl)
theorem dX1_undo_10 : decode cX1_undo 10 = .ok (.iconst 1, 1) := dk_4 (dk_at dksX1_undo_0 10 rfl rfl)
theorem dX1_undo_11 : decode cX1_undo 11 = .ok (.goto 4, 3) := dk_167 0 4 (dk_at dksX1_undo_0 11 rfl rfl)
theorem dX1_undo_14 : decode cX1_undo 14 = .ok (.iconst 0, 1) := dk_3 (dk_at dksX1_undo_0 14 rfl rfl)
theorem dX1_undo_15 : decode cX1_undo 15 = .ok (.invokestatic 81, 3) := dk_184 0 81 (dk_at dksX1_undo_0 15 rfl rfl)
theorem dX1_undo_18 : decode cX1_undo 18 = .ok (.aload_n 0, 1) := dk_42 (dk_at dksX1_undo_0 18 rfl rfl)
theorem dX1_undo_19 : decode cX1_undo 19 = .ok (.aload_n 0, 1) := dk_42 (dk_at dksX1_undo_0 19 rfl rfl)
theorem dX1_undo_20 : decode cX1_undo 20 = .ok (.getfield 56, 3) := dk_180 0 56 (dk_at dksX1_undo_0 20 rfl rfl)
theorem dX1_undo_23 : decode cX1_undo 23 = .ok (.invokevirtual 364, 3) := dk_182 1 108 (dk_at dksX1_undo_1 0 rfl rfl)
theorem dX1_undo_26 : decode cX1_undo 26 = .ok (.checkcast 44, 3) := dk_192 0 44 (dk_at dksX1_undo_1 3 rfl rfl)
theorem dX1_undo_29 : decode cX1_undo 29 = .ok (.putfield 47, 3) := dk_181 0 47 (dk_at dksX1_undo_1 6 rfl rfl)
theorem dX1_undo_32 : decode cX1_undo 32 = .ok (.aload_n 0, 1) := dk_42 (dk_at dksX1_undo_1 9 rfl rfl)
theorem dX1_undo_33 : decode cX1_undo 33 = .ok (.getfield 56, 3) := dk_180 0 56 (dk_at dksX1_undo_1 10 rfl rfl)
theorem dX1_undo_36 : decode cX1_undo 36 = .ok (.invokevirtual 305, 3) := dk_182 1 49 (dk_at dksX1_undo_1 13 rfl rfl)
theorem dX1_undo_39 : decode cX1_undo 39 = .ok (.ireturn, 1) := dk_172 (dk_at dksX1_undo_1 16 rfl rfl)
abbrev cX1_formatName : ByteArray := prog_1_method_68_code
def yX1_formatName : MethodName := ⟨RX1, "formatName", "(I)I"⟩
def dkwX1_formatName_0 : List UInt8 := [42, 42, 27, 182, 0, 144, 180, 0, 156, 182, 1, 149, 172]
abbrev dktX1_formatName_0 : List UInt8 := dkwX1_formatName_0 ++ []
theorem dksX1_formatName_0 : cX1_formatName.data.toList.drop 0 = dktX1_formatName_0 := by decide +kernel
theorem dX1_formatName_0 : decode cX1_formatName 0 = .ok (.aload_n 0, 1) := dk_42 (dk_at dksX1_formatName_0 0 rfl rfl)
theorem dX1_formatName_1 : decode cX1_formatName 1 = .ok (.aload_n 0, 1) := dk_42 (dk_at dksX1_formatName_0 1 rfl rfl)
theorem dX1_formatName_2 : decode cX1_formatName 2 = .ok (.iload_n 1, 1) := dk_27 (dk_at dksX1_formatName_0 2 rfl rfl)
theorem dX1_formatName_3 : decode cX1_formatName 3 = .ok (.invokevirtual 144, 3) := dk_182 0 144 (dk_at dksX1_formatName_0 3 rfl rfl)
theorem dX1_formatName_6 : decode cX1_formatName 6 = .ok (.getfield 156, 3) := dk_180 0 156 (dk_at dksX1_formatName_0 6 rfl rfl)
theorem dX1_formatName_9 : decode cX1_formatName 9 = .ok (.invokevirtual 405, 3) := dk_182 1 149 (dk_at dksX1_formatName_0 9 rfl rfl)
theorem dX1_formatName_12 : decode cX1_formatName 12 = .ok (.ireturn, 1) := dk_172 (dk_at dksX1_formatName_0 12 rfl rfl)
abbrev cX1_format : ByteArray := prog_1_method_67_code
def yX1_format : MethodName := ⟨RX1, "format", "(Ljava/lang/String;)I"⟩
def dkwX1_format_1 : List UInt8 := [172]
abbrev dktX1_format_1 : List UInt8 := dkwX1_format_1 ++ []
def dkwX1_format_0 : List UInt8 := [42, 180, 0, 71, 3, 182, 1, 141, 42, 180, 0, 71, 43, 182, 1, 144, 87, 42, 180, 0, 71, 182, 1, 148]
abbrev dktX1_format_0 : List UInt8 := dkwX1_format_0 ++ dktX1_format_1
theorem dksX1_format_0 : cX1_format.data.toList.drop 0 = dktX1_format_0 := by decide +kernel
theorem dksX1_format_1 : cX1_format.data.toList.drop 24 = dktX1_format_1 := dk_seg dksX1_format_0 24 rfl rfl
theorem dX1_format_0 : decode cX1_format 0 = .ok (.aload_n 0, 1) := dk_42 (dk_at dksX1_format_0 0 rfl rfl)
theorem dX1_format_1 : decode cX1_format 1 = .ok (.getfield 71, 3) := dk_180 0 71 (dk_at dksX1_format_0 1 rfl rfl)
theorem dX1_format_4 : decode cX1_format 4 = .ok (.iconst 0, 1) := dk_3 (dk_at dksX1_format_0 4 rfl rfl)
theorem dX1_format_5 : decode cX1_format 5 = .ok (.invokevirtual 397, 3) := dk_182 1 141 (dk_at dksX1_format_0 5 rfl rfl)
theorem dX1_format_8 : decode cX1_format 8 = .ok (.aload_n 0, 1) := dk_42 (dk_at dksX1_format_0 8 rfl rfl)
theorem dX1_format_9 : decode cX1_format 9 = .ok (.getfield 71, 3) := dk_180 0 71 (dk_at dksX1_format_0 9 rfl rfl)
theorem dX1_format_12 : decode cX1_format 12 = .ok (.aload_n 1, 1) := dk_43 (dk_at dksX1_format_0 12 rfl rfl)
theorem dX1_format_13 : decode cX1_format 13 = .ok (.invokevirtual 400, 3) := dk_182 1 144 (dk_at dksX1_format_0 13 rfl rfl)
theorem dX1_format_16 : decode cX1_format 16 = .ok (.pop, 1) := dk_87 (dk_at dksX1_format_0 16 rfl rfl)
theorem dX1_format_17 : decode cX1_format 17 = .ok (.aload_n 0, 1) := dk_42 (dk_at dksX1_format_0 17 rfl rfl)
theorem dX1_format_18 : decode cX1_format 18 = .ok (.getfield 71, 3) := dk_180 0 71 (dk_at dksX1_format_0 18 rfl rfl)
theorem dX1_format_21 : decode cX1_format 21 = .ok (.invokevirtual 404, 3) := dk_182 1 148 (dk_at dksX1_format_0 21 rfl rfl)
theorem dX1_format_24 : decode cX1_format 24 = .ok (.ireturn, 1) := dk_172 (dk_at dksX1_format_1 0 rfl rfl)
abbrev cX1_formatNew : ByteArray := prog_1_method_69_code
def yX1_formatNew : MethodName := ⟨RX1, "formatNew", "(I)I"⟩
def dkwX1_formatNew_1 : List UInt8 := [180, 0, 238, 27, 50, 182, 1, 149, 172]
abbrev dktX1_formatNew_1 : List UInt8 := dkwX1_formatNew_1 ++ []
def dkwX1_formatNew_0 : List UInt8 := [42, 27, 182, 0, 226, 77, 42, 44, 180, 0, 230, 27, 46, 2, 160, 0, 9, 19, 1, 152, 167, 0, 9, 44]
abbrev dktX1_formatNew_0 : List UInt8 := dkwX1_formatNew_0 ++ dktX1_formatNew_1
theorem dksX1_formatNew_0 : cX1_formatNew.data.toList.drop 0 = dktX1_formatNew_0 := by decide +kernel
theorem dksX1_formatNew_1 : cX1_formatNew.data.toList.drop 24 = dktX1_formatNew_1 := dk_seg dksX1_formatNew_0 24 rfl rfl
theorem dX1_formatNew_0 : decode cX1_formatNew 0 = .ok (.aload_n 0, 1) := dk_42 (dk_at dksX1_formatNew_0 0 rfl rfl)
theorem dX1_formatNew_1 : decode cX1_formatNew 1 = .ok (.iload_n 1, 1) := dk_27 (dk_at dksX1_formatNew_0 1 rfl rfl)
theorem dX1_formatNew_2 : decode cX1_formatNew 2 = .ok (.invokevirtual 226, 3) := dk_182 0 226 (dk_at dksX1_formatNew_0 2 rfl rfl)
theorem dX1_formatNew_5 : decode cX1_formatNew 5 = .ok (.astore_n 2, 1) := dk_77 (dk_at dksX1_formatNew_0 5 rfl rfl)
theorem dX1_formatNew_6 : decode cX1_formatNew 6 = .ok (.aload_n 0, 1) := dk_42 (dk_at dksX1_formatNew_0 6 rfl rfl)
theorem dX1_formatNew_7 : decode cX1_formatNew 7 = .ok (.aload_n 2, 1) := dk_44 (dk_at dksX1_formatNew_0 7 rfl rfl)
theorem dX1_formatNew_8 : decode cX1_formatNew 8 = .ok (.getfield 230, 3) := dk_180 0 230 (dk_at dksX1_formatNew_0 8 rfl rfl)
theorem dX1_formatNew_11 : decode cX1_formatNew 11 = .ok (.iload_n 1, 1) := dk_27 (dk_at dksX1_formatNew_0 11 rfl rfl)
theorem dX1_formatNew_12 : decode cX1_formatNew 12 = .ok (.iaload, 1) := dk_46 (dk_at dksX1_formatNew_0 12 rfl rfl)
theorem dX1_formatNew_13 : decode cX1_formatNew 13 = .ok (.iconst (-1), 1) := dk_2 (dk_at dksX1_formatNew_0 13 rfl rfl)
theorem dX1_formatNew_14 : decode cX1_formatNew 14 = .ok (.if_icmp .ne 9, 3) := dk_160 0 9 (dk_at dksX1_formatNew_0 14 rfl rfl)
theorem dX1_formatNew_17 : decode cX1_formatNew 17 = .ok (.ldc_w 408, 3) := dk_19 1 152 (dk_at dksX1_formatNew_0 17 rfl rfl)
theorem dX1_formatNew_20 : decode cX1_formatNew 20 = .ok (.goto 9, 3) := dk_167 0 9 (dk_at dksX1_formatNew_0 20 rfl rfl)
theorem dX1_formatNew_23 : decode cX1_formatNew 23 = .ok (.aload_n 2, 1) := dk_44 (dk_at dksX1_formatNew_0 23 rfl rfl)
theorem dX1_formatNew_24 : decode cX1_formatNew 24 = .ok (.getfield 238, 3) := dk_180 0 238 (dk_at dksX1_formatNew_1 0 rfl rfl)
theorem dX1_formatNew_27 : decode cX1_formatNew 27 = .ok (.iload_n 1, 1) := dk_27 (dk_at dksX1_formatNew_1 3 rfl rfl)
theorem dX1_formatNew_28 : decode cX1_formatNew 28 = .ok (.aaload, 1) := dk_50 (dk_at dksX1_formatNew_1 4 rfl rfl)
theorem dX1_formatNew_29 : decode cX1_formatNew 29 = .ok (.invokevirtual 405, 3) := dk_182 1 149 (dk_at dksX1_formatNew_1 5 rfl rfl)
theorem dX1_formatNew_32 : decode cX1_formatNew 32 = .ok (.ireturn, 1) := dk_172 (dk_at dksX1_formatNew_1 8 rfl rfl)
abbrev cX1_formatStep : ByteArray := prog_1_method_70_code
def yX1_formatStep : MethodName := ⟨RX1, "formatStep", "(I)I"⟩
def dkwX1_formatStep_2 : List UInt8 := [172]
abbrev dktX1_formatStep_2 : List UInt8 := dkwX1_formatStep_2 ++ []
def dkwX1_formatStep_1 : List UInt8 := [182, 1, 144, 19, 1, 154, 182, 1, 144, 44, 180, 1, 81, 182, 1, 144, 87, 42, 180, 0, 71, 182, 1, 148]
abbrev dktX1_formatStep_1 : List UInt8 := dkwX1_formatStep_1 ++ dktX1_formatStep_2
def dkwX1_formatStep_0 : List UInt8 := [42, 27, 182, 1, 13, 77, 42, 180, 0, 71, 3, 182, 1, 141, 42, 180, 0, 71, 44, 180, 1, 95]
abbrev dktX1_formatStep_0 : List UInt8 := dkwX1_formatStep_0 ++ dktX1_formatStep_1
theorem dksX1_formatStep_0 : cX1_formatStep.data.toList.drop 0 = dktX1_formatStep_0 := by decide +kernel
theorem dksX1_formatStep_1 : cX1_formatStep.data.toList.drop 22 = dktX1_formatStep_1 := dk_seg dksX1_formatStep_0 22 rfl rfl
theorem dksX1_formatStep_2 : cX1_formatStep.data.toList.drop 46 = dktX1_formatStep_2 := dk_seg dksX1_formatStep_1 24 rfl rfl
theorem dX1_formatStep_0 : decode cX1_formatStep 0 = .ok (.aload_n 0, 1) := dk_42 (dk_at dksX1_formatStep_0 0 rfl rfl)
theorem dX1_formatStep_1 : decode cX1_formatStep 1 = .ok (.iload_n 1, 1) := dk_27 (dk_at dksX1_formatStep_0 1 rfl rfl)
theorem dX1_formatStep_2 : decode cX1_formatStep 2 = .ok (.invokevirtual 269, 3) := dk_182 1 13 (dk_at dksX1_formatStep_0 2 rfl rfl)
theorem dX1_formatStep_5 : decode cX1_formatStep 5 = .ok (.astore_n 2, 1) := dk_77 (dk_at dksX1_formatStep_0 5 rfl rfl)
theorem dX1_formatStep_6 : decode cX1_formatStep 6 = .ok (.aload_n 0, 1) := dk_42 (dk_at dksX1_formatStep_0 6 rfl rfl)
theorem dX1_formatStep_7 : decode cX1_formatStep 7 = .ok (.getfield 71, 3) := dk_180 0 71 (dk_at dksX1_formatStep_0 7 rfl rfl)
theorem dX1_formatStep_10 : decode cX1_formatStep 10 = .ok (.iconst 0, 1) := dk_3 (dk_at dksX1_formatStep_0 10 rfl rfl)
theorem dX1_formatStep_11 : decode cX1_formatStep 11 = .ok (.invokevirtual 397, 3) := dk_182 1 141 (dk_at dksX1_formatStep_0 11 rfl rfl)
theorem dX1_formatStep_14 : decode cX1_formatStep 14 = .ok (.aload_n 0, 1) := dk_42 (dk_at dksX1_formatStep_0 14 rfl rfl)
theorem dX1_formatStep_15 : decode cX1_formatStep 15 = .ok (.getfield 71, 3) := dk_180 0 71 (dk_at dksX1_formatStep_0 15 rfl rfl)
theorem dX1_formatStep_18 : decode cX1_formatStep 18 = .ok (.aload_n 2, 1) := dk_44 (dk_at dksX1_formatStep_0 18 rfl rfl)
theorem dX1_formatStep_19 : decode cX1_formatStep 19 = .ok (.getfield 351, 3) := dk_180 1 95 (dk_at dksX1_formatStep_0 19 rfl rfl)
theorem dX1_formatStep_22 : decode cX1_formatStep 22 = .ok (.invokevirtual 400, 3) := dk_182 1 144 (dk_at dksX1_formatStep_1 0 rfl rfl)
theorem dX1_formatStep_25 : decode cX1_formatStep 25 = .ok (.ldc_w 410, 3) := dk_19 1 154 (dk_at dksX1_formatStep_1 3 rfl rfl)
theorem dX1_formatStep_28 : decode cX1_formatStep 28 = .ok (.invokevirtual 400, 3) := dk_182 1 144 (dk_at dksX1_formatStep_1 6 rfl rfl)
theorem dX1_formatStep_31 : decode cX1_formatStep 31 = .ok (.aload_n 2, 1) := dk_44 (dk_at dksX1_formatStep_1 9 rfl rfl)
theorem dX1_formatStep_32 : decode cX1_formatStep 32 = .ok (.getfield 337, 3) := dk_180 1 81 (dk_at dksX1_formatStep_1 10 rfl rfl)
theorem dX1_formatStep_35 : decode cX1_formatStep 35 = .ok (.invokevirtual 400, 3) := dk_182 1 144 (dk_at dksX1_formatStep_1 13 rfl rfl)
theorem dX1_formatStep_38 : decode cX1_formatStep 38 = .ok (.pop, 1) := dk_87 (dk_at dksX1_formatStep_1 16 rfl rfl)
theorem dX1_formatStep_39 : decode cX1_formatStep 39 = .ok (.aload_n 0, 1) := dk_42 (dk_at dksX1_formatStep_1 17 rfl rfl)
theorem dX1_formatStep_40 : decode cX1_formatStep 40 = .ok (.getfield 71, 3) := dk_180 0 71 (dk_at dksX1_formatStep_1 18 rfl rfl)
theorem dX1_formatStep_43 : decode cX1_formatStep 43 = .ok (.invokevirtual 404, 3) := dk_182 1 148 (dk_at dksX1_formatStep_1 21 rfl rfl)
theorem dX1_formatStep_46 : decode cX1_formatStep 46 = .ok (.ireturn, 1) := dk_172 (dk_at dksX1_formatStep_2 0 rfl rfl)
abbrev cX1_formattedCharacter : ByteArray := prog_1_method_71_code
def yX1_formattedCharacter : MethodName := ⟨RX1, "formattedCharacter", "(I)C"⟩
def dkwX1_formattedCharacter_0 : List UInt8 := [27, 42, 180, 0, 71, 182, 1, 148, 184, 0, 124, 42, 180, 0, 71, 27, 182, 1, 156, 172]
abbrev dktX1_formattedCharacter_0 : List UInt8 := dkwX1_formattedCharacter_0 ++ []
theorem dksX1_formattedCharacter_0 : cX1_formattedCharacter.data.toList.drop 0 = dktX1_formattedCharacter_0 := by decide +kernel
theorem dX1_formattedCharacter_0 : decode cX1_formattedCharacter 0 = .ok (.iload_n 1, 1) := dk_27 (dk_at dksX1_formattedCharacter_0 0 rfl rfl)
theorem dX1_formattedCharacter_1 : decode cX1_formattedCharacter 1 = .ok (.aload_n 0, 1) := dk_42 (dk_at dksX1_formattedCharacter_0 1 rfl rfl)
theorem dX1_formattedCharacter_2 : decode cX1_formattedCharacter 2 = .ok (.getfield 71, 3) := dk_180 0 71 (dk_at dksX1_formattedCharacter_0 2 rfl rfl)
theorem dX1_formattedCharacter_5 : decode cX1_formattedCharacter 5 = .ok (.invokevirtual 404, 3) := dk_182 1 148 (dk_at dksX1_formattedCharacter_0 5 rfl rfl)
theorem dX1_formattedCharacter_8 : decode cX1_formattedCharacter 8 = .ok (.invokestatic 124, 3) := dk_184 0 124 (dk_at dksX1_formattedCharacter_0 8 rfl rfl)
theorem dX1_formattedCharacter_11 : decode cX1_formattedCharacter 11 = .ok (.aload_n 0, 1) := dk_42 (dk_at dksX1_formattedCharacter_0 11 rfl rfl)
theorem dX1_formattedCharacter_12 : decode cX1_formattedCharacter 12 = .ok (.getfield 71, 3) := dk_180 0 71 (dk_at dksX1_formattedCharacter_0 12 rfl rfl)
theorem dX1_formattedCharacter_15 : decode cX1_formattedCharacter 15 = .ok (.iload_n 1, 1) := dk_27 (dk_at dksX1_formattedCharacter_0 15 rfl rfl)
theorem dX1_formattedCharacter_16 : decode cX1_formattedCharacter 16 = .ok (.invokevirtual 412, 3) := dk_182 1 156 (dk_at dksX1_formattedCharacter_0 16 rfl rfl)
theorem dX1_formattedCharacter_19 : decode cX1_formattedCharacter 19 = .ok (.ireturn, 1) := dk_172 (dk_at dksX1_formattedCharacter_0 19 rfl rfl)
theorem q130 : (Jvm.Cond.initialized "BatchRenamer") ∈ lw_all := lw_g (lw_at lw_m1 1 rfl) rfl
theorem q171 : (Jvm.Cond.instantiable "BatchRenamer" (6 : Nat)) ∈ lw_all := lw_g (lw_at lw_m1 42 rfl) rfl
theorem q173 : (Jvm.Cond.instanceMethod ({ cls := "BatchRenamer", name := "<init>", desc := "()V" } : Jvm.MethodName)) ∈ lw_all := lw_g (lw_at lw_m1 44 rfl) rfl
theorem q174 : (Jvm.Cond.code ({ cls := "BatchRenamer", name := "<init>", desc := "()V" } : Jvm.MethodName) prog_1_method_8_code (1 : Nat) (Option.none : Option Jvm.ClassFile.FieldType)) ∈ lw_all := lw_g (lw_at lw_m1 45 rfl) rfl
theorem q175 : (Jvm.Cond.methodLink "BatchRenamer" (41 : Nat) ({ cls := "java/lang/Object", name := "<init>", desc := "()V" } : Jvm.MethodName)) ∈ lw_all := lw_g (lw_at lw_m1 46 rfl) rfl
theorem q178 : (Jvm.Cond.classLink "BatchRenamer" (44 : Nat) "BatchRenamer$Board") ∈ lw_all := lw_g (lw_at lw_m1 49 rfl) rfl
theorem q180 : (Jvm.Cond.methodLinkNest "BatchRenamer" (46 : Nat) ({ cls := "BatchRenamer$Board", name := "<init>", desc := "()V" } : Jvm.MethodName) "BatchRenamer") ∈ lw_tbl := lw_at lw_m1 51 rfl
theorem q574 : (Jvm.Cond.fieldLinkNest "BatchRenamer" (208 : Nat) "BatchRenamer$Reading" "from" "[I" "BatchRenamer") ∈ lw_tbl := lw_at lw_m2 205 rfl
theorem q577 : (Jvm.Cond.fieldLinkNest "BatchRenamer" (214 : Nat) "BatchRenamer$Reading" "many" "[I" "BatchRenamer") ∈ lw_tbl := lw_at lw_m2 208 rfl
theorem q600 : (Jvm.Cond.fieldLinkNest "BatchRenamer" (115 : Nat) "BatchRenamer$Board" "files" "Ljava/util/ArrayList;" "BatchRenamer") ∈ lw_tbl := lw_at lw_m2 231 rfl
theorem q604 : (Jvm.Cond.fieldLinkNest "BatchRenamer" (134 : Nat) "BatchRenamer$Board" "rules" "Ljava/util/ArrayList;" "BatchRenamer") ∈ lw_tbl := lw_at lw_m2 235 rfl
theorem q606 : (Jvm.Cond.fieldLinkNest "BatchRenamer" (302 : Nat) "BatchRenamer$Board" "plans" "LBatchRenamer$Journal;" "BatchRenamer") ∈ lw_tbl := lw_at lw_m2 237 rfl
theorem q609 : (Jvm.Cond.fieldLinkNest "BatchRenamer" (204 : Nat) "BatchRenamer$Board" "reading" "LBatchRenamer$Reading;" "BatchRenamer") ∈ lw_tbl := lw_at lw_m3 0 rfl
theorem q613 : (Jvm.Cond.fieldLinkNest "BatchRenamer" (184 : Nat) "BatchRenamer$Board" "start" "I" "BatchRenamer") ∈ lw_tbl := lw_at lw_m3 4 rfl
theorem q617 : (Jvm.Cond.fieldLinkNest "BatchRenamer" (187 : Nat) "BatchRenamer$Board" "step" "I" "BatchRenamer") ∈ lw_tbl := lw_at lw_m3 8 rfl
theorem q621 : (Jvm.Cond.fieldLinkNest "BatchRenamer" (190 : Nat) "BatchRenamer$Board" "digits" "I" "BatchRenamer") ∈ lw_tbl := lw_at lw_m3 12 rfl
theorem q637 : (Jvm.Cond.classLink "BatchRenamer" (51 : Nat) "BatchRenamer$Journal") ∈ lw_all := lw_g (lw_at lw_m3 28 rfl) rfl
theorem q638 : (Jvm.Cond.methodLink "BatchRenamer" (53 : Nat) ({ cls := "BatchRenamer$Journal", name := "<init>", desc := "(I)V" } : Jvm.MethodName)) ∈ lw_all := lw_g (lw_at lw_m3 29 rfl) rfl
theorem q639 : (Jvm.Cond.classLink "BatchRenamer" (68 : Nat) "java/lang/StringBuilder") ∈ lw_all := lw_g (lw_at lw_m3 30 rfl) rfl
theorem q640 : (Jvm.Cond.methodLink "BatchRenamer" (70 : Nat) ({ cls := "java/lang/StringBuilder", name := "<init>", desc := "()V" } : Jvm.MethodName)) ∈ lw_all := lw_g (lw_at lw_m3 31 rfl) rfl
theorem q641 : (Jvm.Cond.fieldLink "BatchRenamer" (47 : Nat) "BatchRenamer" "board" "LBatchRenamer$Board;") ∈ lw_all := lw_g (lw_at lw_m3 32 rfl) rfl
theorem q642 : (Jvm.Cond.fieldLink "BatchRenamer" (56 : Nat) "BatchRenamer" "history" "LBatchRenamer$Journal;") ∈ lw_all := lw_g (lw_at lw_m3 33 rfl) rfl
theorem q643 : (Jvm.Cond.fieldLink "BatchRenamer" (60 : Nat) "BatchRenamer" "buffer" "[B") ∈ lw_all := lw_g (lw_at lw_m3 34 rfl) rfl
theorem q644 : (Jvm.Cond.fieldLink "BatchRenamer" (79 : Nat) "BatchRenamer" "length" "I") ∈ lw_all := lw_g (lw_at lw_m3 35 rfl) rfl
theorem q645 : (Jvm.Cond.fieldLink "BatchRenamer" (64 : Nat) "BatchRenamer" "errorOffset" "I") ∈ lw_all := lw_g (lw_at lw_m3 36 rfl) rfl
theorem q646 : (Jvm.Cond.fieldLink "BatchRenamer" (71 : Nat) "BatchRenamer" "formatted" "Ljava/lang/StringBuilder;") ∈ lw_all := lw_g (lw_at lw_m3 37 rfl) rfl
theorem q647 : (Jvm.Cond.lays "BatchRenamer" "BatchRenamer" "board" "LBatchRenamer$Board;") ∈ lw_all := lw_g (lw_at lw_m3 38 rfl) rfl
theorem q648 : (Jvm.Cond.soleField "BatchRenamer" "board") ∈ lw_all := lw_g (lw_at lw_m3 39 rfl) rfl
theorem q649 : (Jvm.Cond.laysFinal "BatchRenamer" "BatchRenamer" "history" "LBatchRenamer$Journal;") ∈ lw_all := lw_g (lw_at lw_m3 40 rfl) rfl
theorem q650 : (Jvm.Cond.soleField "BatchRenamer" "history") ∈ lw_all := lw_g (lw_at lw_m3 41 rfl) rfl
theorem q651 : (Jvm.Cond.laysFinal "BatchRenamer" "BatchRenamer" "buffer" "[B") ∈ lw_all := lw_g (lw_at lw_m3 42 rfl) rfl
theorem q652 : (Jvm.Cond.soleField "BatchRenamer" "buffer") ∈ lw_all := lw_g (lw_at lw_m3 43 rfl) rfl
theorem q653 : (Jvm.Cond.lays "BatchRenamer" "BatchRenamer" "length" "I") ∈ lw_all := lw_g (lw_at lw_m3 44 rfl) rfl
theorem q654 : (Jvm.Cond.soleField "BatchRenamer" "length") ∈ lw_all := lw_g (lw_at lw_m3 45 rfl) rfl
theorem q655 : (Jvm.Cond.lays "BatchRenamer" "BatchRenamer" "errorOffset" "I") ∈ lw_all := lw_g (lw_at lw_m3 46 rfl) rfl
theorem q656 : (Jvm.Cond.soleField "BatchRenamer" "errorOffset") ∈ lw_all := lw_g (lw_at lw_m3 47 rfl) rfl
theorem q657 : (Jvm.Cond.laysFinal "BatchRenamer" "BatchRenamer" "formatted" "Ljava/lang/StringBuilder;") ∈ lw_all := lw_g (lw_at lw_m3 48 rfl) rfl
theorem q658 : (Jvm.Cond.soleField "BatchRenamer" "formatted") ∈ lw_all := lw_g (lw_at lw_m3 49 rfl) rfl
theorem q659 : (Jvm.Cond.superclass "BatchRenamer" "java/lang/Object") ∈ lw_all := lw_g (lw_at lw_m3 50 rfl) rfl
theorem q661 : (Jvm.Cond.instanceMethod ({ cls := "BatchRenamer", name := "errorOffset", desc := "()I" } : Jvm.MethodName)) ∈ lw_all := lw_g (lw_at lw_m3 52 rfl) rfl
theorem q662 : (Jvm.Cond.selects "BatchRenamer" ({ cls := "BatchRenamer", name := "errorOffset", desc := "()I" } : Jvm.MethodName) ({ cls := "BatchRenamer", name := "errorOffset", desc := "()I" } : Jvm.MethodName)) ∈ lw_all := lw_g (lw_at lw_m3 53 rfl) rfl
theorem q663 : (Jvm.Cond.code ({ cls := "BatchRenamer", name := "errorOffset", desc := "()I" } : Jvm.MethodName) prog_1_method_14_code (1 : Nat) (Option.some Jvm.ClassFile.FieldType.int)) ∈ lw_all := lw_g (lw_at lw_m3 54 rfl) rfl
theorem q665 : (Jvm.Cond.instanceMethod ({ cls := "BatchRenamer", name := "files", desc := "()I" } : Jvm.MethodName)) ∈ lw_all := lw_g (lw_at lw_m3 56 rfl) rfl
theorem q666 : (Jvm.Cond.selects "BatchRenamer" ({ cls := "BatchRenamer", name := "files", desc := "()I" } : Jvm.MethodName) ({ cls := "BatchRenamer", name := "files", desc := "()I" } : Jvm.MethodName)) ∈ lw_all := lw_g (lw_at lw_m3 57 rfl) rfl
theorem q667 : (Jvm.Cond.code ({ cls := "BatchRenamer", name := "files", desc := "()I" } : Jvm.MethodName) prog_1_method_19_code (1 : Nat) (Option.some Jvm.ClassFile.FieldType.int)) ∈ lw_all := lw_g (lw_at lw_m3 58 rfl) rfl
theorem q668 : (Jvm.Cond.methodLink "BatchRenamer" (119 : Nat) ({ cls := "java/util/ArrayList", name := "size", desc := "()I" } : Jvm.MethodName)) ∈ lw_all := lw_g (lw_at lw_m3 59 rfl) rfl
theorem q673 : (Jvm.Cond.instanceMethod ({ cls := "BatchRenamer", name := "rules", desc := "()I" } : Jvm.MethodName)) ∈ lw_all := lw_g (lw_at lw_m3 64 rfl) rfl
theorem q674 : (Jvm.Cond.selects "BatchRenamer" ({ cls := "BatchRenamer", name := "rules", desc := "()I" } : Jvm.MethodName) ({ cls := "BatchRenamer", name := "rules", desc := "()I" } : Jvm.MethodName)) ∈ lw_all := lw_g (lw_at lw_m3 65 rfl) rfl
theorem q675 : (Jvm.Cond.code ({ cls := "BatchRenamer", name := "rules", desc := "()I" } : Jvm.MethodName) prog_1_method_20_code (1 : Nat) (Option.some Jvm.ClassFile.FieldType.int)) ∈ lw_all := lw_g (lw_at lw_m3 66 rfl) rfl
theorem q677 : (Jvm.Cond.instanceMethod ({ cls := "BatchRenamer", name := "withStatus", desc := "(I)I" } : Jvm.MethodName)) ∈ lw_all := lw_g (lw_at lw_m3 68 rfl) rfl
theorem q678 : (Jvm.Cond.selects "BatchRenamer" ({ cls := "BatchRenamer", name := "withStatus", desc := "(I)I" } : Jvm.MethodName) ({ cls := "BatchRenamer", name := "withStatus", desc := "(I)I" } : Jvm.MethodName)) ∈ lw_all := lw_g (lw_at lw_m3 69 rfl) rfl
theorem q679 : (Jvm.Cond.code ({ cls := "BatchRenamer", name := "withStatus", desc := "(I)I" } : Jvm.MethodName) prog_1_method_36_code (3 : Nat) (Option.some Jvm.ClassFile.FieldType.int)) ∈ lw_all := lw_g (lw_at lw_m3 70 rfl) rfl
theorem q680 : (Jvm.Cond.methodLink "BatchRenamer" (148 : Nat) ({ cls := "BatchRenamer", name := "outlook", desc := "()LBatchRenamer$Outlook;" } : Jvm.MethodName)) ∈ lw_all := lw_g (lw_at lw_m3 71 rfl) rfl
theorem q681 : (Jvm.Cond.privateMethod ({ cls := "BatchRenamer", name := "outlook", desc := "()LBatchRenamer$Outlook;" } : Jvm.MethodName)) ∈ lw_tbl := lw_at lw_m3 72 rfl
theorem q682 : (Jvm.Cond.instanceMethod ({ cls := "BatchRenamer", name := "outlook", desc := "()LBatchRenamer$Outlook;" } : Jvm.MethodName)) ∈ lw_all := lw_g (lw_at lw_m3 73 rfl) rfl
theorem q683 : (Jvm.Cond.code ({ cls := "BatchRenamer", name := "outlook", desc := "()LBatchRenamer$Outlook;" } : Jvm.MethodName) prog_1_method_17_code (1 : Nat) (Option.some (Jvm.ClassFile.FieldType.object "BatchRenamer$Outlook"))) ∈ lw_all := lw_g (lw_at lw_m3 74 rfl) rfl
theorem q684 : (Jvm.Cond.classLink "BatchRenamer" (139 : Nat) "BatchRenamer$Outlook") ∈ lw_all := lw_g (lw_at lw_m3 75 rfl) rfl
theorem q686 : (Jvm.Cond.methodLink "BatchRenamer" (141 : Nat) ({ cls := "BatchRenamer$Outlook", name := "<init>", desc := "(LBatchRenamer$Board;)V" } : Jvm.MethodName)) ∈ lw_all := lw_g (lw_at lw_m3 77 rfl) rfl
theorem q824 : (Jvm.Cond.selects "BatchRenamer" ({ cls := "java/lang/Object", name := "equals", desc := "(Ljava/lang/Object;)Z" } : Jvm.MethodName) ({ cls := "java/lang/Object", name := "equals", desc := "(Ljava/lang/Object;)Z" } : Jvm.MethodName)) ∈ lw_all := lw_g (lw_at lw_m3 215 rfl) rfl
theorem q860 : (Jvm.Cond.selects "BatchRenamer" ({ cls := "java/lang/Object", name := "getClass", desc := "()Ljava/lang/Class;" } : Jvm.MethodName) ({ cls := "java/lang/Object", name := "getClass", desc := "()Ljava/lang/Class;" } : Jvm.MethodName)) ∈ lw_all := lw_g (lw_at lw_m4 11 rfl) rfl
theorem q1121 : (Jvm.Cond.fieldLinkNest "BatchRenamer" (291 : Nat) "BatchRenamer$Outlook" "many" "I" "BatchRenamer") ∈ lw_tbl := lw_at lw_m5 32 rfl
theorem q1123 : (Jvm.Cond.fieldLinkNest "BatchRenamer" (230 : Nat) "BatchRenamer$Outlook" "rule" "[I" "BatchRenamer") ∈ lw_tbl := lw_at lw_m5 34 rfl
theorem q1125 : (Jvm.Cond.fieldLinkNest "BatchRenamer" (232 : Nat) "BatchRenamer$Outlook" "counter" "[I" "BatchRenamer") ∈ lw_tbl := lw_at lw_m5 36 rfl
theorem q1128 : (Jvm.Cond.fieldLinkNest "BatchRenamer" (235 : Nat) "BatchRenamer$Outlook" "status" "[I" "BatchRenamer") ∈ lw_tbl := lw_at lw_m5 39 rfl
theorem q1130 : (Jvm.Cond.fieldLinkNest "BatchRenamer" (223 : Nat) "BatchRenamer$Outlook" "groups" "[I" "BatchRenamer") ∈ lw_tbl := lw_at lw_m5 41 rfl
theorem q1133 : (Jvm.Cond.fieldLinkNest "BatchRenamer" (238 : Nat) "BatchRenamer$Outlook" "next" "[Ljava/lang/String;" "BatchRenamer") ∈ lw_tbl := lw_at lw_m5 44 rfl
theorem q1137 : (Jvm.Cond.fieldLinkNest "BatchRenamer" (254 : Nat) "BatchRenamer$Outlook" "rounds" "I" "BatchRenamer") ∈ lw_tbl := lw_at lw_m5 48 rfl
theorem q1159 : (Jvm.Cond.static ({ cls := "BatchRenamer", name := "lambda$withStatus$2", desc := "(LBatchRenamer$Outlook;II)Z" } : Jvm.MethodName)) ∈ lw_all := lw_g (lw_at lw_m5 70 rfl) rfl
theorem q1160 : (Jvm.Cond.code ({ cls := "BatchRenamer", name := "lambda$withStatus$2", desc := "(LBatchRenamer$Outlook;II)Z" } : Jvm.MethodName) prog_1_method_74_code (3 : Nat) (Option.some Jvm.ClassFile.FieldType.boolean)) ∈ lw_all := lw_g (lw_at lw_m5 71 rfl) rfl
theorem q1161 : (Jvm.Cond.methodLink "BatchRenamer" (175 : Nat) ({ cls := "BatchRenamer", name := "bits", desc := "(LBatchRenamer$Question;)I" } : Jvm.MethodName)) ∈ lw_all := lw_g (lw_at lw_m5 72 rfl) rfl
theorem q1162 : (Jvm.Cond.privateMethod ({ cls := "BatchRenamer", name := "bits", desc := "(LBatchRenamer$Question;)I" } : Jvm.MethodName)) ∈ lw_tbl := lw_at lw_m5 73 rfl
theorem q1163 : (Jvm.Cond.instanceMethod ({ cls := "BatchRenamer", name := "bits", desc := "(LBatchRenamer$Question;)I" } : Jvm.MethodName)) ∈ lw_all := lw_g (lw_at lw_m5 74 rfl) rfl
theorem q1164 : (Jvm.Cond.code ({ cls := "BatchRenamer", name := "bits", desc := "(LBatchRenamer$Question;)I" } : Jvm.MethodName) prog_1_method_23_code (4 : Nat) (Option.some Jvm.ClassFile.FieldType.int)) ∈ lw_all := lw_g (lw_at lw_m5 75 rfl) rfl
theorem q1165 : (Jvm.Cond.interfaceEntry "BatchRenamer" (160 : Nat)) ∈ lw_tbl := lw_at lw_m5 76 rfl
theorem q1166 : (Jvm.Cond.methodLink "BatchRenamer" (160 : Nat) ({ cls := "BatchRenamer$Question", name := "isSo", desc := "(I)Z" } : Jvm.MethodName)) ∈ lw_all := lw_g (lw_at lw_m5 77 rfl) rfl
theorem q1170 : (Jvm.Cond.instanceMethod ({ cls := "BatchRenamer", name := "rounds", desc := "()I" } : Jvm.MethodName)) ∈ lw_all := lw_g (lw_at lw_m5 81 rfl) rfl
theorem q1171 : (Jvm.Cond.selects "BatchRenamer" ({ cls := "BatchRenamer", name := "rounds", desc := "()I" } : Jvm.MethodName) ({ cls := "BatchRenamer", name := "rounds", desc := "()I" } : Jvm.MethodName)) ∈ lw_all := lw_g (lw_at lw_m5 82 rfl) rfl
theorem q1172 : (Jvm.Cond.code ({ cls := "BatchRenamer", name := "rounds", desc := "()I" } : Jvm.MethodName) prog_1_method_39_code (1 : Nat) (Option.some Jvm.ClassFile.FieldType.int)) ∈ lw_all := lw_g (lw_at lw_m5 83 rfl) rfl
theorem q1174 : (Jvm.Cond.instanceMethod ({ cls := "BatchRenamer", name := "steps", desc := "()I" } : Jvm.MethodName)) ∈ lw_all := lw_g (lw_at lw_m5 85 rfl) rfl
theorem q1175 : (Jvm.Cond.selects "BatchRenamer" ({ cls := "BatchRenamer", name := "steps", desc := "()I" } : Jvm.MethodName) ({ cls := "BatchRenamer", name := "steps", desc := "()I" } : Jvm.MethodName)) ∈ lw_all := lw_g (lw_at lw_m5 86 rfl) rfl
theorem q1176 : (Jvm.Cond.code ({ cls := "BatchRenamer", name := "steps", desc := "()I" } : Jvm.MethodName) prog_1_method_42_code (1 : Nat) (Option.some Jvm.ClassFile.FieldType.int)) ∈ lw_all := lw_g (lw_at lw_m5 87 rfl) rfl
theorem q1177 : (Jvm.Cond.methodLink "BatchRenamer" (260 : Nat) ({ cls := "BatchRenamer", name := "planner", desc := "()LBatchRenamer$Planner;" } : Jvm.MethodName)) ∈ lw_all := lw_g (lw_at lw_m5 88 rfl) rfl
theorem q1178 : (Jvm.Cond.privateMethod ({ cls := "BatchRenamer", name := "planner", desc := "()LBatchRenamer$Planner;" } : Jvm.MethodName)) ∈ lw_tbl := lw_at lw_m5 89 rfl
theorem q1179 : (Jvm.Cond.instanceMethod ({ cls := "BatchRenamer", name := "planner", desc := "()LBatchRenamer$Planner;" } : Jvm.MethodName)) ∈ lw_all := lw_g (lw_at lw_m5 90 rfl) rfl
theorem q1180 : (Jvm.Cond.code ({ cls := "BatchRenamer", name := "planner", desc := "()LBatchRenamer$Planner;" } : Jvm.MethodName) prog_1_method_40_code (1 : Nat) (Option.some (Jvm.ClassFile.FieldType.object "BatchRenamer$Planner"))) ∈ lw_all := lw_g (lw_at lw_m5 91 rfl) rfl
theorem q1181 : (Jvm.Cond.classLink "BatchRenamer" (257 : Nat) "BatchRenamer$Planner") ∈ lw_all := lw_g (lw_at lw_m5 92 rfl) rfl
theorem q1183 : (Jvm.Cond.methodLink "BatchRenamer" (259 : Nat) ({ cls := "BatchRenamer$Planner", name := "<init>", desc := "(LBatchRenamer$Board;)V" } : Jvm.MethodName)) ∈ lw_all := lw_g (lw_at lw_m5 94 rfl) rfl
theorem q1211 : (Jvm.Cond.fieldLinkNest "BatchRenamer" (156 : Nat) "BatchRenamer$Entry" "name" "Ljava/lang/String;" "BatchRenamer") ∈ lw_tbl := lw_at lw_m5 122 rfl
theorem q1215 : (Jvm.Cond.fieldLinkNest "BatchRenamer" (152 : Nat) "BatchRenamer$Entry" "isKept" "Z" "BatchRenamer") ∈ lw_tbl := lw_at lw_m5 126 rfl
theorem q1323 : (Jvm.Cond.fieldLinkNest "BatchRenamer" (273 : Nat) "BatchRenamer$Move" "file" "I" "BatchRenamer") ∈ lw_tbl := lw_at lw_m5 234 rfl
theorem q1325 : (Jvm.Cond.fieldLinkNest "BatchRenamer" (275 : Nat) "BatchRenamer$Move" "kind" "I" "BatchRenamer") ∈ lw_tbl := lw_at lw_m5 236 rfl
theorem q1327 : (Jvm.Cond.fieldLinkNest "BatchRenamer" (351 : Nat) "BatchRenamer$Move" "from" "Ljava/lang/String;" "BatchRenamer") ∈ lw_tbl := lw_at lw_m5 238 rfl
theorem q1330 : (Jvm.Cond.fieldLinkNest "BatchRenamer" (337 : Nat) "BatchRenamer$Move" "to" "Ljava/lang/String;" "BatchRenamer") ∈ lw_tbl := lw_at lw_m6 1 rfl
theorem q1375 : (Jvm.Cond.fieldLinkNest "BatchRenamer" (328 : Nat) "BatchRenamer$Planner" "trial" "LBatchRenamer$Board;" "BatchRenamer") ∈ lw_tbl := lw_at lw_m6 46 rfl
theorem q1377 : (Jvm.Cond.fieldLinkNest "BatchRenamer" (264 : Nat) "BatchRenamer$Planner" "moves" "Ljava/util/ArrayList;" "BatchRenamer") ∈ lw_tbl := lw_at lw_m6 48 rfl
theorem q1392 : (Jvm.Cond.instanceMethod ({ cls := "BatchRenamer", name := "spares", desc := "()I" } : Jvm.MethodName)) ∈ lw_all := lw_g (lw_at lw_m6 63 rfl) rfl
theorem q1393 : (Jvm.Cond.selects "BatchRenamer" ({ cls := "BatchRenamer", name := "spares", desc := "()I" } : Jvm.MethodName) ({ cls := "BatchRenamer", name := "spares", desc := "()I" } : Jvm.MethodName)) ∈ lw_all := lw_g (lw_at lw_m6 64 rfl) rfl
theorem q1394 : (Jvm.Cond.code ({ cls := "BatchRenamer", name := "spares", desc := "()I" } : Jvm.MethodName) prog_1_method_44_code (4 : Nat) (Option.some Jvm.ClassFile.FieldType.int)) ∈ lw_all := lw_g (lw_at lw_m6 65 rfl) rfl
theorem q1395 : (Jvm.Cond.methodLink "BatchRenamer" (278 : Nat) ({ cls := "java/util/ArrayList", name := "iterator", desc := "()Ljava/util/Iterator;" } : Jvm.MethodName)) ∈ lw_all := lw_g (lw_at lw_m6 66 rfl) rfl
theorem q1396 : (Jvm.Cond.interfaceEntry "BatchRenamer" (282 : Nat)) ∈ lw_tbl := lw_at lw_m6 67 rfl
theorem q1397 : (Jvm.Cond.methodLink "BatchRenamer" (282 : Nat) ({ cls := "java/util/Iterator", name := "hasNext", desc := "()Z" } : Jvm.MethodName)) ∈ lw_all := lw_g (lw_at lw_m6 68 rfl) rfl
theorem q1398 : (Jvm.Cond.interfaceEntry "BatchRenamer" (288 : Nat)) ∈ lw_tbl := lw_at lw_m6 69 rfl
theorem q1399 : (Jvm.Cond.methodLink "BatchRenamer" (288 : Nat) ({ cls := "java/util/Iterator", name := "next", desc := "()Ljava/lang/Object;" } : Jvm.MethodName)) ∈ lw_all := lw_g (lw_at lw_m6 70 rfl) rfl
theorem q1400 : (Jvm.Cond.classLink "BatchRenamer" (267 : Nat) "BatchRenamer$Move") ∈ lw_all := lw_g (lw_at lw_m6 71 rfl) rfl
theorem q1402 : (Jvm.Cond.instanceMethod ({ cls := "BatchRenamer", name := "longestCycle", desc := "()I" } : Jvm.MethodName)) ∈ lw_all := lw_g (lw_at lw_m6 73 rfl) rfl
theorem q1403 : (Jvm.Cond.selects "BatchRenamer" ({ cls := "BatchRenamer", name := "longestCycle", desc := "()I" } : Jvm.MethodName) ({ cls := "BatchRenamer", name := "longestCycle", desc := "()I" } : Jvm.MethodName)) ∈ lw_all := lw_g (lw_at lw_m6 74 rfl) rfl
theorem q1404 : (Jvm.Cond.code ({ cls := "BatchRenamer", name := "longestCycle", desc := "()I" } : Jvm.MethodName) prog_1_method_45_code (4 : Nat) (Option.some Jvm.ClassFile.FieldType.int)) ∈ lw_all := lw_g (lw_at lw_m6 75 rfl) rfl
theorem q1405 : (Jvm.Cond.methodLink "BatchRenamer" (293 : Nat) ({ cls := "BatchRenamer$Outlook", name := "cycle", desc := "(I)I" } : Jvm.MethodName)) ∈ lw_all := lw_g (lw_at lw_m6 76 rfl) rfl
theorem q1409 : (Jvm.Cond.methodLink "BatchRenamer" (296 : Nat) ({ cls := "java/lang/Math", name := "max", desc := "(II)I" } : Jvm.MethodName)) ∈ lw_all := lw_g (lw_at lw_m6 80 rfl) rfl
theorem q1411 : (Jvm.Cond.instanceMethod ({ cls := "BatchRenamer", name := "performed", desc := "()I" } : Jvm.MethodName)) ∈ lw_all := lw_g (lw_at lw_m6 82 rfl) rfl
theorem q1412 : (Jvm.Cond.selects "BatchRenamer" ({ cls := "BatchRenamer", name := "performed", desc := "()I" } : Jvm.MethodName) ({ cls := "BatchRenamer", name := "performed", desc := "()I" } : Jvm.MethodName)) ∈ lw_all := lw_g (lw_at lw_m6 83 rfl) rfl
theorem q1413 : (Jvm.Cond.code ({ cls := "BatchRenamer", name := "performed", desc := "()I" } : Jvm.MethodName) prog_1_method_46_code (1 : Nat) (Option.some Jvm.ClassFile.FieldType.int)) ∈ lw_all := lw_g (lw_at lw_m6 84 rfl) rfl
theorem q1414 : (Jvm.Cond.methodLink "BatchRenamer" (305 : Nat) ({ cls := "BatchRenamer$Journal", name := "size", desc := "()I" } : Jvm.MethodName)) ∈ lw_all := lw_g (lw_at lw_m6 85 rfl) rfl
theorem q1420 : (Jvm.Cond.instanceMethod ({ cls := "BatchRenamer", name := "stepsAgain", desc := "()I" } : Jvm.MethodName)) ∈ lw_all := lw_g (lw_at lw_m6 91 rfl) rfl
theorem q1421 : (Jvm.Cond.selects "BatchRenamer" ({ cls := "BatchRenamer", name := "stepsAgain", desc := "()I" } : Jvm.MethodName) ({ cls := "BatchRenamer", name := "stepsAgain", desc := "()I" } : Jvm.MethodName)) ∈ lw_all := lw_g (lw_at lw_m6 92 rfl) rfl
theorem q1422 : (Jvm.Cond.code ({ cls := "BatchRenamer", name := "stepsAgain", desc := "()I" } : Jvm.MethodName) prog_1_method_51_code (1 : Nat) (Option.some Jvm.ClassFile.FieldType.int)) ∈ lw_all := lw_g (lw_at lw_m6 93 rfl) rfl
theorem q1424 : (Jvm.Cond.instanceMethod ({ cls := "BatchRenamer", name := "meanLength", desc := "()D" } : Jvm.MethodName)) ∈ lw_all := lw_g (lw_at lw_m6 95 rfl) rfl
theorem q1425 : (Jvm.Cond.selects "BatchRenamer" ({ cls := "BatchRenamer", name := "meanLength", desc := "()D" } : Jvm.MethodName) ({ cls := "BatchRenamer", name := "meanLength", desc := "()D" } : Jvm.MethodName)) ∈ lw_all := lw_g (lw_at lw_m6 96 rfl) rfl
theorem q1426 : (Jvm.Cond.code ({ cls := "BatchRenamer", name := "meanLength", desc := "()D" } : Jvm.MethodName) prog_1_method_52_code (4 : Nat) (Option.some Jvm.ClassFile.FieldType.double)) ∈ lw_all := lw_g (lw_at lw_m6 97 rfl) rfl
theorem q1427 : (Jvm.Cond.classLink "BatchRenamer" (132 : Nat) "BatchRenamer$Entry") ∈ lw_all := lw_g (lw_at lw_m6 98 rfl) rfl
theorem q1428 : (Jvm.Cond.methodLink "BatchRenamer" (27 : Nat) ({ cls := "java/lang/String", name := "length", desc := "()I" } : Jvm.MethodName)) ∈ lw_all := lw_g (lw_at lw_m6 99 rfl) rfl
theorem q1429 : (Jvm.Cond.methodLink "BatchRenamer" (331 : Nat) ({ cls := "java/util/ArrayList", name := "isEmpty", desc := "()Z" } : Jvm.MethodName)) ∈ lw_all := lw_g (lw_at lw_m6 100 rfl) rfl
theorem q1434 : (Jvm.Cond.instanceMethod ({ cls := "BatchRenamer", name := "perform", desc := "()I" } : Jvm.MethodName)) ∈ lw_all := lw_g (lw_at lw_m6 105 rfl) rfl
theorem q1435 : (Jvm.Cond.selects "BatchRenamer" ({ cls := "BatchRenamer", name := "perform", desc := "()I" } : Jvm.MethodName) ({ cls := "BatchRenamer", name := "perform", desc := "()I" } : Jvm.MethodName)) ∈ lw_all := lw_g (lw_at lw_m6 106 rfl) rfl
theorem q1436 : (Jvm.Cond.code ({ cls := "BatchRenamer", name := "perform", desc := "()I" } : Jvm.MethodName) prog_1_method_53_code (4 : Nat) (Option.some Jvm.ClassFile.FieldType.int)) ∈ lw_all := lw_g (lw_at lw_m6 107 rfl) rfl
theorem q1437 : (Jvm.Cond.methodLink "BatchRenamer" (334 : Nat) ({ cls := "BatchRenamer", name := "remember", desc := "()V" } : Jvm.MethodName)) ∈ lw_all := lw_g (lw_at lw_m6 108 rfl) rfl
theorem q1438 : (Jvm.Cond.privateMethod ({ cls := "BatchRenamer", name := "remember", desc := "()V" } : Jvm.MethodName)) ∈ lw_tbl := lw_at lw_m6 109 rfl
theorem q1439 : (Jvm.Cond.instanceMethod ({ cls := "BatchRenamer", name := "remember", desc := "()V" } : Jvm.MethodName)) ∈ lw_all := lw_g (lw_at lw_m6 110 rfl) rfl
theorem q1440 : (Jvm.Cond.code ({ cls := "BatchRenamer", name := "remember", desc := "()V" } : Jvm.MethodName) prog_1_method_9_code (1 : Nat) (Option.none : Option Jvm.ClassFile.FieldType)) ∈ lw_all := lw_g (lw_at lw_m6 111 rfl) rfl
theorem q1441 : (Jvm.Cond.methodLink "BatchRenamer" (75 : Nat) ({ cls := "BatchRenamer$Journal", name := "addCopy", desc := "(LBatchRenamer$Copied;)V" } : Jvm.MethodName)) ∈ lw_all := lw_g (lw_at lw_m6 112 rfl) rfl
theorem q1471 : (Jvm.Cond.methodLink "BatchRenamer" (340 : Nat) ({ cls := "BatchRenamer$Board", name := "set", desc := "(ILjava/lang/String;)V" } : Jvm.MethodName)) ∈ lw_all := lw_g (lw_at lw_m6 142 rfl) rfl
theorem q1472 : (Jvm.Cond.methodLink "BatchRenamer" (344 : Nat) ({ cls := "BatchRenamer$Journal", name := "add", desc := "(Ljava/lang/Object;)V" } : Jvm.MethodName)) ∈ lw_all := lw_g (lw_at lw_m6 143 rfl) rfl
theorem q1478 : (Jvm.Cond.instanceMethod ({ cls := "BatchRenamer", name := "append", desc := "(IIIII)I" } : Jvm.MethodName)) ∈ lw_all := lw_g (lw_at lw_m6 149 rfl) rfl
theorem q1479 : (Jvm.Cond.selects "BatchRenamer" ({ cls := "BatchRenamer", name := "append", desc := "(IIIII)I" } : Jvm.MethodName) ({ cls := "BatchRenamer", name := "append", desc := "(IIIII)I" } : Jvm.MethodName)) ∈ lw_all := lw_g (lw_at lw_m6 150 rfl) rfl
theorem q1480 : (Jvm.Cond.code ({ cls := "BatchRenamer", name := "append", desc := "(IIIII)I" } : Jvm.MethodName) prog_1_method_10_code (12 : Nat) (Option.some Jvm.ClassFile.FieldType.int)) ∈ lw_all := lw_g (lw_at lw_m6 151 rfl) rfl
theorem q1481 : (Jvm.Cond.methodLink "BatchRenamer" (81 : Nat) ({ cls := "BatchRenamer", name := "requireState", desc := "(Z)V" } : Jvm.MethodName)) ∈ lw_all := lw_g (lw_at lw_m6 152 rfl) rfl
theorem q1482 : (Jvm.Cond.static ({ cls := "BatchRenamer", name := "requireState", desc := "(Z)V" } : Jvm.MethodName)) ∈ lw_all := lw_g (lw_at lw_m6 153 rfl) rfl
theorem q1483 : (Jvm.Cond.code ({ cls := "BatchRenamer", name := "requireState", desc := "(Z)V" } : Jvm.MethodName) prog_1_method_3_code (1 : Nat) (Option.none : Option Jvm.ClassFile.FieldType)) ∈ lw_all := lw_g (lw_at lw_m6 154 rfl) rfl
theorem q1484 : (Jvm.Cond.classLink "BatchRenamer" (7 : Nat) "java/lang/IllegalStateException") ∈ lw_all := lw_g (lw_at lw_m6 155 rfl) rfl
theorem q1485 : (Jvm.Cond.methodLink "BatchRenamer" (9 : Nat) ({ cls := "java/lang/IllegalStateException", name := "<init>", desc := "()V" } : Jvm.MethodName)) ∈ lw_all := lw_g (lw_at lw_m6 156 rfl) rfl
theorem q1500 : (Jvm.Cond.instanceMethod ({ cls := "BatchRenamer", name := "truncate", desc := "(I)V" } : Jvm.MethodName)) ∈ lw_all := lw_g (lw_at lw_m6 171 rfl) rfl
theorem q1501 : (Jvm.Cond.selects "BatchRenamer" ({ cls := "BatchRenamer", name := "truncate", desc := "(I)V" } : Jvm.MethodName) ({ cls := "BatchRenamer", name := "truncate", desc := "(I)V" } : Jvm.MethodName)) ∈ lw_all := lw_g (lw_at lw_m6 172 rfl) rfl
theorem q1502 : (Jvm.Cond.code ({ cls := "BatchRenamer", name := "truncate", desc := "(I)V" } : Jvm.MethodName) prog_1_method_11_code (2 : Nat) (Option.none : Option Jvm.ClassFile.FieldType)) ∈ lw_all := lw_g (lw_at lw_m6 173 rfl) rfl
theorem q1503 : (Jvm.Cond.methodLink "BatchRenamer" (10 : Nat) ({ cls := "BatchRenamer", name := "in", desc := "(JJJ)Z" } : Jvm.MethodName)) ∈ lw_all := lw_g (lw_at lw_m6 174 rfl) rfl
theorem q1504 : (Jvm.Cond.static ({ cls := "BatchRenamer", name := "in", desc := "(JJJ)Z" } : Jvm.MethodName)) ∈ lw_all := lw_g (lw_at lw_m6 175 rfl) rfl
theorem q1505 : (Jvm.Cond.code ({ cls := "BatchRenamer", name := "in", desc := "(JJJ)Z" } : Jvm.MethodName) prog_1_method_1_code (6 : Nat) (Option.some Jvm.ClassFile.FieldType.boolean)) ∈ lw_all := lw_g (lw_at lw_m6 176 rfl) rfl
theorem q1506 : (Jvm.Cond.methodLink "BatchRenamer" (85 : Nat) ({ cls := "BatchRenamer", name := "requireArgument", desc := "(Z)V" } : Jvm.MethodName)) ∈ lw_all := lw_g (lw_at lw_m6 177 rfl) rfl
theorem q1507 : (Jvm.Cond.static ({ cls := "BatchRenamer", name := "requireArgument", desc := "(Z)V" } : Jvm.MethodName)) ∈ lw_all := lw_g (lw_at lw_m6 178 rfl) rfl
theorem q1508 : (Jvm.Cond.code ({ cls := "BatchRenamer", name := "requireArgument", desc := "(Z)V" } : Jvm.MethodName) prog_1_method_2_code (1 : Nat) (Option.none : Option Jvm.ClassFile.FieldType)) ∈ lw_all := lw_g (lw_at lw_m6 179 rfl) rfl
theorem q1509 : (Jvm.Cond.classLink "BatchRenamer" (1 : Nat) "java/lang/IllegalArgumentException") ∈ lw_all := lw_g (lw_at lw_m6 180 rfl) rfl
theorem q1510 : (Jvm.Cond.methodLink "BatchRenamer" (3 : Nat) ({ cls := "java/lang/IllegalArgumentException", name := "<init>", desc := "()V" } : Jvm.MethodName)) ∈ lw_all := lw_g (lw_at lw_m6 181 rfl) rfl
theorem q1518 : (Jvm.Cond.instanceMethod ({ cls := "BatchRenamer", name := "load", desc := "()I" } : Jvm.MethodName)) ∈ lw_all := lw_g (lw_at lw_m6 189 rfl) rfl
theorem q1519 : (Jvm.Cond.selects "BatchRenamer" ({ cls := "BatchRenamer", name := "load", desc := "()I" } : Jvm.MethodName) ({ cls := "BatchRenamer", name := "load", desc := "()I" } : Jvm.MethodName)) ∈ lw_all := lw_g (lw_at lw_m6 190 rfl) rfl
theorem q1520 : (Jvm.Cond.codeWith ({ cls := "BatchRenamer", name := "load", desc := "()I" } : Jvm.MethodName) prog_1_method_13_code (3 : Nat) (Option.some Jvm.ClassFile.FieldType.int) [((15 : Nat), (23 : Nat), (26 : Nat), (107 : Nat))]) ∈ lw_all := lw_g (lw_at lw_m6 191 rfl) rfl
theorem q1521 : (Jvm.Cond.classLink "BatchRenamer" (107 : Nat) "BatchRenamer$TextException") ∈ lw_all := lw_g (lw_at lw_m6 192 rfl) rfl
theorem q1522 : (Jvm.Cond.methodLink "BatchRenamer" (99 : Nat) ({ cls := "BatchRenamer", name := "parser", desc := "()LBatchRenamer$Parser;" } : Jvm.MethodName)) ∈ lw_all := lw_g (lw_at lw_m6 193 rfl) rfl
theorem q1523 : (Jvm.Cond.privateMethod ({ cls := "BatchRenamer", name := "parser", desc := "()LBatchRenamer$Parser;" } : Jvm.MethodName)) ∈ lw_tbl := lw_at lw_m6 194 rfl
theorem q1524 : (Jvm.Cond.instanceMethod ({ cls := "BatchRenamer", name := "parser", desc := "()LBatchRenamer$Parser;" } : Jvm.MethodName)) ∈ lw_all := lw_g (lw_at lw_m6 195 rfl) rfl
theorem q1525 : (Jvm.Cond.code ({ cls := "BatchRenamer", name := "parser", desc := "()LBatchRenamer$Parser;" } : Jvm.MethodName) prog_1_method_12_code (2 : Nat) (Option.some (Jvm.ClassFile.FieldType.object "BatchRenamer$Parser"))) ∈ lw_all := lw_g (lw_at lw_m6 196 rfl) rfl
theorem q1526 : (Jvm.Cond.methodLink "BatchRenamer" (88 : Nat) ({ cls := "java/lang/System", name := "arraycopy", desc := "(Ljava/lang/Object;ILjava/lang/Object;II)V" } : Jvm.MethodName)) ∈ lw_all := lw_g (lw_at lw_m6 197 rfl) rfl
theorem q1527 : (Jvm.Cond.classLink "BatchRenamer" (94 : Nat) "BatchRenamer$Parser") ∈ lw_all := lw_g (lw_at lw_m6 198 rfl) rfl
theorem q1529 : (Jvm.Cond.methodLink "BatchRenamer" (96 : Nat) ({ cls := "BatchRenamer$Parser", name := "<init>", desc := "([B)V" } : Jvm.MethodName)) ∈ lw_all := lw_g (lw_at lw_m6 200 rfl) rfl
theorem q1555 : (Jvm.Cond.methodLink "BatchRenamer" (103 : Nat) ({ cls := "BatchRenamer$Parser", name := "parse", desc := "()LBatchRenamer$Board;" } : Jvm.MethodName)) ∈ lw_all := lw_g (lw_at lw_m6 226 rfl) rfl
theorem q1572 : (Jvm.Cond.static ({ cls := "BatchRenamer", name := "isPlain", desc := "(C)Z" } : Jvm.MethodName)) ∈ lw_all := lw_g (lw_at lw_m7 3 rfl) rfl
theorem q1573 : (Jvm.Cond.code ({ cls := "BatchRenamer", name := "isPlain", desc := "(C)Z" } : Jvm.MethodName) prog_1_method_5_code (1 : Nat) (Option.some Jvm.ClassFile.FieldType.boolean)) ∈ lw_all := lw_g (lw_at lw_m7 4 rfl) rfl
theorem q1574 : (Jvm.Cond.constantLong "BatchRenamer" (19 : Nat) (97 : Int64)) ∈ lw_all := lw_g (lw_at lw_m7 5 rfl) rfl
theorem q1575 : (Jvm.Cond.constantLong "BatchRenamer" (21 : Nat) (122 : Int64)) ∈ lw_all := lw_g (lw_at lw_m7 6 rfl) rfl
theorem q1576 : (Jvm.Cond.constantLong "BatchRenamer" (23 : Nat) (48 : Int64)) ∈ lw_all := lw_g (lw_at lw_m7 7 rfl) rfl
theorem q1577 : (Jvm.Cond.constantLong "BatchRenamer" (25 : Nat) (57 : Int64)) ∈ lw_all := lw_g (lw_at lw_m7 8 rfl) rfl
theorem q1684 : (Jvm.Cond.fieldLinkNest "BatchRenamer" (109 : Nat) "BatchRenamer$TextException" "offset" "I" "BatchRenamer") ∈ lw_tbl := lw_at lw_m7 115 rfl
theorem q1690 : (Jvm.Cond.static ({ cls := "BatchRenamer", name := "isName", desc := "(Ljava/lang/String;I)Z" } : Jvm.MethodName)) ∈ lw_all := lw_g (lw_at lw_m7 121 rfl) rfl
theorem q1691 : (Jvm.Cond.code ({ cls := "BatchRenamer", name := "isName", desc := "(Ljava/lang/String;I)Z" } : Jvm.MethodName) prog_1_method_6_code (4 : Nat) (Option.some Jvm.ClassFile.FieldType.boolean)) ∈ lw_all := lw_g (lw_at lw_m7 122 rfl) rfl
theorem q1692 : (Jvm.Cond.methodLink "BatchRenamer" (33 : Nat) ({ cls := "java/lang/String", name := "charAt", desc := "(I)C" } : Jvm.MethodName)) ∈ lw_all := lw_g (lw_at lw_m7 123 rfl) rfl
theorem q1693 : (Jvm.Cond.methodLink "BatchRenamer" (37 : Nat) ({ cls := "BatchRenamer", name := "isPlain", desc := "(C)Z" } : Jvm.MethodName)) ∈ lw_all := lw_g (lw_at lw_m7 124 rfl) rfl
theorem q1723 : (Jvm.Cond.fieldLinkNest "BatchRenamer" (197 : Nat) "BatchRenamer$Rule" "wildcards" "I" "BatchRenamer") ∈ lw_tbl := lw_at lw_m7 154 rfl
theorem q1776 : (Jvm.Cond.methodLink "BatchRenamer" (112 : Nat) ({ cls := "BatchRenamer$Journal", name := "clear", desc := "()V" } : Jvm.MethodName)) ∈ lw_all := lw_g (lw_at lw_m7 207 rfl) rfl
theorem q1784 : (Jvm.Cond.instanceMethod ({ cls := "BatchRenamer", name := "isKept", desc := "(I)Z" } : Jvm.MethodName)) ∈ lw_all := lw_g (lw_at lw_m7 215 rfl) rfl
theorem q1785 : (Jvm.Cond.selects "BatchRenamer" ({ cls := "BatchRenamer", name := "isKept", desc := "(I)Z" } : Jvm.MethodName) ({ cls := "BatchRenamer", name := "isKept", desc := "(I)Z" } : Jvm.MethodName)) ∈ lw_all := lw_g (lw_at lw_m7 216 rfl) rfl
theorem q1786 : (Jvm.Cond.code ({ cls := "BatchRenamer", name := "isKept", desc := "(I)Z" } : Jvm.MethodName) prog_1_method_21_code (2 : Nat) (Option.some Jvm.ClassFile.FieldType.boolean)) ∈ lw_all := lw_g (lw_at lw_m7 217 rfl) rfl
theorem q1787 : (Jvm.Cond.methodLink "BatchRenamer" (144 : Nat) ({ cls := "BatchRenamer", name := "file", desc := "(I)LBatchRenamer$Entry;" } : Jvm.MethodName)) ∈ lw_all := lw_g (lw_at lw_m7 218 rfl) rfl
theorem q1788 : (Jvm.Cond.privateMethod ({ cls := "BatchRenamer", name := "file", desc := "(I)LBatchRenamer$Entry;" } : Jvm.MethodName)) ∈ lw_tbl := lw_at lw_m7 219 rfl
theorem q1789 : (Jvm.Cond.instanceMethod ({ cls := "BatchRenamer", name := "file", desc := "(I)LBatchRenamer$Entry;" } : Jvm.MethodName)) ∈ lw_all := lw_g (lw_at lw_m7 220 rfl) rfl
theorem q1790 : (Jvm.Cond.code ({ cls := "BatchRenamer", name := "file", desc := "(I)LBatchRenamer$Entry;" } : Jvm.MethodName) prog_1_method_15_code (2 : Nat) (Option.some (Jvm.ClassFile.FieldType.object "BatchRenamer$Entry"))) ∈ lw_all := lw_g (lw_at lw_m7 221 rfl) rfl
theorem q1791 : (Jvm.Cond.methodLink "BatchRenamer" (124 : Nat) ({ cls := "BatchRenamer", name := "requireIndex", desc := "(II)V" } : Jvm.MethodName)) ∈ lw_all := lw_g (lw_at lw_m7 222 rfl) rfl
theorem q1792 : (Jvm.Cond.static ({ cls := "BatchRenamer", name := "requireIndex", desc := "(II)V" } : Jvm.MethodName)) ∈ lw_all := lw_g (lw_at lw_m7 223 rfl) rfl
theorem q1793 : (Jvm.Cond.code ({ cls := "BatchRenamer", name := "requireIndex", desc := "(II)V" } : Jvm.MethodName) prog_1_method_4_code (2 : Nat) (Option.none : Option Jvm.ClassFile.FieldType)) ∈ lw_all := lw_g (lw_at lw_m7 224 rfl) rfl
theorem q1794 : (Jvm.Cond.classLink "BatchRenamer" (16 : Nat) "java/lang/IndexOutOfBoundsException") ∈ lw_all := lw_g (lw_at lw_m7 225 rfl) rfl
theorem q1803 : (Jvm.Cond.methodLink "BatchRenamer" (18 : Nat) ({ cls := "java/lang/IndexOutOfBoundsException", name := "<init>", desc := "()V" } : Jvm.MethodName)) ∈ lw_all := lw_g (lw_at lw_m7 234 rfl) rfl
theorem q1809 : (Jvm.Cond.methodLink "BatchRenamer" (128 : Nat) ({ cls := "java/util/ArrayList", name := "get", desc := "(I)Ljava/lang/Object;" } : Jvm.MethodName)) ∈ lw_all := lw_g (lw_at lw_m8 0 rfl) rfl
theorem q1814 : (Jvm.Cond.instanceMethod ({ cls := "BatchRenamer", name := "length", desc := "(I)I" } : Jvm.MethodName)) ∈ lw_all := lw_g (lw_at lw_m8 5 rfl) rfl
theorem q1815 : (Jvm.Cond.selects "BatchRenamer" ({ cls := "BatchRenamer", name := "length", desc := "(I)I" } : Jvm.MethodName) ({ cls := "BatchRenamer", name := "length", desc := "(I)I" } : Jvm.MethodName)) ∈ lw_all := lw_g (lw_at lw_m8 6 rfl) rfl
theorem q1816 : (Jvm.Cond.code ({ cls := "BatchRenamer", name := "length", desc := "(I)I" } : Jvm.MethodName) prog_1_method_22_code (2 : Nat) (Option.some Jvm.ClassFile.FieldType.int)) ∈ lw_all := lw_g (lw_at lw_m8 7 rfl) rfl
theorem q1821 : (Jvm.Cond.instanceMethod ({ cls := "BatchRenamer", name := "rank", desc := "(I)I" } : Jvm.MethodName)) ∈ lw_all := lw_g (lw_at lw_m8 12 rfl) rfl
theorem q1822 : (Jvm.Cond.selects "BatchRenamer" ({ cls := "BatchRenamer", name := "rank", desc := "(I)I" } : Jvm.MethodName) ({ cls := "BatchRenamer", name := "rank", desc := "(I)I" } : Jvm.MethodName)) ∈ lw_all := lw_g (lw_at lw_m8 13 rfl) rfl
theorem q1823 : (Jvm.Cond.code ({ cls := "BatchRenamer", name := "rank", desc := "(I)I" } : Jvm.MethodName) prog_1_method_25_code (3 : Nat) (Option.some Jvm.ClassFile.FieldType.int)) ∈ lw_all := lw_g (lw_at lw_m8 14 rfl) rfl
theorem q1824 : (Jvm.Cond.privateMethod ({ cls := "BatchRenamer", name := "lambda$rank$0", desc := "(Ljava/lang/String;I)Z" } : Jvm.MethodName)) ∈ lw_tbl := lw_at lw_m8 15 rfl
theorem q1825 : (Jvm.Cond.instanceMethod ({ cls := "BatchRenamer", name := "lambda$rank$0", desc := "(Ljava/lang/String;I)Z" } : Jvm.MethodName)) ∈ lw_all := lw_g (lw_at lw_m8 16 rfl) rfl
theorem q1826 : (Jvm.Cond.code ({ cls := "BatchRenamer", name := "lambda$rank$0", desc := "(Ljava/lang/String;I)Z" } : Jvm.MethodName) prog_1_method_76_code (3 : Nat) (Option.some Jvm.ClassFile.FieldType.boolean)) ∈ lw_all := lw_g (lw_at lw_m8 17 rfl) rfl
theorem q1827 : (Jvm.Cond.methodLink "BatchRenamer" (413 : Nat) ({ cls := "BatchRenamer", name := "isBefore", desc := "(Ljava/lang/String;Ljava/lang/String;)Z" } : Jvm.MethodName)) ∈ lw_all := lw_g (lw_at lw_m8 18 rfl) rfl
theorem q1828 : (Jvm.Cond.static ({ cls := "BatchRenamer", name := "isBefore", desc := "(Ljava/lang/String;Ljava/lang/String;)Z" } : Jvm.MethodName)) ∈ lw_all := lw_g (lw_at lw_m8 19 rfl) rfl
theorem q1829 : (Jvm.Cond.code ({ cls := "BatchRenamer", name := "isBefore", desc := "(Ljava/lang/String;Ljava/lang/String;)Z" } : Jvm.MethodName) prog_1_method_7_code (3 : Nat) (Option.some Jvm.ClassFile.FieldType.boolean)) ∈ lw_all := lw_g (lw_at lw_m8 20 rfl) rfl
theorem q1830 : (Jvm.Cond.methodLink "BatchRenamer" (179 : Nat) ({ cls := "java/lang/Integer", name := "bitCount", desc := "(I)I" } : Jvm.MethodName)) ∈ lw_all := lw_g (lw_at lw_m8 21 rfl) rfl
theorem q1840 : (Jvm.Cond.instanceMethod ({ cls := "BatchRenamer", name := "counting", desc := "(I)I" } : Jvm.MethodName)) ∈ lw_all := lw_g (lw_at lw_m8 31 rfl) rfl
theorem q1841 : (Jvm.Cond.selects "BatchRenamer" ({ cls := "BatchRenamer", name := "counting", desc := "(I)I" } : Jvm.MethodName) ({ cls := "BatchRenamer", name := "counting", desc := "(I)I" } : Jvm.MethodName)) ∈ lw_all := lw_g (lw_at lw_m8 32 rfl) rfl
theorem q1842 : (Jvm.Cond.code ({ cls := "BatchRenamer", name := "counting", desc := "(I)I" } : Jvm.MethodName) prog_1_method_26_code (2 : Nat) (Option.some Jvm.ClassFile.FieldType.int)) ∈ lw_all := lw_g (lw_at lw_m8 33 rfl) rfl
theorem q1843 : (Jvm.Cond.constantLong "BatchRenamer" (182 : Nat) (2 : Int64)) ∈ lw_all := lw_g (lw_at lw_m8 34 rfl) rfl
theorem q1848 : (Jvm.Cond.instanceMethod ({ cls := "BatchRenamer", name := "wildcards", desc := "(I)I" } : Jvm.MethodName)) ∈ lw_all := lw_g (lw_at lw_m8 39 rfl) rfl
theorem q1849 : (Jvm.Cond.selects "BatchRenamer" ({ cls := "BatchRenamer", name := "wildcards", desc := "(I)I" } : Jvm.MethodName) ({ cls := "BatchRenamer", name := "wildcards", desc := "(I)I" } : Jvm.MethodName)) ∈ lw_all := lw_g (lw_at lw_m8 40 rfl) rfl
theorem q1850 : (Jvm.Cond.code ({ cls := "BatchRenamer", name := "wildcards", desc := "(I)I" } : Jvm.MethodName) prog_1_method_27_code (2 : Nat) (Option.some Jvm.ClassFile.FieldType.int)) ∈ lw_all := lw_g (lw_at lw_m8 41 rfl) rfl
theorem q1851 : (Jvm.Cond.methodLink "BatchRenamer" (193 : Nat) ({ cls := "BatchRenamer", name := "rule", desc := "(I)LBatchRenamer$Rule;" } : Jvm.MethodName)) ∈ lw_all := lw_g (lw_at lw_m8 42 rfl) rfl
theorem q1852 : (Jvm.Cond.privateMethod ({ cls := "BatchRenamer", name := "rule", desc := "(I)LBatchRenamer$Rule;" } : Jvm.MethodName)) ∈ lw_tbl := lw_at lw_m8 43 rfl
theorem q1853 : (Jvm.Cond.instanceMethod ({ cls := "BatchRenamer", name := "rule", desc := "(I)LBatchRenamer$Rule;" } : Jvm.MethodName)) ∈ lw_all := lw_g (lw_at lw_m8 44 rfl) rfl
theorem q1854 : (Jvm.Cond.code ({ cls := "BatchRenamer", name := "rule", desc := "(I)LBatchRenamer$Rule;" } : Jvm.MethodName) prog_1_method_16_code (2 : Nat) (Option.some (Jvm.ClassFile.FieldType.object "BatchRenamer$Rule"))) ∈ lw_all := lw_g (lw_at lw_m8 45 rfl) rfl
theorem q1855 : (Jvm.Cond.classLink "BatchRenamer" (137 : Nat) "BatchRenamer$Rule") ∈ lw_all := lw_g (lw_at lw_m8 46 rfl) rfl
theorem q1860 : (Jvm.Cond.instanceMethod ({ cls := "BatchRenamer", name := "matches", desc := "(II)Z" } : Jvm.MethodName)) ∈ lw_all := lw_g (lw_at lw_m8 51 rfl) rfl
theorem q1861 : (Jvm.Cond.selects "BatchRenamer" ({ cls := "BatchRenamer", name := "matches", desc := "(II)Z" } : Jvm.MethodName) ({ cls := "BatchRenamer", name := "matches", desc := "(II)Z" } : Jvm.MethodName)) ∈ lw_all := lw_g (lw_at lw_m8 52 rfl) rfl
theorem q1862 : (Jvm.Cond.code ({ cls := "BatchRenamer", name := "matches", desc := "(II)Z" } : Jvm.MethodName) prog_1_method_28_code (5 : Nat) (Option.some Jvm.ClassFile.FieldType.boolean)) ∈ lw_all := lw_g (lw_at lw_m8 53 rfl) rfl
theorem q1863 : (Jvm.Cond.methodLink "BatchRenamer" (200 : Nat) ({ cls := "BatchRenamer$Board", name := "reads", desc := "(II)Z" } : Jvm.MethodName)) ∈ lw_all := lw_g (lw_at lw_m8 54 rfl) rfl
theorem q1868 : (Jvm.Cond.instanceMethod ({ cls := "BatchRenamer", name := "capture", desc := "(IIII)I" } : Jvm.MethodName)) ∈ lw_all := lw_g (lw_at lw_m8 59 rfl) rfl
theorem q1869 : (Jvm.Cond.selects "BatchRenamer" ({ cls := "BatchRenamer", name := "capture", desc := "(IIII)I" } : Jvm.MethodName) ({ cls := "BatchRenamer", name := "capture", desc := "(IIII)I" } : Jvm.MethodName)) ∈ lw_all := lw_g (lw_at lw_m8 60 rfl) rfl
theorem q1870 : (Jvm.Cond.code ({ cls := "BatchRenamer", name := "capture", desc := "(IIII)I" } : Jvm.MethodName) prog_1_method_29_code (7 : Nat) (Option.some Jvm.ClassFile.FieldType.int)) ∈ lw_all := lw_g (lw_at lw_m8 61 rfl) rfl
theorem q1875 : (Jvm.Cond.instanceMethod ({ cls := "BatchRenamer", name := "ruleOf", desc := "(I)I" } : Jvm.MethodName)) ∈ lw_all := lw_g (lw_at lw_m8 66 rfl) rfl
theorem q1876 : (Jvm.Cond.selects "BatchRenamer" ({ cls := "BatchRenamer", name := "ruleOf", desc := "(I)I" } : Jvm.MethodName) ({ cls := "BatchRenamer", name := "ruleOf", desc := "(I)I" } : Jvm.MethodName)) ∈ lw_all := lw_g (lw_at lw_m8 67 rfl) rfl
theorem q1877 : (Jvm.Cond.code ({ cls := "BatchRenamer", name := "ruleOf", desc := "(I)I" } : Jvm.MethodName) prog_1_method_30_code (3 : Nat) (Option.some Jvm.ClassFile.FieldType.int)) ∈ lw_all := lw_g (lw_at lw_m8 68 rfl) rfl
theorem q1878 : (Jvm.Cond.methodLink "BatchRenamer" (217 : Nat) ({ cls := "BatchRenamer$Board", name := "ruleOf", desc := "(I)I" } : Jvm.MethodName)) ∈ lw_all := lw_g (lw_at lw_m8 69 rfl) rfl
theorem q1883 : (Jvm.Cond.instanceMethod ({ cls := "BatchRenamer", name := "filesOf", desc := "(I)I" } : Jvm.MethodName)) ∈ lw_all := lw_g (lw_at lw_m8 74 rfl) rfl
theorem q1884 : (Jvm.Cond.selects "BatchRenamer" ({ cls := "BatchRenamer", name := "filesOf", desc := "(I)I" } : Jvm.MethodName) ({ cls := "BatchRenamer", name := "filesOf", desc := "(I)I" } : Jvm.MethodName)) ∈ lw_all := lw_g (lw_at lw_m8 75 rfl) rfl
theorem q1885 : (Jvm.Cond.code ({ cls := "BatchRenamer", name := "filesOf", desc := "(I)I" } : Jvm.MethodName) prog_1_method_31_code (3 : Nat) (Option.some Jvm.ClassFile.FieldType.int)) ∈ lw_all := lw_g (lw_at lw_m8 76 rfl) rfl
theorem q1886 : (Jvm.Cond.privateMethod ({ cls := "BatchRenamer", name := "lambda$filesOf$1", desc := "(II)Z" } : Jvm.MethodName)) ∈ lw_tbl := lw_at lw_m8 77 rfl
theorem q1887 : (Jvm.Cond.instanceMethod ({ cls := "BatchRenamer", name := "lambda$filesOf$1", desc := "(II)Z" } : Jvm.MethodName)) ∈ lw_all := lw_g (lw_at lw_m8 78 rfl) rfl
theorem q1888 : (Jvm.Cond.code ({ cls := "BatchRenamer", name := "lambda$filesOf$1", desc := "(II)Z" } : Jvm.MethodName) prog_1_method_75_code (3 : Nat) (Option.some Jvm.ClassFile.FieldType.boolean)) ∈ lw_all := lw_g (lw_at lw_m8 79 rfl) rfl
theorem q1893 : (Jvm.Cond.instanceMethod ({ cls := "BatchRenamer", name := "groups", desc := "(I)I" } : Jvm.MethodName)) ∈ lw_all := lw_g (lw_at lw_m8 84 rfl) rfl
theorem q1894 : (Jvm.Cond.selects "BatchRenamer" ({ cls := "BatchRenamer", name := "groups", desc := "(I)I" } : Jvm.MethodName) ({ cls := "BatchRenamer", name := "groups", desc := "(I)I" } : Jvm.MethodName)) ∈ lw_all := lw_g (lw_at lw_m8 85 rfl) rfl
theorem q1895 : (Jvm.Cond.code ({ cls := "BatchRenamer", name := "groups", desc := "(I)I" } : Jvm.MethodName) prog_1_method_32_code (3 : Nat) (Option.some Jvm.ClassFile.FieldType.int)) ∈ lw_all := lw_g (lw_at lw_m8 86 rfl) rfl
theorem q1900 : (Jvm.Cond.instanceMethod ({ cls := "BatchRenamer", name := "counter", desc := "(I)I" } : Jvm.MethodName)) ∈ lw_all := lw_g (lw_at lw_m8 91 rfl) rfl
theorem q1901 : (Jvm.Cond.selects "BatchRenamer" ({ cls := "BatchRenamer", name := "counter", desc := "(I)I" } : Jvm.MethodName) ({ cls := "BatchRenamer", name := "counter", desc := "(I)I" } : Jvm.MethodName)) ∈ lw_all := lw_g (lw_at lw_m8 92 rfl) rfl
theorem q1902 : (Jvm.Cond.code ({ cls := "BatchRenamer", name := "counter", desc := "(I)I" } : Jvm.MethodName) prog_1_method_33_code (3 : Nat) (Option.some Jvm.ClassFile.FieldType.int)) ∈ lw_all := lw_g (lw_at lw_m8 93 rfl) rfl
theorem q1903 : (Jvm.Cond.methodLink "BatchRenamer" (226 : Nat) ({ cls := "BatchRenamer", name := "outlookFor", desc := "(I)LBatchRenamer$Outlook;" } : Jvm.MethodName)) ∈ lw_all := lw_g (lw_at lw_m8 94 rfl) rfl
theorem q1904 : (Jvm.Cond.privateMethod ({ cls := "BatchRenamer", name := "outlookFor", desc := "(I)LBatchRenamer$Outlook;" } : Jvm.MethodName)) ∈ lw_tbl := lw_at lw_m8 95 rfl
theorem q1905 : (Jvm.Cond.instanceMethod ({ cls := "BatchRenamer", name := "outlookFor", desc := "(I)LBatchRenamer$Outlook;" } : Jvm.MethodName)) ∈ lw_all := lw_g (lw_at lw_m8 96 rfl) rfl
theorem q1906 : (Jvm.Cond.code ({ cls := "BatchRenamer", name := "outlookFor", desc := "(I)LBatchRenamer$Outlook;" } : Jvm.MethodName) prog_1_method_18_code (3 : Nat) (Option.some (Jvm.ClassFile.FieldType.object "BatchRenamer$Outlook"))) ∈ lw_all := lw_g (lw_at lw_m8 97 rfl) rfl
theorem q1911 : (Jvm.Cond.instanceMethod ({ cls := "BatchRenamer", name := "status", desc := "(I)I" } : Jvm.MethodName)) ∈ lw_all := lw_g (lw_at lw_m8 102 rfl) rfl
theorem q1912 : (Jvm.Cond.selects "BatchRenamer" ({ cls := "BatchRenamer", name := "status", desc := "(I)I" } : Jvm.MethodName) ({ cls := "BatchRenamer", name := "status", desc := "(I)I" } : Jvm.MethodName)) ∈ lw_all := lw_g (lw_at lw_m8 103 rfl) rfl
theorem q1913 : (Jvm.Cond.code ({ cls := "BatchRenamer", name := "status", desc := "(I)I" } : Jvm.MethodName) prog_1_method_34_code (2 : Nat) (Option.some Jvm.ClassFile.FieldType.int)) ∈ lw_all := lw_g (lw_at lw_m8 104 rfl) rfl
theorem q1918 : (Jvm.Cond.instanceMethod ({ cls := "BatchRenamer", name := "newLength", desc := "(I)I" } : Jvm.MethodName)) ∈ lw_all := lw_g (lw_at lw_m8 109 rfl) rfl
theorem q1919 : (Jvm.Cond.selects "BatchRenamer" ({ cls := "BatchRenamer", name := "newLength", desc := "(I)I" } : Jvm.MethodName) ({ cls := "BatchRenamer", name := "newLength", desc := "(I)I" } : Jvm.MethodName)) ∈ lw_all := lw_g (lw_at lw_m8 110 rfl) rfl
theorem q1920 : (Jvm.Cond.code ({ cls := "BatchRenamer", name := "newLength", desc := "(I)I" } : Jvm.MethodName) prog_1_method_35_code (3 : Nat) (Option.some Jvm.ClassFile.FieldType.int)) ∈ lw_all := lw_g (lw_at lw_m8 111 rfl) rfl
theorem q1925 : (Jvm.Cond.instanceMethod ({ cls := "BatchRenamer", name := "owner", desc := "(I)I" } : Jvm.MethodName)) ∈ lw_all := lw_g (lw_at lw_m8 116 rfl) rfl
theorem q1926 : (Jvm.Cond.selects "BatchRenamer" ({ cls := "BatchRenamer", name := "owner", desc := "(I)I" } : Jvm.MethodName) ({ cls := "BatchRenamer", name := "owner", desc := "(I)I" } : Jvm.MethodName)) ∈ lw_all := lw_g (lw_at lw_m8 117 rfl) rfl
theorem q1927 : (Jvm.Cond.code ({ cls := "BatchRenamer", name := "owner", desc := "(I)I" } : Jvm.MethodName) prog_1_method_37_code (3 : Nat) (Option.some Jvm.ClassFile.FieldType.int)) ∈ lw_all := lw_g (lw_at lw_m8 118 rfl) rfl
theorem q1928 : (Jvm.Cond.privateMethod ({ cls := "BatchRenamer", name := "lambda$owner$3", desc := "(ILBatchRenamer$Outlook;I)Z" } : Jvm.MethodName)) ∈ lw_tbl := lw_at lw_m8 119 rfl
theorem q1929 : (Jvm.Cond.instanceMethod ({ cls := "BatchRenamer", name := "lambda$owner$3", desc := "(ILBatchRenamer$Outlook;I)Z" } : Jvm.MethodName)) ∈ lw_all := lw_g (lw_at lw_m8 120 rfl) rfl
theorem q1930 : (Jvm.Cond.code ({ cls := "BatchRenamer", name := "lambda$owner$3", desc := "(ILBatchRenamer$Outlook;I)Z" } : Jvm.MethodName) prog_1_method_73_code (4 : Nat) (Option.some Jvm.ClassFile.FieldType.boolean)) ∈ lw_all := lw_g (lw_at lw_m8 121 rfl) rfl
theorem q1931 : (Jvm.Cond.methodLink "BatchRenamer" (347 : Nat) ({ cls := "java/lang/String", name := "equals", desc := "(Ljava/lang/Object;)Z" } : Jvm.MethodName)) ∈ lw_all := lw_g (lw_at lw_m8 122 rfl) rfl
theorem q1932 : (Jvm.Cond.methodLink "BatchRenamer" (248 : Nat) ({ cls := "BatchRenamer", name := "lowest", desc := "(I)I" } : Jvm.MethodName)) ∈ lw_all := lw_g (lw_at lw_m8 123 rfl) rfl
theorem q1933 : (Jvm.Cond.static ({ cls := "BatchRenamer", name := "lowest", desc := "(I)I" } : Jvm.MethodName)) ∈ lw_all := lw_g (lw_at lw_m8 124 rfl) rfl
theorem q1934 : (Jvm.Cond.code ({ cls := "BatchRenamer", name := "lowest", desc := "(I)I" } : Jvm.MethodName) prog_1_method_24_code (1 : Nat) (Option.some Jvm.ClassFile.FieldType.int)) ∈ lw_all := lw_g (lw_at lw_m8 125 rfl) rfl
theorem q1935 : (Jvm.Cond.methodLink "BatchRenamer" (166 : Nat) ({ cls := "java/lang/Integer", name := "numberOfTrailingZeros", desc := "(I)I" } : Jvm.MethodName)) ∈ lw_all := lw_g (lw_at lw_m8 126 rfl) rfl
theorem q1943 : (Jvm.Cond.instanceMethod ({ cls := "BatchRenamer", name := "rival", desc := "(I)I" } : Jvm.MethodName)) ∈ lw_all := lw_g (lw_at lw_m8 134 rfl) rfl
theorem q1944 : (Jvm.Cond.selects "BatchRenamer" ({ cls := "BatchRenamer", name := "rival", desc := "(I)I" } : Jvm.MethodName) ({ cls := "BatchRenamer", name := "rival", desc := "(I)I" } : Jvm.MethodName)) ∈ lw_all := lw_g (lw_at lw_m8 135 rfl) rfl
theorem q1945 : (Jvm.Cond.code ({ cls := "BatchRenamer", name := "rival", desc := "(I)I" } : Jvm.MethodName) prog_1_method_38_code (3 : Nat) (Option.some Jvm.ClassFile.FieldType.int)) ∈ lw_all := lw_g (lw_at lw_m8 136 rfl) rfl
theorem q1946 : (Jvm.Cond.static ({ cls := "BatchRenamer", name := "lambda$rival$4", desc := "(ILBatchRenamer$Outlook;I)Z" } : Jvm.MethodName)) ∈ lw_all := lw_g (lw_at lw_m8 137 rfl) rfl
theorem q1947 : (Jvm.Cond.code ({ cls := "BatchRenamer", name := "lambda$rival$4", desc := "(ILBatchRenamer$Outlook;I)Z" } : Jvm.MethodName) prog_1_method_72_code (3 : Nat) (Option.some Jvm.ClassFile.FieldType.boolean)) ∈ lw_all := lw_g (lw_at lw_m8 138 rfl) rfl
theorem q1952 : (Jvm.Cond.instanceMethod ({ cls := "BatchRenamer", name := "step", desc := "(II)I" } : Jvm.MethodName)) ∈ lw_all := lw_g (lw_at lw_m8 143 rfl) rfl
theorem q1953 : (Jvm.Cond.selects "BatchRenamer" ({ cls := "BatchRenamer", name := "step", desc := "(II)I" } : Jvm.MethodName) ({ cls := "BatchRenamer", name := "step", desc := "(II)I" } : Jvm.MethodName)) ∈ lw_all := lw_g (lw_at lw_m8 144 rfl) rfl
theorem q1954 : (Jvm.Cond.code ({ cls := "BatchRenamer", name := "step", desc := "(II)I" } : Jvm.MethodName) prog_1_method_43_code (4 : Nat) (Option.some Jvm.ClassFile.FieldType.int)) ∈ lw_all := lw_g (lw_at lw_m8 145 rfl) rfl
theorem q1955 : (Jvm.Cond.methodLink "BatchRenamer" (269 : Nat) ({ cls := "BatchRenamer", name := "move", desc := "(I)LBatchRenamer$Move;" } : Jvm.MethodName)) ∈ lw_all := lw_g (lw_at lw_m8 146 rfl) rfl
theorem q1956 : (Jvm.Cond.privateMethod ({ cls := "BatchRenamer", name := "move", desc := "(I)LBatchRenamer$Move;" } : Jvm.MethodName)) ∈ lw_tbl := lw_at lw_m8 147 rfl
theorem q1957 : (Jvm.Cond.instanceMethod ({ cls := "BatchRenamer", name := "move", desc := "(I)LBatchRenamer$Move;" } : Jvm.MethodName)) ∈ lw_all := lw_g (lw_at lw_m8 148 rfl) rfl
theorem q1958 : (Jvm.Cond.code ({ cls := "BatchRenamer", name := "move", desc := "(I)LBatchRenamer$Move;" } : Jvm.MethodName) prog_1_method_41_code (3 : Nat) (Option.some (Jvm.ClassFile.FieldType.object "BatchRenamer$Move"))) ∈ lw_all := lw_g (lw_at lw_m8 149 rfl) rfl
theorem q1963 : (Jvm.Cond.instanceMethod ({ cls := "BatchRenamer", name := "renamedWithout", desc := "(I)I" } : Jvm.MethodName)) ∈ lw_all := lw_g (lw_at lw_m8 154 rfl) rfl
theorem q1964 : (Jvm.Cond.selects "BatchRenamer" ({ cls := "BatchRenamer", name := "renamedWithout", desc := "(I)I" } : Jvm.MethodName) ({ cls := "BatchRenamer", name := "renamedWithout", desc := "(I)I" } : Jvm.MethodName)) ∈ lw_all := lw_g (lw_at lw_m8 155 rfl) rfl
theorem q1965 : (Jvm.Cond.code ({ cls := "BatchRenamer", name := "renamedWithout", desc := "(I)I" } : Jvm.MethodName) prog_1_method_48_code (5 : Nat) (Option.some Jvm.ClassFile.FieldType.int)) ∈ lw_all := lw_g (lw_at lw_m8 156 rfl) rfl
theorem q1966 : (Jvm.Cond.methodLink "BatchRenamer" (312 : Nat) ({ cls := "BatchRenamer$Board", name := "copy", desc := "()LBatchRenamer$Board;" } : Jvm.MethodName)) ∈ lw_all := lw_g (lw_at lw_m8 157 rfl) rfl
theorem q1967 : (Jvm.Cond.methodLink "BatchRenamer" (315 : Nat) ({ cls := "java/util/ArrayList", name := "remove", desc := "(I)Ljava/lang/Object;" } : Jvm.MethodName)) ∈ lw_all := lw_g (lw_at lw_m8 158 rfl) rfl
theorem q1976 : (Jvm.Cond.methodLink "BatchRenamer" (318 : Nat) ({ cls := "BatchRenamer", name := "renamed", desc := "(LBatchRenamer$Board;)I" } : Jvm.MethodName)) ∈ lw_all := lw_g (lw_at lw_m8 167 rfl) rfl
theorem q1977 : (Jvm.Cond.static ({ cls := "BatchRenamer", name := "renamed", desc := "(LBatchRenamer$Board;)I" } : Jvm.MethodName)) ∈ lw_all := lw_g (lw_at lw_m8 168 rfl) rfl
theorem q1978 : (Jvm.Cond.code ({ cls := "BatchRenamer", name := "renamed", desc := "(LBatchRenamer$Board;)I" } : Jvm.MethodName) prog_1_method_47_code (1 : Nat) (Option.some Jvm.ClassFile.FieldType.int)) ∈ lw_all := lw_g (lw_at lw_m8 169 rfl) rfl
theorem q1979 : (Jvm.Cond.methodLink "BatchRenamer" (306 : Nat) ({ cls := "BatchRenamer$Outlook", name := "<init>", desc := "(LBatchRenamer$Board;I)V" } : Jvm.MethodName)) ∈ lw_all := lw_g (lw_at lw_m8 170 rfl) rfl
theorem q1980 : (Jvm.Cond.methodLink "BatchRenamer" (309 : Nat) ({ cls := "BatchRenamer$Outlook", name := "count", desc := "(I)I" } : Jvm.MethodName)) ∈ lw_all := lw_g (lw_at lw_m8 171 rfl) rfl
theorem q1988 : (Jvm.Cond.instanceMethod ({ cls := "BatchRenamer", name := "bestStart", desc := "(I)I" } : Jvm.MethodName)) ∈ lw_all := lw_g (lw_at lw_m8 179 rfl) rfl
theorem q1989 : (Jvm.Cond.selects "BatchRenamer" ({ cls := "BatchRenamer", name := "bestStart", desc := "(I)I" } : Jvm.MethodName) ({ cls := "BatchRenamer", name := "bestStart", desc := "(I)I" } : Jvm.MethodName)) ∈ lw_all := lw_g (lw_at lw_m8 180 rfl) rfl
theorem q1990 : (Jvm.Cond.code ({ cls := "BatchRenamer", name := "bestStart", desc := "(I)I" } : Jvm.MethodName) prog_1_method_49_code (7 : Nat) (Option.some Jvm.ClassFile.FieldType.int)) ∈ lw_all := lw_g (lw_at lw_m8 181 rfl) rfl
theorem q1991 : (Jvm.Cond.constantLong "BatchRenamer" (322 : Nat) (20 : Int64)) ∈ lw_all := lw_g (lw_at lw_m8 182 rfl) rfl
theorem q1996 : (Jvm.Cond.instanceMethod ({ cls := "BatchRenamer", name := "bestPlace", desc := "(I)I" } : Jvm.MethodName)) ∈ lw_all := lw_g (lw_at lw_m8 187 rfl) rfl
theorem q1997 : (Jvm.Cond.selects "BatchRenamer" ({ cls := "BatchRenamer", name := "bestPlace", desc := "(I)I" } : Jvm.MethodName) ({ cls := "BatchRenamer", name := "bestPlace", desc := "(I)I" } : Jvm.MethodName)) ∈ lw_all := lw_g (lw_at lw_m8 188 rfl) rfl
theorem q1998 : (Jvm.Cond.code ({ cls := "BatchRenamer", name := "bestPlace", desc := "(I)I" } : Jvm.MethodName) prog_1_method_50_code (8 : Nat) (Option.some Jvm.ClassFile.FieldType.int)) ∈ lw_all := lw_g (lw_at lw_m8 189 rfl) rfl
theorem q1999 : (Jvm.Cond.methodLink "BatchRenamer" (324 : Nat) ({ cls := "java/util/ArrayList", name := "add", desc := "(ILjava/lang/Object;)V" } : Jvm.MethodName)) ∈ lw_all := lw_g (lw_at lw_m8 190 rfl) rfl
theorem q2019 : (Jvm.Cond.instanceMethod ({ cls := "BatchRenamer", name := "takeBack", desc := "()I" } : Jvm.MethodName)) ∈ lw_all := lw_g (lw_at lw_m8 210 rfl) rfl
theorem q2020 : (Jvm.Cond.selects "BatchRenamer" ({ cls := "BatchRenamer", name := "takeBack", desc := "()I" } : Jvm.MethodName) ({ cls := "BatchRenamer", name := "takeBack", desc := "()I" } : Jvm.MethodName)) ∈ lw_all := lw_g (lw_at lw_m8 211 rfl) rfl
theorem q2021 : (Jvm.Cond.code ({ cls := "BatchRenamer", name := "takeBack", desc := "()I" } : Jvm.MethodName) prog_1_method_55_code (4 : Nat) (Option.some Jvm.ClassFile.FieldType.int)) ∈ lw_all := lw_g (lw_at lw_m8 212 rfl) rfl
theorem q2022 : (Jvm.Cond.methodLink "BatchRenamer" (357 : Nat) ({ cls := "BatchRenamer$Journal", name := "latest", desc := "()Ljava/lang/Object;" } : Jvm.MethodName)) ∈ lw_all := lw_g (lw_at lw_m8 213 rfl) rfl
theorem q2033 : (Jvm.Cond.classLink "BatchRenamer" (120 : Nat) "java/util/ArrayList") ∈ lw_all := lw_g (lw_at lw_m8 224 rfl) rfl
theorem q2034 : (Jvm.Cond.methodLink "BatchRenamer" (360 : Nat) ({ cls := "BatchRenamer", name := "goesBack", desc := "(LBatchRenamer$Board;Ljava/util/ArrayList;)Z" } : Jvm.MethodName)) ∈ lw_all := lw_g (lw_at lw_m8 225 rfl) rfl
theorem q2035 : (Jvm.Cond.static ({ cls := "BatchRenamer", name := "goesBack", desc := "(LBatchRenamer$Board;Ljava/util/ArrayList;)Z" } : Jvm.MethodName)) ∈ lw_all := lw_g (lw_at lw_m8 226 rfl) rfl
theorem q2036 : (Jvm.Cond.code ({ cls := "BatchRenamer", name := "goesBack", desc := "(LBatchRenamer$Board;Ljava/util/ArrayList;)Z" } : Jvm.MethodName) prog_1_method_54_code (4 : Nat) (Option.some Jvm.ClassFile.FieldType.boolean)) ∈ lw_all := lw_g (lw_at lw_m8 227 rfl) rfl
theorem q2037 : (Jvm.Cond.methodLink "BatchRenamer" (353 : Nat) ({ cls := "BatchRenamer$Board", name := "find", desc := "(Ljava/lang/String;)I" } : Jvm.MethodName)) ∈ lw_all := lw_g (lw_at lw_m8 228 rfl) rfl
theorem q2038 : (Jvm.Cond.methodLink "BatchRenamer" (364 : Nat) ({ cls := "BatchRenamer$Journal", name := "takeLatest", desc := "()Ljava/lang/Object;" } : Jvm.MethodName)) ∈ lw_all := lw_g (lw_at lw_m8 229 rfl) rfl
theorem q2054 : (Jvm.Cond.instanceMethod ({ cls := "BatchRenamer", name := "addFile", desc := "()I" } : Jvm.MethodName)) ∈ lw_all := lw_g (lw_at lw_m9 5 rfl) rfl
theorem q2055 : (Jvm.Cond.selects "BatchRenamer" ({ cls := "BatchRenamer", name := "addFile", desc := "()I" } : Jvm.MethodName) ({ cls := "BatchRenamer", name := "addFile", desc := "()I" } : Jvm.MethodName)) ∈ lw_all := lw_g (lw_at lw_m9 6 rfl) rfl
theorem q2056 : (Jvm.Cond.code ({ cls := "BatchRenamer", name := "addFile", desc := "()I" } : Jvm.MethodName) prog_1_method_57_code (2 : Nat) (Option.some Jvm.ClassFile.FieldType.int)) ∈ lw_all := lw_g (lw_at lw_m9 7 rfl) rfl
theorem q2057 : (Jvm.Cond.methodLink "BatchRenamer" (375 : Nat) ({ cls := "BatchRenamer", name := "typed", desc := "(I)Ljava/lang/String;" } : Jvm.MethodName)) ∈ lw_all := lw_g (lw_at lw_m9 8 rfl) rfl
theorem q2058 : (Jvm.Cond.privateMethod ({ cls := "BatchRenamer", name := "typed", desc := "(I)Ljava/lang/String;" } : Jvm.MethodName)) ∈ lw_tbl := lw_at lw_m9 9 rfl
theorem q2059 : (Jvm.Cond.instanceMethod ({ cls := "BatchRenamer", name := "typed", desc := "(I)Ljava/lang/String;" } : Jvm.MethodName)) ∈ lw_all := lw_g (lw_at lw_m9 10 rfl) rfl
theorem q2060 : (Jvm.Cond.code ({ cls := "BatchRenamer", name := "typed", desc := "(I)Ljava/lang/String;" } : Jvm.MethodName) prog_1_method_56_code (4 : Nat) (Option.some (Jvm.ClassFile.FieldType.object "java/lang/String"))) ∈ lw_all := lw_g (lw_at lw_m9 11 rfl) rfl
theorem q2061 : (Jvm.Cond.methodLink "BatchRenamer" (367 : Nat) ({ cls := "BatchRenamer$Parser", name := "whole", desc := "()Ljava/lang/String;" } : Jvm.MethodName)) ∈ lw_all := lw_g (lw_at lw_m9 12 rfl) rfl
theorem q2065 : (Jvm.Cond.methodLink "BatchRenamer" (371 : Nat) ({ cls := "BatchRenamer", name := "isName", desc := "(Ljava/lang/String;I)Z" } : Jvm.MethodName)) ∈ lw_all := lw_g (lw_at lw_m9 16 rfl) rfl
theorem q2066 : (Jvm.Cond.methodLink "BatchRenamer" (379 : Nat) ({ cls := "BatchRenamer$Entry", name := "<init>", desc := "(Ljava/lang/String;)V" } : Jvm.MethodName)) ∈ lw_all := lw_g (lw_at lw_m9 17 rfl) rfl
theorem q2067 : (Jvm.Cond.methodLink "BatchRenamer" (382 : Nat) ({ cls := "java/util/ArrayList", name := "add", desc := "(Ljava/lang/Object;)Z" } : Jvm.MethodName)) ∈ lw_all := lw_g (lw_at lw_m9 18 rfl) rfl
theorem q2072 : (Jvm.Cond.instanceMethod ({ cls := "BatchRenamer", name := "removeFile", desc := "(I)I" } : Jvm.MethodName)) ∈ lw_all := lw_g (lw_at lw_m9 23 rfl) rfl
theorem q2073 : (Jvm.Cond.selects "BatchRenamer" ({ cls := "BatchRenamer", name := "removeFile", desc := "(I)I" } : Jvm.MethodName) ({ cls := "BatchRenamer", name := "removeFile", desc := "(I)I" } : Jvm.MethodName)) ∈ lw_all := lw_g (lw_at lw_m9 24 rfl) rfl
theorem q2074 : (Jvm.Cond.code ({ cls := "BatchRenamer", name := "removeFile", desc := "(I)I" } : Jvm.MethodName) prog_1_method_58_code (4 : Nat) (Option.some Jvm.ClassFile.FieldType.int)) ∈ lw_all := lw_g (lw_at lw_m9 25 rfl) rfl
theorem q2079 : (Jvm.Cond.instanceMethod ({ cls := "BatchRenamer", name := "moveFile", desc := "(II)I" } : Jvm.MethodName)) ∈ lw_all := lw_g (lw_at lw_m9 30 rfl) rfl
theorem q2080 : (Jvm.Cond.selects "BatchRenamer" ({ cls := "BatchRenamer", name := "moveFile", desc := "(II)I" } : Jvm.MethodName) ({ cls := "BatchRenamer", name := "moveFile", desc := "(II)I" } : Jvm.MethodName)) ∈ lw_all := lw_g (lw_at lw_m9 31 rfl) rfl
theorem q2081 : (Jvm.Cond.code ({ cls := "BatchRenamer", name := "moveFile", desc := "(II)I" } : Jvm.MethodName) prog_1_method_59_code (4 : Nat) (Option.some Jvm.ClassFile.FieldType.int)) ∈ lw_all := lw_g (lw_at lw_m9 32 rfl) rfl
theorem q2086 : (Jvm.Cond.instanceMethod ({ cls := "BatchRenamer", name := "rename", desc := "(I)I" } : Jvm.MethodName)) ∈ lw_all := lw_g (lw_at lw_m9 37 rfl) rfl
theorem q2087 : (Jvm.Cond.selects "BatchRenamer" ({ cls := "BatchRenamer", name := "rename", desc := "(I)I" } : Jvm.MethodName) ({ cls := "BatchRenamer", name := "rename", desc := "(I)I" } : Jvm.MethodName)) ∈ lw_all := lw_g (lw_at lw_m9 38 rfl) rfl
theorem q2088 : (Jvm.Cond.code ({ cls := "BatchRenamer", name := "rename", desc := "(I)I" } : Jvm.MethodName) prog_1_method_60_code (5 : Nat) (Option.some Jvm.ClassFile.FieldType.int)) ∈ lw_all := lw_g (lw_at lw_m9 39 rfl) rfl
theorem q2093 : (Jvm.Cond.instanceMethod ({ cls := "BatchRenamer", name := "keep", desc := "(IZ)Z" } : Jvm.MethodName)) ∈ lw_all := lw_g (lw_at lw_m9 44 rfl) rfl
theorem q2094 : (Jvm.Cond.selects "BatchRenamer" ({ cls := "BatchRenamer", name := "keep", desc := "(IZ)Z" } : Jvm.MethodName) ({ cls := "BatchRenamer", name := "keep", desc := "(IZ)Z" } : Jvm.MethodName)) ∈ lw_all := lw_g (lw_at lw_m9 45 rfl) rfl
theorem q2095 : (Jvm.Cond.code ({ cls := "BatchRenamer", name := "keep", desc := "(IZ)Z" } : Jvm.MethodName) prog_1_method_61_code (5 : Nat) (Option.some Jvm.ClassFile.FieldType.boolean)) ∈ lw_all := lw_g (lw_at lw_m9 46 rfl) rfl
theorem q2100 : (Jvm.Cond.instanceMethod ({ cls := "BatchRenamer", name := "addRule", desc := "()I" } : Jvm.MethodName)) ∈ lw_all := lw_g (lw_at lw_m9 51 rfl) rfl
theorem q2101 : (Jvm.Cond.selects "BatchRenamer" ({ cls := "BatchRenamer", name := "addRule", desc := "()I" } : Jvm.MethodName) ({ cls := "BatchRenamer", name := "addRule", desc := "()I" } : Jvm.MethodName)) ∈ lw_all := lw_g (lw_at lw_m9 52 rfl) rfl
theorem q2102 : (Jvm.Cond.codeWith ({ cls := "BatchRenamer", name := "addRule", desc := "()I" } : Jvm.MethodName) prog_1_method_62_code (3 : Nat) (Option.some Jvm.ClassFile.FieldType.int) [((0 : Nat), (8 : Nat), (11 : Nat), (107 : Nat))]) ∈ lw_all := lw_g (lw_at lw_m9 53 rfl) rfl
theorem q2103 : (Jvm.Cond.methodLink "BatchRenamer" (384 : Nat) ({ cls := "BatchRenamer$Parser", name := "wholeRule", desc := "()LBatchRenamer$Rule;" } : Jvm.MethodName)) ∈ lw_all := lw_g (lw_at lw_m9 54 rfl) rfl
theorem q2111 : (Jvm.Cond.instanceMethod ({ cls := "BatchRenamer", name := "removeRule", desc := "(I)I" } : Jvm.MethodName)) ∈ lw_all := lw_g (lw_at lw_m9 62 rfl) rfl
theorem q2112 : (Jvm.Cond.selects "BatchRenamer" ({ cls := "BatchRenamer", name := "removeRule", desc := "(I)I" } : Jvm.MethodName) ({ cls := "BatchRenamer", name := "removeRule", desc := "(I)I" } : Jvm.MethodName)) ∈ lw_all := lw_g (lw_at lw_m9 63 rfl) rfl
theorem q2113 : (Jvm.Cond.code ({ cls := "BatchRenamer", name := "removeRule", desc := "(I)I" } : Jvm.MethodName) prog_1_method_63_code (4 : Nat) (Option.some Jvm.ClassFile.FieldType.int)) ∈ lw_all := lw_g (lw_at lw_m9 64 rfl) rfl
theorem q2118 : (Jvm.Cond.instanceMethod ({ cls := "BatchRenamer", name := "moveRule", desc := "(II)I" } : Jvm.MethodName)) ∈ lw_all := lw_g (lw_at lw_m9 69 rfl) rfl
theorem q2119 : (Jvm.Cond.selects "BatchRenamer" ({ cls := "BatchRenamer", name := "moveRule", desc := "(II)I" } : Jvm.MethodName) ({ cls := "BatchRenamer", name := "moveRule", desc := "(II)I" } : Jvm.MethodName)) ∈ lw_all := lw_g (lw_at lw_m9 70 rfl) rfl
theorem q2120 : (Jvm.Cond.code ({ cls := "BatchRenamer", name := "moveRule", desc := "(II)I" } : Jvm.MethodName) prog_1_method_64_code (4 : Nat) (Option.some Jvm.ClassFile.FieldType.int)) ∈ lw_all := lw_g (lw_at lw_m9 71 rfl) rfl
theorem q2121 : (Jvm.Cond.methodLink "BatchRenamer" (388 : Nat) ({ cls := "BatchRenamer", name := "filesOf", desc := "(I)I" } : Jvm.MethodName)) ∈ lw_all := lw_g (lw_at lw_m9 72 rfl) rfl
theorem q2126 : (Jvm.Cond.instanceMethod ({ cls := "BatchRenamer", name := "setCount", desc := "(III)I" } : Jvm.MethodName)) ∈ lw_all := lw_g (lw_at lw_m9 77 rfl) rfl
theorem q2127 : (Jvm.Cond.selects "BatchRenamer" ({ cls := "BatchRenamer", name := "setCount", desc := "(III)I" } : Jvm.MethodName) ({ cls := "BatchRenamer", name := "setCount", desc := "(III)I" } : Jvm.MethodName)) ∈ lw_all := lw_g (lw_at lw_m9 78 rfl) rfl
theorem q2128 : (Jvm.Cond.code ({ cls := "BatchRenamer", name := "setCount", desc := "(III)I" } : Jvm.MethodName) prog_1_method_65_code (4 : Nat) (Option.some Jvm.ClassFile.FieldType.int)) ∈ lw_all := lw_g (lw_at lw_m9 79 rfl) rfl
theorem q2129 : (Jvm.Cond.constantLong "BatchRenamer" (391 : Nat) (999 : Int64)) ∈ lw_all := lw_g (lw_at lw_m9 80 rfl) rfl
theorem q2130 : (Jvm.Cond.constantLong "BatchRenamer" (393 : Nat) (99 : Int64)) ∈ lw_all := lw_g (lw_at lw_m9 81 rfl) rfl
theorem q2131 : (Jvm.Cond.constantLong "BatchRenamer" (395 : Nat) (4 : Int64)) ∈ lw_all := lw_g (lw_at lw_m9 82 rfl) rfl
theorem q2136 : (Jvm.Cond.instanceMethod ({ cls := "BatchRenamer", name := "undo", desc := "()I" } : Jvm.MethodName)) ∈ lw_all := lw_g (lw_at lw_m9 87 rfl) rfl
theorem q2137 : (Jvm.Cond.selects "BatchRenamer" ({ cls := "BatchRenamer", name := "undo", desc := "()I" } : Jvm.MethodName) ({ cls := "BatchRenamer", name := "undo", desc := "()I" } : Jvm.MethodName)) ∈ lw_all := lw_g (lw_at lw_m9 88 rfl) rfl
theorem q2138 : (Jvm.Cond.code ({ cls := "BatchRenamer", name := "undo", desc := "()I" } : Jvm.MethodName) prog_1_method_66_code (1 : Nat) (Option.some Jvm.ClassFile.FieldType.int)) ∈ lw_all := lw_g (lw_at lw_m9 89 rfl) rfl
theorem q2143 : (Jvm.Cond.instanceMethod ({ cls := "BatchRenamer", name := "formatName", desc := "(I)I" } : Jvm.MethodName)) ∈ lw_all := lw_g (lw_at lw_m9 94 rfl) rfl
theorem q2144 : (Jvm.Cond.selects "BatchRenamer" ({ cls := "BatchRenamer", name := "formatName", desc := "(I)I" } : Jvm.MethodName) ({ cls := "BatchRenamer", name := "formatName", desc := "(I)I" } : Jvm.MethodName)) ∈ lw_all := lw_g (lw_at lw_m9 95 rfl) rfl
theorem q2145 : (Jvm.Cond.code ({ cls := "BatchRenamer", name := "formatName", desc := "(I)I" } : Jvm.MethodName) prog_1_method_68_code (2 : Nat) (Option.some Jvm.ClassFile.FieldType.int)) ∈ lw_all := lw_g (lw_at lw_m9 96 rfl) rfl
theorem q2146 : (Jvm.Cond.methodLink "BatchRenamer" (405 : Nat) ({ cls := "BatchRenamer", name := "format", desc := "(Ljava/lang/String;)I" } : Jvm.MethodName)) ∈ lw_all := lw_g (lw_at lw_m9 97 rfl) rfl
theorem q2147 : (Jvm.Cond.privateMethod ({ cls := "BatchRenamer", name := "format", desc := "(Ljava/lang/String;)I" } : Jvm.MethodName)) ∈ lw_tbl := lw_at lw_m9 98 rfl
theorem q2148 : (Jvm.Cond.instanceMethod ({ cls := "BatchRenamer", name := "format", desc := "(Ljava/lang/String;)I" } : Jvm.MethodName)) ∈ lw_all := lw_g (lw_at lw_m9 99 rfl) rfl
theorem q2149 : (Jvm.Cond.code ({ cls := "BatchRenamer", name := "format", desc := "(Ljava/lang/String;)I" } : Jvm.MethodName) prog_1_method_67_code (2 : Nat) (Option.some Jvm.ClassFile.FieldType.int)) ∈ lw_all := lw_g (lw_at lw_m9 100 rfl) rfl
theorem q2150 : (Jvm.Cond.methodLink "BatchRenamer" (397 : Nat) ({ cls := "java/lang/StringBuilder", name := "setLength", desc := "(I)V" } : Jvm.MethodName)) ∈ lw_all := lw_g (lw_at lw_m9 101 rfl) rfl
theorem q2151 : (Jvm.Cond.methodLink "BatchRenamer" (400 : Nat) ({ cls := "java/lang/StringBuilder", name := "append", desc := "(Ljava/lang/String;)Ljava/lang/StringBuilder;" } : Jvm.MethodName)) ∈ lw_all := lw_g (lw_at lw_m9 102 rfl) rfl
theorem q2152 : (Jvm.Cond.methodLink "BatchRenamer" (404 : Nat) ({ cls := "java/lang/StringBuilder", name := "length", desc := "()I" } : Jvm.MethodName)) ∈ lw_all := lw_g (lw_at lw_m9 103 rfl) rfl
theorem q2157 : (Jvm.Cond.instanceMethod ({ cls := "BatchRenamer", name := "formatNew", desc := "(I)I" } : Jvm.MethodName)) ∈ lw_all := lw_g (lw_at lw_m9 108 rfl) rfl
theorem q2158 : (Jvm.Cond.selects "BatchRenamer" ({ cls := "BatchRenamer", name := "formatNew", desc := "(I)I" } : Jvm.MethodName) ({ cls := "BatchRenamer", name := "formatNew", desc := "(I)I" } : Jvm.MethodName)) ∈ lw_all := lw_g (lw_at lw_m9 109 rfl) rfl
theorem q2159 : (Jvm.Cond.code ({ cls := "BatchRenamer", name := "formatNew", desc := "(I)I" } : Jvm.MethodName) prog_1_method_69_code (3 : Nat) (Option.some Jvm.ClassFile.FieldType.int)) ∈ lw_all := lw_g (lw_at lw_m9 110 rfl) rfl
theorem q2160 : (Jvm.Cond.stringRef "BatchRenamer" (408 : Nat) "-") ∈ lw_tbl := lw_at lw_m9 111 rfl
theorem q2165 : (Jvm.Cond.instanceMethod ({ cls := "BatchRenamer", name := "formatStep", desc := "(I)I" } : Jvm.MethodName)) ∈ lw_all := lw_g (lw_at lw_m9 116 rfl) rfl
theorem q2166 : (Jvm.Cond.selects "BatchRenamer" ({ cls := "BatchRenamer", name := "formatStep", desc := "(I)I" } : Jvm.MethodName) ({ cls := "BatchRenamer", name := "formatStep", desc := "(I)I" } : Jvm.MethodName)) ∈ lw_all := lw_g (lw_at lw_m9 117 rfl) rfl
theorem q2167 : (Jvm.Cond.code ({ cls := "BatchRenamer", name := "formatStep", desc := "(I)I" } : Jvm.MethodName) prog_1_method_70_code (3 : Nat) (Option.some Jvm.ClassFile.FieldType.int)) ∈ lw_all := lw_g (lw_at lw_m9 118 rfl) rfl
theorem q2168 : (Jvm.Cond.stringRef "BatchRenamer" (410 : Nat) " to ") ∈ lw_tbl := lw_at lw_m9 119 rfl
theorem q2173 : (Jvm.Cond.instanceMethod ({ cls := "BatchRenamer", name := "formattedCharacter", desc := "(I)C" } : Jvm.MethodName)) ∈ lw_all := lw_g (lw_at lw_m9 124 rfl) rfl
theorem q2174 : (Jvm.Cond.selects "BatchRenamer" ({ cls := "BatchRenamer", name := "formattedCharacter", desc := "(I)C" } : Jvm.MethodName) ({ cls := "BatchRenamer", name := "formattedCharacter", desc := "(I)C" } : Jvm.MethodName)) ∈ lw_all := lw_g (lw_at lw_m9 125 rfl) rfl
theorem q2175 : (Jvm.Cond.code ({ cls := "BatchRenamer", name := "formattedCharacter", desc := "(I)C" } : Jvm.MethodName) prog_1_method_71_code (2 : Nat) (Option.some Jvm.ClassFile.FieldType.char)) ∈ lw_all := lw_g (lw_at lw_m9 126 rfl) rfl
theorem q2176 : (Jvm.Cond.methodLink "BatchRenamer" (412 : Nat) ({ cls := "java/lang/StringBuilder", name := "charAt", desc := "(I)C" } : Jvm.MethodName)) ∈ lw_all := lw_g (lw_at lw_m9 127 rfl) rfl
theorem q2903 : (Jvm.Cond.castable "BatchRenamer" "java/lang/Object") ∈ lw_tbl := lw_at lw_m12 134 rfl
theorem in_X1 : ∀ w ∈ wsX10, w ∈ lw_all := lw_in wsX10 [647, 649, 651, 653, 655, 657] (by decide +kernel) (by decide +kernel)

