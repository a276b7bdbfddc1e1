/-! BlockPapersLaw -/
set_option maxRecDepth 100000
def RX0 : String := "BlockPapersLaw"
abbrev cX0_block : ByteArray := method_3_code
def yX0_block : MethodName := ⟨RX0, "block", "(LBlockPapers;IZ[J)I"⟩
def dkwX0_block_0 : List UInt8 := [45, 3, 42, 27, 28, 182, 0, 7, 133, 80, 167, 0, 11, 58, 4, 4, 172, 58, 4, 5, 172, 3, 172]
abbrev dktX0_block_0 : List UInt8 := dkwX0_block_0 ++ []
theorem dksX0_block_0 : cX0_block.data.toList.drop 0 = dktX0_block_0 := by decide +kernel
theorem dX0_block_0 : decode cX0_block 0 = .ok (.aload_n 3, 1) := dk_45 (dk_at dksX0_block_0 0 rfl rfl)
theorem dX0_block_1 : decode cX0_block 1 = .ok (.iconst 0, 1) := dk_3 (dk_at dksX0_block_0 1 rfl rfl)
theorem dX0_block_2 : decode cX0_block 2 = .ok (.aload_n 0, 1) := dk_42 (dk_at dksX0_block_0 2 rfl rfl)
theorem dX0_block_3 : decode cX0_block 3 = .ok (.iload_n 1, 1) := dk_27 (dk_at dksX0_block_0 3 rfl rfl)
theorem dX0_block_4 : decode cX0_block 4 = .ok (.iload_n 2, 1) := dk_28 (dk_at dksX0_block_0 4 rfl rfl)
theorem dX0_block_5 : decode cX0_block 5 = .ok (.invokevirtual 7, 3) := dk_182 0 7 (dk_at dksX0_block_0 5 rfl rfl)
theorem dX0_block_8 : decode cX0_block 8 = .ok (.i2l, 1) := dk_133 (dk_at dksX0_block_0 8 rfl rfl)
theorem dX0_block_9 : decode cX0_block 9 = .ok (.lastore, 1) := dk_80 (dk_at dksX0_block_0 9 rfl rfl)
theorem dX0_block_10 : decode cX0_block 10 = .ok (.goto 11, 3) := dk_167 0 11 (dk_at dksX0_block_0 10 rfl rfl)
theorem dX0_block_13 : decode cX0_block 13 = .ok (.astore 4, 2) := dk_58 4 (dk_at dksX0_block_0 13 rfl rfl)
theorem dX0_block_15 : decode cX0_block 15 = .ok (.iconst 1, 1) := dk_4 (dk_at dksX0_block_0 15 rfl rfl)
theorem dX0_block_16 : decode cX0_block 16 = .ok (.ireturn, 1) := dk_172 (dk_at dksX0_block_0 16 rfl rfl)
theorem dX0_block_17 : decode cX0_block 17 = .ok (.astore 4, 2) := dk_58 4 (dk_at dksX0_block_0 17 rfl rfl)
theorem dX0_block_19 : decode cX0_block 19 = .ok (.iconst 2, 1) := dk_5 (dk_at dksX0_block_0 19 rfl rfl)
theorem dX0_block_20 : decode cX0_block 20 = .ok (.ireturn, 1) := dk_172 (dk_at dksX0_block_0 20 rfl rfl)
theorem dX0_block_21 : decode cX0_block 21 = .ok (.iconst 0, 1) := dk_3 (dk_at dksX0_block_0 21 rfl rfl)
theorem dX0_block_22 : decode cX0_block 22 = .ok (.ireturn, 1) := dk_172 (dk_at dksX0_block_0 22 rfl rfl)
abbrev cX0_blockOf : ByteArray := method_4_code
def yX0_blockOf : MethodName := ⟨RX0, "blockOf", "(LBlockPapers;II[J)I"⟩
def dkwX0_blockOf_0 : List UInt8 := [45, 3, 42, 27, 28, 182, 0, 17, 133, 80, 167, 0, 11, 58, 4, 4, 172, 58, 4, 5, 172, 3, 172]
abbrev dktX0_blockOf_0 : List UInt8 := dkwX0_blockOf_0 ++ []
theorem dksX0_blockOf_0 : cX0_blockOf.data.toList.drop 0 = dktX0_blockOf_0 := by decide +kernel
theorem dX0_blockOf_0 : decode cX0_blockOf 0 = .ok (.aload_n 3, 1) := dk_45 (dk_at dksX0_blockOf_0 0 rfl rfl)
theorem dX0_blockOf_1 : decode cX0_blockOf 1 = .ok (.iconst 0, 1) := dk_3 (dk_at dksX0_blockOf_0 1 rfl rfl)
theorem dX0_blockOf_2 : decode cX0_blockOf 2 = .ok (.aload_n 0, 1) := dk_42 (dk_at dksX0_blockOf_0 2 rfl rfl)
theorem dX0_blockOf_3 : decode cX0_blockOf 3 = .ok (.iload_n 1, 1) := dk_27 (dk_at dksX0_blockOf_0 3 rfl rfl)
theorem dX0_blockOf_4 : decode cX0_blockOf 4 = .ok (.iload_n 2, 1) := dk_28 (dk_at dksX0_blockOf_0 4 rfl rfl)
theorem dX0_blockOf_5 : decode cX0_blockOf 5 = .ok (.invokevirtual 17, 3) := dk_182 0 17 (dk_at dksX0_blockOf_0 5 rfl rfl)
theorem dX0_blockOf_8 : decode cX0_blockOf 8 = .ok (.i2l, 1) := dk_133 (dk_at dksX0_blockOf_0 8 rfl rfl)
theorem dX0_blockOf_9 : decode cX0_blockOf 9 = .ok (.lastore, 1) := dk_80 (dk_at dksX0_blockOf_0 9 rfl rfl)
theorem dX0_blockOf_10 : decode cX0_blockOf 10 = .ok (.goto 11, 3) := dk_167 0 11 (dk_at dksX0_blockOf_0 10 rfl rfl)
theorem dX0_blockOf_13 : decode cX0_blockOf 13 = .ok (.astore 4, 2) := dk_58 4 (dk_at dksX0_blockOf_0 13 rfl rfl)
theorem dX0_blockOf_15 : decode cX0_blockOf 15 = .ok (.iconst 1, 1) := dk_4 (dk_at dksX0_blockOf_0 15 rfl rfl)
theorem dX0_blockOf_16 : decode cX0_blockOf 16 = .ok (.ireturn, 1) := dk_172 (dk_at dksX0_blockOf_0 16 rfl rfl)
theorem dX0_blockOf_17 : decode cX0_blockOf 17 = .ok (.astore 4, 2) := dk_58 4 (dk_at dksX0_blockOf_0 17 rfl rfl)
theorem dX0_blockOf_19 : decode cX0_blockOf 19 = .ok (.iconst 2, 1) := dk_5 (dk_at dksX0_blockOf_0 19 rfl rfl)
theorem dX0_blockOf_20 : decode cX0_blockOf 20 = .ok (.ireturn, 1) := dk_172 (dk_at dksX0_blockOf_0 20 rfl rfl)
theorem dX0_blockOf_21 : decode cX0_blockOf 21 = .ok (.iconst 0, 1) := dk_3 (dk_at dksX0_blockOf_0 21 rfl rfl)
theorem dX0_blockOf_22 : decode cX0_blockOf 22 = .ok (.ireturn, 1) := dk_172 (dk_at dksX0_blockOf_0 22 rfl rfl)
abbrev cX0_carve : ByteArray := method_5_code
def yX0_carve : MethodName := ⟨RX0, "carve", "(LBlockPapers;I[J)I"⟩
def dkwX0_carve_0 : List UInt8 := [44, 3, 42, 27, 182, 0, 23, 133, 80, 167, 0, 6, 78, 4, 172, 3, 172]
abbrev dktX0_carve_0 : List UInt8 := dkwX0_carve_0 ++ []
theorem dksX0_carve_0 : cX0_carve.data.toList.drop 0 = dktX0_carve_0 := by decide +kernel
theorem dX0_carve_0 : decode cX0_carve 0 = .ok (.aload_n 2, 1) := dk_44 (dk_at dksX0_carve_0 0 rfl rfl)
theorem dX0_carve_1 : decode cX0_carve 1 = .ok (.iconst 0, 1) := dk_3 (dk_at dksX0_carve_0 1 rfl rfl)
theorem dX0_carve_2 : decode cX0_carve 2 = .ok (.aload_n 0, 1) := dk_42 (dk_at dksX0_carve_0 2 rfl rfl)
theorem dX0_carve_3 : decode cX0_carve 3 = .ok (.iload_n 1, 1) := dk_27 (dk_at dksX0_carve_0 3 rfl rfl)
theorem dX0_carve_4 : decode cX0_carve 4 = .ok (.invokevirtual 23, 3) := dk_182 0 23 (dk_at dksX0_carve_0 4 rfl rfl)
theorem dX0_carve_7 : decode cX0_carve 7 = .ok (.i2l, 1) := dk_133 (dk_at dksX0_carve_0 7 rfl rfl)
theorem dX0_carve_8 : decode cX0_carve 8 = .ok (.lastore, 1) := dk_80 (dk_at dksX0_carve_0 8 rfl rfl)
theorem dX0_carve_9 : decode cX0_carve 9 = .ok (.goto 6, 3) := dk_167 0 6 (dk_at dksX0_carve_0 9 rfl rfl)
theorem dX0_carve_12 : decode cX0_carve 12 = .ok (.astore_n 3, 1) := dk_78 (dk_at dksX0_carve_0 12 rfl rfl)
theorem dX0_carve_13 : decode cX0_carve 13 = .ok (.iconst 1, 1) := dk_4 (dk_at dksX0_carve_0 13 rfl rfl)
theorem dX0_carve_14 : decode cX0_carve 14 = .ok (.ireturn, 1) := dk_172 (dk_at dksX0_carve_0 14 rfl rfl)
theorem dX0_carve_15 : decode cX0_carve 15 = .ok (.iconst 0, 1) := dk_3 (dk_at dksX0_carve_0 15 rfl rfl)
theorem dX0_carve_16 : decode cX0_carve 16 = .ok (.ireturn, 1) := dk_172 (dk_at dksX0_carve_0 16 rfl rfl)
abbrev cX0_ink : ByteArray := method_6_code
def yX0_ink : MethodName := ⟨RX0, "ink", "(LBlockPapers;III[J)I"⟩
def dkwX0_ink_1 : List UInt8 := [172]
abbrev dktX0_ink_1 : List UInt8 := dkwX0_ink_1 ++ []
def dkwX0_ink_0 : List UInt8 := [25, 4, 3, 42, 27, 28, 29, 182, 0, 27, 133, 80, 167, 0, 11, 58, 5, 4, 172, 58, 5, 5, 172, 3]
abbrev dktX0_ink_0 : List UInt8 := dkwX0_ink_0 ++ dktX0_ink_1
theorem dksX0_ink_0 : cX0_ink.data.toList.drop 0 = dktX0_ink_0 := by decide +kernel
theorem dksX0_ink_1 : cX0_ink.data.toList.drop 24 = dktX0_ink_1 := dk_seg dksX0_ink_0 24 rfl rfl
theorem dX0_ink_0 : decode cX0_ink 0 = .ok (.aload 4, 2) := dk_25 4 (dk_at dksX0_ink_0 0 rfl rfl)
theorem dX0_ink_2 : decode cX0_ink 2 = .ok (.iconst 0, 1) := dk_3 (dk_at dksX0_ink_0 2 rfl rfl)
theorem dX0_ink_3 : decode cX0_ink 3 = .ok (.aload_n 0, 1) := dk_42 (dk_at dksX0_ink_0 3 rfl rfl)
theorem dX0_ink_4 : decode cX0_ink 4 = .ok (.iload_n 1, 1) := dk_27 (dk_at dksX0_ink_0 4 rfl rfl)
theorem dX0_ink_5 : decode cX0_ink 5 = .ok (.iload_n 2, 1) := dk_28 (dk_at dksX0_ink_0 5 rfl rfl)
theorem dX0_ink_6 : decode cX0_ink 6 = .ok (.iload_n 3, 1) := dk_29 (dk_at dksX0_ink_0 6 rfl rfl)
theorem dX0_ink_7 : decode cX0_ink 7 = .ok (.invokevirtual 27, 3) := dk_182 0 27 (dk_at dksX0_ink_0 7 rfl rfl)
theorem dX0_ink_10 : decode cX0_ink 10 = .ok (.i2l, 1) := dk_133 (dk_at dksX0_ink_0 10 rfl rfl)
theorem dX0_ink_11 : decode cX0_ink 11 = .ok (.lastore, 1) := dk_80 (dk_at dksX0_ink_0 11 rfl rfl)
theorem dX0_ink_12 : decode cX0_ink 12 = .ok (.goto 11, 3) := dk_167 0 11 (dk_at dksX0_ink_0 12 rfl rfl)
theorem dX0_ink_15 : decode cX0_ink 15 = .ok (.astore 5, 2) := dk_58 5 (dk_at dksX0_ink_0 15 rfl rfl)
theorem dX0_ink_17 : decode cX0_ink 17 = .ok (.iconst 1, 1) := dk_4 (dk_at dksX0_ink_0 17 rfl rfl)
theorem dX0_ink_18 : decode cX0_ink 18 = .ok (.ireturn, 1) := dk_172 (dk_at dksX0_ink_0 18 rfl rfl)
theorem dX0_ink_19 : decode cX0_ink 19 = .ok (.astore 5, 2) := dk_58 5 (dk_at dksX0_ink_0 19 rfl rfl)
theorem dX0_ink_21 : decode cX0_ink 21 = .ok (.iconst 2, 1) := dk_5 (dk_at dksX0_ink_0 21 rfl rfl)
theorem dX0_ink_22 : decode cX0_ink 22 = .ok (.ireturn, 1) := dk_172 (dk_at dksX0_ink_0 22 rfl rfl)
theorem dX0_ink_23 : decode cX0_ink 23 = .ok (.iconst 0, 1) := dk_3 (dk_at dksX0_ink_0 23 rfl rfl)
theorem dX0_ink_24 : decode cX0_ink 24 = .ok (.ireturn, 1) := dk_172 (dk_at dksX0_ink_1 0 rfl rfl)
abbrev cX0_inkOf : ByteArray := method_7_code
def yX0_inkOf : MethodName := ⟨RX0, "inkOf", "(LBlockPapers;II[J)I"⟩
def dkwX0_inkOf_0 : List UInt8 := [45, 3, 42, 27, 28, 182, 0, 31, 133, 80, 167, 0, 11, 58, 4, 4, 172, 58, 4, 5, 172, 3, 172]
abbrev dktX0_inkOf_0 : List UInt8 := dkwX0_inkOf_0 ++ []
theorem dksX0_inkOf_0 : cX0_inkOf.data.toList.drop 0 = dktX0_inkOf_0 := by decide +kernel
theorem dX0_inkOf_0 : decode cX0_inkOf 0 = .ok (.aload_n 3, 1) := dk_45 (dk_at dksX0_inkOf_0 0 rfl rfl)
theorem dX0_inkOf_1 : decode cX0_inkOf 1 = .ok (.iconst 0, 1) := dk_3 (dk_at dksX0_inkOf_0 1 rfl rfl)
theorem dX0_inkOf_2 : decode cX0_inkOf 2 = .ok (.aload_n 0, 1) := dk_42 (dk_at dksX0_inkOf_0 2 rfl rfl)
theorem dX0_inkOf_3 : decode cX0_inkOf 3 = .ok (.iload_n 1, 1) := dk_27 (dk_at dksX0_inkOf_0 3 rfl rfl)
theorem dX0_inkOf_4 : decode cX0_inkOf 4 = .ok (.iload_n 2, 1) := dk_28 (dk_at dksX0_inkOf_0 4 rfl rfl)
theorem dX0_inkOf_5 : decode cX0_inkOf 5 = .ok (.invokevirtual 31, 3) := dk_182 0 31 (dk_at dksX0_inkOf_0 5 rfl rfl)
theorem dX0_inkOf_8 : decode cX0_inkOf 8 = .ok (.i2l, 1) := dk_133 (dk_at dksX0_inkOf_0 8 rfl rfl)
theorem dX0_inkOf_9 : decode cX0_inkOf 9 = .ok (.lastore, 1) := dk_80 (dk_at dksX0_inkOf_0 9 rfl rfl)
theorem dX0_inkOf_10 : decode cX0_inkOf 10 = .ok (.goto 11, 3) := dk_167 0 11 (dk_at dksX0_inkOf_0 10 rfl rfl)
theorem dX0_inkOf_13 : decode cX0_inkOf 13 = .ok (.astore 4, 2) := dk_58 4 (dk_at dksX0_inkOf_0 13 rfl rfl)
theorem dX0_inkOf_15 : decode cX0_inkOf 15 = .ok (.iconst 1, 1) := dk_4 (dk_at dksX0_inkOf_0 15 rfl rfl)
theorem dX0_inkOf_16 : decode cX0_inkOf 16 = .ok (.ireturn, 1) := dk_172 (dk_at dksX0_inkOf_0 16 rfl rfl)
theorem dX0_inkOf_17 : decode cX0_inkOf 17 = .ok (.astore 4, 2) := dk_58 4 (dk_at dksX0_inkOf_0 17 rfl rfl)
theorem dX0_inkOf_19 : decode cX0_inkOf 19 = .ok (.iconst 2, 1) := dk_5 (dk_at dksX0_inkOf_0 19 rfl rfl)
theorem dX0_inkOf_20 : decode cX0_inkOf 20 = .ok (.ireturn, 1) := dk_172 (dk_at dksX0_inkOf_0 20 rfl rfl)
theorem dX0_inkOf_21 : decode cX0_inkOf 21 = .ok (.iconst 0, 1) := dk_3 (dk_at dksX0_inkOf_0 21 rfl rfl)
theorem dX0_inkOf_22 : decode cX0_inkOf 22 = .ok (.ireturn, 1) := dk_172 (dk_at dksX0_inkOf_0 22 rfl rfl)
abbrev cX0_mix : ByteArray := method_8_code
def yX0_mix : MethodName := ⟨RX0, "mix", "(LBlockPapers;III[J)I"⟩
def dkwX0_mix_1 : List UInt8 := [58, 5, 6, 172, 3, 172]
abbrev dktX0_mix_1 : List UInt8 := dkwX0_mix_1 ++ []
def dkwX0_mix_0 : List UInt8 := [25, 4, 3, 42, 27, 28, 29, 182, 0, 34, 133, 80, 167, 0, 15, 58, 5, 4, 172, 58, 5, 5, 172]
abbrev dktX0_mix_0 : List UInt8 := dkwX0_mix_0 ++ dktX0_mix_1
theorem dksX0_mix_0 : cX0_mix.data.toList.drop 0 = dktX0_mix_0 := by decide +kernel
theorem dksX0_mix_1 : cX0_mix.data.toList.drop 23 = dktX0_mix_1 := dk_seg dksX0_mix_0 23 rfl rfl
theorem dX0_mix_0 : decode cX0_mix 0 = .ok (.aload 4, 2) := dk_25 4 (dk_at dksX0_mix_0 0 rfl rfl)
theorem dX0_mix_2 : decode cX0_mix 2 = .ok (.iconst 0, 1) := dk_3 (dk_at dksX0_mix_0 2 rfl rfl)
theorem dX0_mix_3 : decode cX0_mix 3 = .ok (.aload_n 0, 1) := dk_42 (dk_at dksX0_mix_0 3 rfl rfl)
theorem dX0_mix_4 : decode cX0_mix 4 = .ok (.iload_n 1, 1) := dk_27 (dk_at dksX0_mix_0 4 rfl rfl)
theorem dX0_mix_5 : decode cX0_mix 5 = .ok (.iload_n 2, 1) := dk_28 (dk_at dksX0_mix_0 5 rfl rfl)
theorem dX0_mix_6 : decode cX0_mix 6 = .ok (.iload_n 3, 1) := dk_29 (dk_at dksX0_mix_0 6 rfl rfl)
theorem dX0_mix_7 : decode cX0_mix 7 = .ok (.invokevirtual 34, 3) := dk_182 0 34 (dk_at dksX0_mix_0 7 rfl rfl)
theorem dX0_mix_10 : decode cX0_mix 10 = .ok (.i2l, 1) := dk_133 (dk_at dksX0_mix_0 10 rfl rfl)
theorem dX0_mix_11 : decode cX0_mix 11 = .ok (.lastore, 1) := dk_80 (dk_at dksX0_mix_0 11 rfl rfl)
theorem dX0_mix_12 : decode cX0_mix 12 = .ok (.goto 15, 3) := dk_167 0 15 (dk_at dksX0_mix_0 12 rfl rfl)
theorem dX0_mix_15 : decode cX0_mix 15 = .ok (.astore 5, 2) := dk_58 5 (dk_at dksX0_mix_0 15 rfl rfl)
theorem dX0_mix_17 : decode cX0_mix 17 = .ok (.iconst 1, 1) := dk_4 (dk_at dksX0_mix_0 17 rfl rfl)
theorem dX0_mix_18 : decode cX0_mix 18 = .ok (.ireturn, 1) := dk_172 (dk_at dksX0_mix_0 18 rfl rfl)
theorem dX0_mix_19 : decode cX0_mix 19 = .ok (.astore 5, 2) := dk_58 5 (dk_at dksX0_mix_0 19 rfl rfl)
theorem dX0_mix_21 : decode cX0_mix 21 = .ok (.iconst 2, 1) := dk_5 (dk_at dksX0_mix_0 21 rfl rfl)
theorem dX0_mix_22 : decode cX0_mix 22 = .ok (.ireturn, 1) := dk_172 (dk_at dksX0_mix_0 22 rfl rfl)
theorem dX0_mix_23 : decode cX0_mix 23 = .ok (.astore 5, 2) := dk_58 5 (dk_at dksX0_mix_1 0 rfl rfl)
theorem dX0_mix_25 : decode cX0_mix 25 = .ok (.iconst 3, 1) := dk_6 (dk_at dksX0_mix_1 2 rfl rfl)
theorem dX0_mix_26 : decode cX0_mix 26 = .ok (.ireturn, 1) := dk_172 (dk_at dksX0_mix_1 3 rfl rfl)
theorem dX0_mix_27 : decode cX0_mix 27 = .ok (.iconst 0, 1) := dk_3 (dk_at dksX0_mix_1 4 rfl rfl)
theorem dX0_mix_28 : decode cX0_mix 28 = .ok (.ireturn, 1) := dk_172 (dk_at dksX0_mix_1 5 rfl rfl)
abbrev cX0_print : ByteArray := method_9_code
def yX0_print : MethodName := ⟨RX0, "print", "(LBlockPapers;III[J)I"⟩
def dkwX0_print_1 : List UInt8 := [58, 5, 6, 172, 3, 172]
abbrev dktX0_print_1 : List UInt8 := dkwX0_print_1 ++ []
def dkwX0_print_0 : List UInt8 := [25, 4, 3, 42, 27, 28, 29, 182, 0, 37, 133, 80, 167, 0, 15, 58, 5, 4, 172, 58, 5, 5, 172]
abbrev dktX0_print_0 : List UInt8 := dkwX0_print_0 ++ dktX0_print_1
theorem dksX0_print_0 : cX0_print.data.toList.drop 0 = dktX0_print_0 := by decide +kernel
theorem dksX0_print_1 : cX0_print.data.toList.drop 23 = dktX0_print_1 := dk_seg dksX0_print_0 23 rfl rfl
theorem dX0_print_0 : decode cX0_print 0 = .ok (.aload 4, 2) := dk_25 4 (dk_at dksX0_print_0 0 rfl rfl)
theorem dX0_print_2 : decode cX0_print 2 = .ok (.iconst 0, 1) := dk_3 (dk_at dksX0_print_0 2 rfl rfl)
theorem dX0_print_3 : decode cX0_print 3 = .ok (.aload_n 0, 1) := dk_42 (dk_at dksX0_print_0 3 rfl rfl)
theorem dX0_print_4 : decode cX0_print 4 = .ok (.iload_n 1, 1) := dk_27 (dk_at dksX0_print_0 4 rfl rfl)
theorem dX0_print_5 : decode cX0_print 5 = .ok (.iload_n 2, 1) := dk_28 (dk_at dksX0_print_0 5 rfl rfl)
theorem dX0_print_6 : decode cX0_print 6 = .ok (.iload_n 3, 1) := dk_29 (dk_at dksX0_print_0 6 rfl rfl)
theorem dX0_print_7 : decode cX0_print 7 = .ok (.invokevirtual 37, 3) := dk_182 0 37 (dk_at dksX0_print_0 7 rfl rfl)
theorem dX0_print_10 : decode cX0_print 10 = .ok (.i2l, 1) := dk_133 (dk_at dksX0_print_0 10 rfl rfl)
theorem dX0_print_11 : decode cX0_print 11 = .ok (.lastore, 1) := dk_80 (dk_at dksX0_print_0 11 rfl rfl)
theorem dX0_print_12 : decode cX0_print 12 = .ok (.goto 15, 3) := dk_167 0 15 (dk_at dksX0_print_0 12 rfl rfl)
theorem dX0_print_15 : decode cX0_print 15 = .ok (.astore 5, 2) := dk_58 5 (dk_at dksX0_print_0 15 rfl rfl)
theorem dX0_print_17 : decode cX0_print 17 = .ok (.iconst 1, 1) := dk_4 (dk_at dksX0_print_0 17 rfl rfl)
theorem dX0_print_18 : decode cX0_print 18 = .ok (.ireturn, 1) := dk_172 (dk_at dksX0_print_0 18 rfl rfl)
theorem dX0_print_19 : decode cX0_print 19 = .ok (.astore 5, 2) := dk_58 5 (dk_at dksX0_print_0 19 rfl rfl)
theorem dX0_print_21 : decode cX0_print 21 = .ok (.iconst 2, 1) := dk_5 (dk_at dksX0_print_0 21 rfl rfl)
theorem dX0_print_22 : decode cX0_print 22 = .ok (.ireturn, 1) := dk_172 (dk_at dksX0_print_0 22 rfl rfl)
theorem dX0_print_23 : decode cX0_print 23 = .ok (.astore 5, 2) := dk_58 5 (dk_at dksX0_print_1 0 rfl rfl)
theorem dX0_print_25 : decode cX0_print 25 = .ok (.iconst 3, 1) := dk_6 (dk_at dksX0_print_1 2 rfl rfl)
theorem dX0_print_26 : decode cX0_print 26 = .ok (.ireturn, 1) := dk_172 (dk_at dksX0_print_1 3 rfl rfl)
theorem dX0_print_27 : decode cX0_print 27 = .ok (.iconst 0, 1) := dk_3 (dk_at dksX0_print_1 4 rfl rfl)
theorem dX0_print_28 : decode cX0_print 28 = .ok (.ireturn, 1) := dk_172 (dk_at dksX0_print_1 5 rfl rfl)
abbrev cX0_rollOf : ByteArray := method_10_code
def yX0_rollOf : MethodName := ⟨RX0, "rollOf", "(LBlockPapers;II[J)I"⟩
def dkwX0_rollOf_0 : List UInt8 := [45, 3, 42, 27, 28, 182, 0, 40, 133, 80, 167, 0, 11, 58, 4, 4, 172, 58, 4, 5, 172, 3, 172]
abbrev dktX0_rollOf_0 : List UInt8 := dkwX0_rollOf_0 ++ []
theorem dksX0_rollOf_0 : cX0_rollOf.data.toList.drop 0 = dktX0_rollOf_0 := by decide +kernel
theorem dX0_rollOf_0 : decode cX0_rollOf 0 = .ok (.aload_n 3, 1) := dk_45 (dk_at dksX0_rollOf_0 0 rfl rfl)
theorem dX0_rollOf_1 : decode cX0_rollOf 1 = .ok (.iconst 0, 1) := dk_3 (dk_at dksX0_rollOf_0 1 rfl rfl)
theorem dX0_rollOf_2 : decode cX0_rollOf 2 = .ok (.aload_n 0, 1) := dk_42 (dk_at dksX0_rollOf_0 2 rfl rfl)
theorem dX0_rollOf_3 : decode cX0_rollOf 3 = .ok (.iload_n 1, 1) := dk_27 (dk_at dksX0_rollOf_0 3 rfl rfl)
theorem dX0_rollOf_4 : decode cX0_rollOf 4 = .ok (.iload_n 2, 1) := dk_28 (dk_at dksX0_rollOf_0 4 rfl rfl)
theorem dX0_rollOf_5 : decode cX0_rollOf 5 = .ok (.invokevirtual 40, 3) := dk_182 0 40 (dk_at dksX0_rollOf_0 5 rfl rfl)
theorem dX0_rollOf_8 : decode cX0_rollOf 8 = .ok (.i2l, 1) := dk_133 (dk_at dksX0_rollOf_0 8 rfl rfl)
theorem dX0_rollOf_9 : decode cX0_rollOf 9 = .ok (.lastore, 1) := dk_80 (dk_at dksX0_rollOf_0 9 rfl rfl)
theorem dX0_rollOf_10 : decode cX0_rollOf 10 = .ok (.goto 11, 3) := dk_167 0 11 (dk_at dksX0_rollOf_0 10 rfl rfl)
theorem dX0_rollOf_13 : decode cX0_rollOf 13 = .ok (.astore 4, 2) := dk_58 4 (dk_at dksX0_rollOf_0 13 rfl rfl)
theorem dX0_rollOf_15 : decode cX0_rollOf 15 = .ok (.iconst 1, 1) := dk_4 (dk_at dksX0_rollOf_0 15 rfl rfl)
theorem dX0_rollOf_16 : decode cX0_rollOf 16 = .ok (.ireturn, 1) := dk_172 (dk_at dksX0_rollOf_0 16 rfl rfl)
theorem dX0_rollOf_17 : decode cX0_rollOf 17 = .ok (.astore 4, 2) := dk_58 4 (dk_at dksX0_rollOf_0 17 rfl rfl)
theorem dX0_rollOf_19 : decode cX0_rollOf 19 = .ok (.iconst 2, 1) := dk_5 (dk_at dksX0_rollOf_0 19 rfl rfl)
theorem dX0_rollOf_20 : decode cX0_rollOf 20 = .ok (.ireturn, 1) := dk_172 (dk_at dksX0_rollOf_0 20 rfl rfl)
theorem dX0_rollOf_21 : decode cX0_rollOf 21 = .ok (.iconst 0, 1) := dk_3 (dk_at dksX0_rollOf_0 21 rfl rfl)
theorem dX0_rollOf_22 : decode cX0_rollOf 22 = .ok (.ireturn, 1) := dk_172 (dk_at dksX0_rollOf_0 22 rfl rfl)
abbrev cX0_giveBack : ByteArray := method_11_code
def yX0_giveBack : MethodName := ⟨RX0, "giveBack", "(LBlockPapers;I[J)I"⟩
def dkwX0_giveBack_0 : List UInt8 := [44, 3, 42, 27, 182, 0, 43, 133, 80, 167, 0, 9, 78, 4, 172, 78, 5, 172, 3, 172]
abbrev dktX0_giveBack_0 : List UInt8 := dkwX0_giveBack_0 ++ []
theorem dksX0_giveBack_0 : cX0_giveBack.data.toList.drop 0 = dktX0_giveBack_0 := by decide +kernel
theorem dX0_giveBack_0 : decode cX0_giveBack 0 = .ok (.aload_n 2, 1) := dk_44 (dk_at dksX0_giveBack_0 0 rfl rfl)
theorem dX0_giveBack_1 : decode cX0_giveBack 1 = .ok (.iconst 0, 1) := dk_3 (dk_at dksX0_giveBack_0 1 rfl rfl)
theorem dX0_giveBack_2 : decode cX0_giveBack 2 = .ok (.aload_n 0, 1) := dk_42 (dk_at dksX0_giveBack_0 2 rfl rfl)
theorem dX0_giveBack_3 : decode cX0_giveBack 3 = .ok (.iload_n 1, 1) := dk_27 (dk_at dksX0_giveBack_0 3 rfl rfl)
theorem dX0_giveBack_4 : decode cX0_giveBack 4 = .ok (.invokevirtual 43, 3) := dk_182 0 43 (dk_at dksX0_giveBack_0 4 rfl rfl)
theorem dX0_giveBack_7 : decode cX0_giveBack 7 = .ok (.i2l, 1) := dk_133 (dk_at dksX0_giveBack_0 7 rfl rfl)
theorem dX0_giveBack_8 : decode cX0_giveBack 8 = .ok (.lastore, 1) := dk_80 (dk_at dksX0_giveBack_0 8 rfl rfl)
theorem dX0_giveBack_9 : decode cX0_giveBack 9 = .ok (.goto 9, 3) := dk_167 0 9 (dk_at dksX0_giveBack_0 9 rfl rfl)
theorem dX0_giveBack_12 : decode cX0_giveBack 12 = .ok (.astore_n 3, 1) := dk_78 (dk_at dksX0_giveBack_0 12 rfl rfl)
theorem dX0_giveBack_13 : decode cX0_giveBack 13 = .ok (.iconst 1, 1) := dk_4 (dk_at dksX0_giveBack_0 13 rfl rfl)
theorem dX0_giveBack_14 : decode cX0_giveBack 14 = .ok (.ireturn, 1) := dk_172 (dk_at dksX0_giveBack_0 14 rfl rfl)
theorem dX0_giveBack_15 : decode cX0_giveBack 15 = .ok (.astore_n 3, 1) := dk_78 (dk_at dksX0_giveBack_0 15 rfl rfl)
theorem dX0_giveBack_16 : decode cX0_giveBack 16 = .ok (.iconst 2, 1) := dk_5 (dk_at dksX0_giveBack_0 16 rfl rfl)
theorem dX0_giveBack_17 : decode cX0_giveBack 17 = .ok (.ireturn, 1) := dk_172 (dk_at dksX0_giveBack_0 17 rfl rfl)
theorem dX0_giveBack_18 : decode cX0_giveBack 18 = .ok (.iconst 0, 1) := dk_3 (dk_at dksX0_giveBack_0 18 rfl rfl)
theorem dX0_giveBack_19 : decode cX0_giveBack 19 = .ok (.ireturn, 1) := dk_172 (dk_at dksX0_giveBack_0 19 rfl rfl)
abbrev cX0_room : ByteArray := method_12_code
def yX0_room : MethodName := ⟨RX0, "room", "(LBlockPapers;II[J)I"⟩
def dkwX0_room_0 : List UInt8 := [45, 3, 42, 27, 28, 182, 0, 46, 133, 80, 167, 0, 11, 58, 4, 4, 172, 58, 4, 5, 172, 3, 172]
abbrev dktX0_room_0 : List UInt8 := dkwX0_room_0 ++ []
theorem dksX0_room_0 : cX0_room.data.toList.drop 0 = dktX0_room_0 := by decide +kernel
theorem dX0_room_0 : decode cX0_room 0 = .ok (.aload_n 3, 1) := dk_45 (dk_at dksX0_room_0 0 rfl rfl)
theorem dX0_room_1 : decode cX0_room 1 = .ok (.iconst 0, 1) := dk_3 (dk_at dksX0_room_0 1 rfl rfl)
theorem dX0_room_2 : decode cX0_room 2 = .ok (.aload_n 0, 1) := dk_42 (dk_at dksX0_room_0 2 rfl rfl)
theorem dX0_room_3 : decode cX0_room 3 = .ok (.iload_n 1, 1) := dk_27 (dk_at dksX0_room_0 3 rfl rfl)
theorem dX0_room_4 : decode cX0_room 4 = .ok (.iload_n 2, 1) := dk_28 (dk_at dksX0_room_0 4 rfl rfl)
theorem dX0_room_5 : decode cX0_room 5 = .ok (.invokevirtual 46, 3) := dk_182 0 46 (dk_at dksX0_room_0 5 rfl rfl)
theorem dX0_room_8 : decode cX0_room 8 = .ok (.i2l, 1) := dk_133 (dk_at dksX0_room_0 8 rfl rfl)
theorem dX0_room_9 : decode cX0_room 9 = .ok (.lastore, 1) := dk_80 (dk_at dksX0_room_0 9 rfl rfl)
theorem dX0_room_10 : decode cX0_room 10 = .ok (.goto 11, 3) := dk_167 0 11 (dk_at dksX0_room_0 10 rfl rfl)
theorem dX0_room_13 : decode cX0_room 13 = .ok (.astore 4, 2) := dk_58 4 (dk_at dksX0_room_0 13 rfl rfl)
theorem dX0_room_15 : decode cX0_room 15 = .ok (.iconst 1, 1) := dk_4 (dk_at dksX0_room_0 15 rfl rfl)
theorem dX0_room_16 : decode cX0_room 16 = .ok (.ireturn, 1) := dk_172 (dk_at dksX0_room_0 16 rfl rfl)
theorem dX0_room_17 : decode cX0_room 17 = .ok (.astore 4, 2) := dk_58 4 (dk_at dksX0_room_0 17 rfl rfl)
theorem dX0_room_19 : decode cX0_room 19 = .ok (.iconst 2, 1) := dk_5 (dk_at dksX0_room_0 19 rfl rfl)
theorem dX0_room_20 : decode cX0_room 20 = .ok (.ireturn, 1) := dk_172 (dk_at dksX0_room_0 20 rfl rfl)
theorem dX0_room_21 : decode cX0_room 21 = .ok (.iconst 0, 1) := dk_3 (dk_at dksX0_room_0 21 rfl rfl)
theorem dX0_room_22 : decode cX0_room 22 = .ok (.ireturn, 1) := dk_172 (dk_at dksX0_room_0 22 rfl rfl)
abbrev cX0_roomOf : ByteArray := method_13_code
def yX0_roomOf : MethodName := ⟨RX0, "roomOf", "(LBlockPapers;II[J)I"⟩
def dkwX0_roomOf_0 : List UInt8 := [45, 3, 42, 27, 28, 182, 0, 49, 133, 80, 167, 0, 11, 58, 4, 4, 172, 58, 4, 5, 172, 3, 172]
abbrev dktX0_roomOf_0 : List UInt8 := dkwX0_roomOf_0 ++ []
theorem dksX0_roomOf_0 : cX0_roomOf.data.toList.drop 0 = dktX0_roomOf_0 := by decide +kernel
theorem dX0_roomOf_0 : decode cX0_roomOf 0 = .ok (.aload_n 3, 1) := dk_45 (dk_at dksX0_roomOf_0 0 rfl rfl)
theorem dX0_roomOf_1 : decode cX0_roomOf 1 = .ok (.iconst 0, 1) := dk_3 (dk_at dksX0_roomOf_0 1 rfl rfl)
theorem dX0_roomOf_2 : decode cX0_roomOf 2 = .ok (.aload_n 0, 1) := dk_42 (dk_at dksX0_roomOf_0 2 rfl rfl)
theorem dX0_roomOf_3 : decode cX0_roomOf 3 = .ok (.iload_n 1, 1) := dk_27 (dk_at dksX0_roomOf_0 3 rfl rfl)
theorem dX0_roomOf_4 : decode cX0_roomOf 4 = .ok (.iload_n 2, 1) := dk_28 (dk_at dksX0_roomOf_0 4 rfl rfl)
theorem dX0_roomOf_5 : decode cX0_roomOf 5 = .ok (.invokevirtual 49, 3) := dk_182 0 49 (dk_at dksX0_roomOf_0 5 rfl rfl)
theorem dX0_roomOf_8 : decode cX0_roomOf 8 = .ok (.i2l, 1) := dk_133 (dk_at dksX0_roomOf_0 8 rfl rfl)
theorem dX0_roomOf_9 : decode cX0_roomOf 9 = .ok (.lastore, 1) := dk_80 (dk_at dksX0_roomOf_0 9 rfl rfl)
theorem dX0_roomOf_10 : decode cX0_roomOf 10 = .ok (.goto 11, 3) := dk_167 0 11 (dk_at dksX0_roomOf_0 10 rfl rfl)
theorem dX0_roomOf_13 : decode cX0_roomOf 13 = .ok (.astore 4, 2) := dk_58 4 (dk_at dksX0_roomOf_0 13 rfl rfl)
theorem dX0_roomOf_15 : decode cX0_roomOf 15 = .ok (.iconst 1, 1) := dk_4 (dk_at dksX0_roomOf_0 15 rfl rfl)
theorem dX0_roomOf_16 : decode cX0_roomOf 16 = .ok (.ireturn, 1) := dk_172 (dk_at dksX0_roomOf_0 16 rfl rfl)
theorem dX0_roomOf_17 : decode cX0_roomOf 17 = .ok (.astore 4, 2) := dk_58 4 (dk_at dksX0_roomOf_0 17 rfl rfl)
theorem dX0_roomOf_19 : decode cX0_roomOf 19 = .ok (.iconst 2, 1) := dk_5 (dk_at dksX0_roomOf_0 19 rfl rfl)
theorem dX0_roomOf_20 : decode cX0_roomOf 20 = .ok (.ireturn, 1) := dk_172 (dk_at dksX0_roomOf_0 20 rfl rfl)
theorem dX0_roomOf_21 : decode cX0_roomOf 21 = .ok (.iconst 0, 1) := dk_3 (dk_at dksX0_roomOf_0 21 rfl rfl)
theorem dX0_roomOf_22 : decode cX0_roomOf 22 = .ok (.ireturn, 1) := dk_172 (dk_at dksX0_roomOf_0 22 rfl rfl)
abbrev cX0_dropOf : ByteArray := method_14_code
def yX0_dropOf : MethodName := ⟨RX0, "dropOf", "(LBlockPapers;III[J)I"⟩
def dkwX0_dropOf_1 : List UInt8 := [58, 5, 6, 172, 3, 172]
abbrev dktX0_dropOf_1 : List UInt8 := dkwX0_dropOf_1 ++ []
def dkwX0_dropOf_0 : List UInt8 := [25, 4, 3, 42, 27, 28, 29, 182, 0, 52, 133, 80, 167, 0, 15, 58, 5, 4, 172, 58, 5, 5, 172]
abbrev dktX0_dropOf_0 : List UInt8 := dkwX0_dropOf_0 ++ dktX0_dropOf_1
theorem dksX0_dropOf_0 : cX0_dropOf.data.toList.drop 0 = dktX0_dropOf_0 := by decide +kernel
theorem dksX0_dropOf_1 : cX0_dropOf.data.toList.drop 23 = dktX0_dropOf_1 := dk_seg dksX0_dropOf_0 23 rfl rfl
theorem dX0_dropOf_0 : decode cX0_dropOf 0 = .ok (.aload 4, 2) := dk_25 4 (dk_at dksX0_dropOf_0 0 rfl rfl)
theorem dX0_dropOf_2 : decode cX0_dropOf 2 = .ok (.iconst 0, 1) := dk_3 (dk_at dksX0_dropOf_0 2 rfl rfl)
theorem dX0_dropOf_3 : decode cX0_dropOf 3 = .ok (.aload_n 0, 1) := dk_42 (dk_at dksX0_dropOf_0 3 rfl rfl)
theorem dX0_dropOf_4 : decode cX0_dropOf 4 = .ok (.iload_n 1, 1) := dk_27 (dk_at dksX0_dropOf_0 4 rfl rfl)
theorem dX0_dropOf_5 : decode cX0_dropOf 5 = .ok (.iload_n 2, 1) := dk_28 (dk_at dksX0_dropOf_0 5 rfl rfl)
theorem dX0_dropOf_6 : decode cX0_dropOf 6 = .ok (.iload_n 3, 1) := dk_29 (dk_at dksX0_dropOf_0 6 rfl rfl)
theorem dX0_dropOf_7 : decode cX0_dropOf 7 = .ok (.invokevirtual 52, 3) := dk_182 0 52 (dk_at dksX0_dropOf_0 7 rfl rfl)
theorem dX0_dropOf_10 : decode cX0_dropOf 10 = .ok (.i2l, 1) := dk_133 (dk_at dksX0_dropOf_0 10 rfl rfl)
theorem dX0_dropOf_11 : decode cX0_dropOf 11 = .ok (.lastore, 1) := dk_80 (dk_at dksX0_dropOf_0 11 rfl rfl)
theorem dX0_dropOf_12 : decode cX0_dropOf 12 = .ok (.goto 15, 3) := dk_167 0 15 (dk_at dksX0_dropOf_0 12 rfl rfl)
theorem dX0_dropOf_15 : decode cX0_dropOf 15 = .ok (.astore 5, 2) := dk_58 5 (dk_at dksX0_dropOf_0 15 rfl rfl)
theorem dX0_dropOf_17 : decode cX0_dropOf 17 = .ok (.iconst 1, 1) := dk_4 (dk_at dksX0_dropOf_0 17 rfl rfl)
theorem dX0_dropOf_18 : decode cX0_dropOf 18 = .ok (.ireturn, 1) := dk_172 (dk_at dksX0_dropOf_0 18 rfl rfl)
theorem dX0_dropOf_19 : decode cX0_dropOf 19 = .ok (.astore 5, 2) := dk_58 5 (dk_at dksX0_dropOf_0 19 rfl rfl)
theorem dX0_dropOf_21 : decode cX0_dropOf 21 = .ok (.iconst 2, 1) := dk_5 (dk_at dksX0_dropOf_0 21 rfl rfl)
theorem dX0_dropOf_22 : decode cX0_dropOf 22 = .ok (.ireturn, 1) := dk_172 (dk_at dksX0_dropOf_0 22 rfl rfl)
theorem dX0_dropOf_23 : decode cX0_dropOf 23 = .ok (.astore 5, 2) := dk_58 5 (dk_at dksX0_dropOf_1 0 rfl rfl)
theorem dX0_dropOf_25 : decode cX0_dropOf 25 = .ok (.iconst 3, 1) := dk_6 (dk_at dksX0_dropOf_1 2 rfl rfl)
theorem dX0_dropOf_26 : decode cX0_dropOf 26 = .ok (.ireturn, 1) := dk_172 (dk_at dksX0_dropOf_1 3 rfl rfl)
theorem dX0_dropOf_27 : decode cX0_dropOf 27 = .ok (.iconst 0, 1) := dk_3 (dk_at dksX0_dropOf_1 4 rfl rfl)
theorem dX0_dropOf_28 : decode cX0_dropOf 28 = .ok (.ireturn, 1) := dk_172 (dk_at dksX0_dropOf_1 5 rfl rfl)
abbrev cX0_hang : ByteArray := method_15_code
def yX0_hang : MethodName := ⟨RX0, "hang", "(LBlockPapers;II[J)I"⟩
def dkwX0_hang_0 : List UInt8 := [45, 3, 42, 27, 28, 182, 0, 57, 133, 80, 167, 0, 11, 58, 4, 4, 172, 58, 4, 5, 172, 3, 172]
abbrev dktX0_hang_0 : List UInt8 := dkwX0_hang_0 ++ []
theorem dksX0_hang_0 : cX0_hang.data.toList.drop 0 = dktX0_hang_0 := by decide +kernel
theorem dX0_hang_0 : decode cX0_hang 0 = .ok (.aload_n 3, 1) := dk_45 (dk_at dksX0_hang_0 0 rfl rfl)
theorem dX0_hang_1 : decode cX0_hang 1 = .ok (.iconst 0, 1) := dk_3 (dk_at dksX0_hang_0 1 rfl rfl)
theorem dX0_hang_2 : decode cX0_hang 2 = .ok (.aload_n 0, 1) := dk_42 (dk_at dksX0_hang_0 2 rfl rfl)
theorem dX0_hang_3 : decode cX0_hang 3 = .ok (.iload_n 1, 1) := dk_27 (dk_at dksX0_hang_0 3 rfl rfl)
theorem dX0_hang_4 : decode cX0_hang 4 = .ok (.iload_n 2, 1) := dk_28 (dk_at dksX0_hang_0 4 rfl rfl)
theorem dX0_hang_5 : decode cX0_hang 5 = .ok (.invokevirtual 57, 3) := dk_182 0 57 (dk_at dksX0_hang_0 5 rfl rfl)
theorem dX0_hang_8 : decode cX0_hang 8 = .ok (.i2l, 1) := dk_133 (dk_at dksX0_hang_0 8 rfl rfl)
theorem dX0_hang_9 : decode cX0_hang 9 = .ok (.lastore, 1) := dk_80 (dk_at dksX0_hang_0 9 rfl rfl)
theorem dX0_hang_10 : decode cX0_hang 10 = .ok (.goto 11, 3) := dk_167 0 11 (dk_at dksX0_hang_0 10 rfl rfl)
theorem dX0_hang_13 : decode cX0_hang 13 = .ok (.astore 4, 2) := dk_58 4 (dk_at dksX0_hang_0 13 rfl rfl)
theorem dX0_hang_15 : decode cX0_hang 15 = .ok (.iconst 1, 1) := dk_4 (dk_at dksX0_hang_0 15 rfl rfl)
theorem dX0_hang_16 : decode cX0_hang 16 = .ok (.ireturn, 1) := dk_172 (dk_at dksX0_hang_0 16 rfl rfl)
theorem dX0_hang_17 : decode cX0_hang 17 = .ok (.astore 4, 2) := dk_58 4 (dk_at dksX0_hang_0 17 rfl rfl)
theorem dX0_hang_19 : decode cX0_hang 19 = .ok (.iconst 2, 1) := dk_5 (dk_at dksX0_hang_0 19 rfl rfl)
theorem dX0_hang_20 : decode cX0_hang 20 = .ok (.ireturn, 1) := dk_172 (dk_at dksX0_hang_0 20 rfl rfl)
theorem dX0_hang_21 : decode cX0_hang 21 = .ok (.iconst 0, 1) := dk_3 (dk_at dksX0_hang_0 21 rfl rfl)
theorem dX0_hang_22 : decode cX0_hang 22 = .ok (.ireturn, 1) := dk_172 (dk_at dksX0_hang_0 22 rfl rfl)
abbrev cX0_why : ByteArray := method_16_code
def yX0_why : MethodName := ⟨RX0, "why", "(LBlockPapers;IIZ[J)I"⟩
def dkwX0_why_0 : List UInt8 := [25, 4, 3, 42, 27, 28, 29, 182, 0, 60, 133, 80, 167, 0, 7, 58, 5, 4, 172, 3, 172]
abbrev dktX0_why_0 : List UInt8 := dkwX0_why_0 ++ []
theorem dksX0_why_0 : cX0_why.data.toList.drop 0 = dktX0_why_0 := by decide +kernel
theorem dX0_why_0 : decode cX0_why 0 = .ok (.aload 4, 2) := dk_25 4 (dk_at dksX0_why_0 0 rfl rfl)
theorem dX0_why_2 : decode cX0_why 2 = .ok (.iconst 0, 1) := dk_3 (dk_at dksX0_why_0 2 rfl rfl)
theorem dX0_why_3 : decode cX0_why 3 = .ok (.aload_n 0, 1) := dk_42 (dk_at dksX0_why_0 3 rfl rfl)
theorem dX0_why_4 : decode cX0_why 4 = .ok (.iload_n 1, 1) := dk_27 (dk_at dksX0_why_0 4 rfl rfl)
theorem dX0_why_5 : decode cX0_why 5 = .ok (.iload_n 2, 1) := dk_28 (dk_at dksX0_why_0 5 rfl rfl)
theorem dX0_why_6 : decode cX0_why 6 = .ok (.iload_n 3, 1) := dk_29 (dk_at dksX0_why_0 6 rfl rfl)
theorem dX0_why_7 : decode cX0_why 7 = .ok (.invokevirtual 60, 3) := dk_182 0 60 (dk_at dksX0_why_0 7 rfl rfl)
theorem dX0_why_10 : decode cX0_why 10 = .ok (.i2l, 1) := dk_133 (dk_at dksX0_why_0 10 rfl rfl)
theorem dX0_why_11 : decode cX0_why 11 = .ok (.lastore, 1) := dk_80 (dk_at dksX0_why_0 11 rfl rfl)
theorem dX0_why_12 : decode cX0_why 12 = .ok (.goto 7, 3) := dk_167 0 7 (dk_at dksX0_why_0 12 rfl rfl)
theorem dX0_why_15 : decode cX0_why 15 = .ok (.astore 5, 2) := dk_58 5 (dk_at dksX0_why_0 15 rfl rfl)
theorem dX0_why_17 : decode cX0_why 17 = .ok (.iconst 1, 1) := dk_4 (dk_at dksX0_why_0 17 rfl rfl)
theorem dX0_why_18 : decode cX0_why 18 = .ok (.ireturn, 1) := dk_172 (dk_at dksX0_why_0 18 rfl rfl)
theorem dX0_why_19 : decode cX0_why 19 = .ok (.iconst 0, 1) := dk_3 (dk_at dksX0_why_0 19 rfl rfl)
theorem dX0_why_20 : decode cX0_why 20 = .ok (.ireturn, 1) := dk_172 (dk_at dksX0_why_0 20 rfl rfl)
abbrev cX0_strip : ByteArray := method_17_code
def yX0_strip : MethodName := ⟨RX0, "strip", "(LBlockPapers;I[J)I"⟩
def dkwX0_strip_0 : List UInt8 := [44, 3, 42, 27, 182, 0, 64, 133, 80, 167, 0, 9, 78, 4, 172, 78, 5, 172, 3, 172]
abbrev dktX0_strip_0 : List UInt8 := dkwX0_strip_0 ++ []
theorem dksX0_strip_0 : cX0_strip.data.toList.drop 0 = dktX0_strip_0 := by decide +kernel
theorem dX0_strip_0 : decode cX0_strip 0 = .ok (.aload_n 2, 1) := dk_44 (dk_at dksX0_strip_0 0 rfl rfl)
theorem dX0_strip_1 : decode cX0_strip 1 = .ok (.iconst 0, 1) := dk_3 (dk_at dksX0_strip_0 1 rfl rfl)
theorem dX0_strip_2 : decode cX0_strip 2 = .ok (.aload_n 0, 1) := dk_42 (dk_at dksX0_strip_0 2 rfl rfl)
theorem dX0_strip_3 : decode cX0_strip 3 = .ok (.iload_n 1, 1) := dk_27 (dk_at dksX0_strip_0 3 rfl rfl)
theorem dX0_strip_4 : decode cX0_strip 4 = .ok (.invokevirtual 64, 3) := dk_182 0 64 (dk_at dksX0_strip_0 4 rfl rfl)
theorem dX0_strip_7 : decode cX0_strip 7 = .ok (.i2l, 1) := dk_133 (dk_at dksX0_strip_0 7 rfl rfl)
theorem dX0_strip_8 : decode cX0_strip 8 = .ok (.lastore, 1) := dk_80 (dk_at dksX0_strip_0 8 rfl rfl)
theorem dX0_strip_9 : decode cX0_strip 9 = .ok (.goto 9, 3) := dk_167 0 9 (dk_at dksX0_strip_0 9 rfl rfl)
theorem dX0_strip_12 : decode cX0_strip 12 = .ok (.astore_n 3, 1) := dk_78 (dk_at dksX0_strip_0 12 rfl rfl)
theorem dX0_strip_13 : decode cX0_strip 13 = .ok (.iconst 1, 1) := dk_4 (dk_at dksX0_strip_0 13 rfl rfl)
theorem dX0_strip_14 : decode cX0_strip 14 = .ok (.ireturn, 1) := dk_172 (dk_at dksX0_strip_0 14 rfl rfl)
theorem dX0_strip_15 : decode cX0_strip 15 = .ok (.astore_n 3, 1) := dk_78 (dk_at dksX0_strip_0 15 rfl rfl)
theorem dX0_strip_16 : decode cX0_strip 16 = .ok (.iconst 2, 1) := dk_5 (dk_at dksX0_strip_0 16 rfl rfl)
theorem dX0_strip_17 : decode cX0_strip 17 = .ok (.ireturn, 1) := dk_172 (dk_at dksX0_strip_0 17 rfl rfl)
theorem dX0_strip_18 : decode cX0_strip 18 = .ok (.iconst 0, 1) := dk_3 (dk_at dksX0_strip_0 18 rfl rfl)
theorem dX0_strip_19 : decode cX0_strip 19 = .ok (.ireturn, 1) := dk_172 (dk_at dksX0_strip_0 19 rfl rfl)
abbrev cX0_isMatched : ByteArray := method_18_code
def yX0_isMatched : MethodName := ⟨RX0, "isMatched", "(LBlockPapers;I[J)I"⟩
def dkwX0_isMatched_0 : List UInt8 := [44, 3, 42, 27, 182, 0, 67, 153, 0, 7, 10, 167, 0, 4, 9, 80, 167, 0, 6, 78, 4, 172, 3, 172]
abbrev dktX0_isMatched_0 : List UInt8 := dkwX0_isMatched_0 ++ []
theorem dksX0_isMatched_0 : cX0_isMatched.data.toList.drop 0 = dktX0_isMatched_0 := by decide +kernel
theorem dX0_isMatched_0 : decode cX0_isMatched 0 = .ok (.aload_n 2, 1) := dk_44 (dk_at dksX0_isMatched_0 0 rfl rfl)
theorem dX0_isMatched_1 : decode cX0_isMatched 1 = .ok (.iconst 0, 1) := dk_3 (dk_at dksX0_isMatched_0 1 rfl rfl)
theorem dX0_isMatched_2 : decode cX0_isMatched 2 = .ok (.aload_n 0, 1) := dk_42 (dk_at dksX0_isMatched_0 2 rfl rfl)
theorem dX0_isMatched_3 : decode cX0_isMatched 3 = .ok (.iload_n 1, 1) := dk_27 (dk_at dksX0_isMatched_0 3 rfl rfl)
theorem dX0_isMatched_4 : decode cX0_isMatched 4 = .ok (.invokevirtual 67, 3) := dk_182 0 67 (dk_at dksX0_isMatched_0 4 rfl rfl)
theorem dX0_isMatched_7 : decode cX0_isMatched 7 = .ok (.ifCond .eq 7, 3) := dk_153 0 7 (dk_at dksX0_isMatched_0 7 rfl rfl)
theorem dX0_isMatched_10 : decode cX0_isMatched 10 = .ok (.lconst 1, 1) := dk_10 (dk_at dksX0_isMatched_0 10 rfl rfl)
theorem dX0_isMatched_11 : decode cX0_isMatched 11 = .ok (.goto 4, 3) := dk_167 0 4 (dk_at dksX0_isMatched_0 11 rfl rfl)
theorem dX0_isMatched_14 : decode cX0_isMatched 14 = .ok (.lconst 0, 1) := dk_9 (dk_at dksX0_isMatched_0 14 rfl rfl)
theorem dX0_isMatched_15 : decode cX0_isMatched 15 = .ok (.lastore, 1) := dk_80 (dk_at dksX0_isMatched_0 15 rfl rfl)
theorem dX0_isMatched_16 : decode cX0_isMatched 16 = .ok (.goto 6, 3) := dk_167 0 6 (dk_at dksX0_isMatched_0 16 rfl rfl)
theorem dX0_isMatched_19 : decode cX0_isMatched 19 = .ok (.astore_n 3, 1) := dk_78 (dk_at dksX0_isMatched_0 19 rfl rfl)
theorem dX0_isMatched_20 : decode cX0_isMatched 20 = .ok (.iconst 1, 1) := dk_4 (dk_at dksX0_isMatched_0 20 rfl rfl)
theorem dX0_isMatched_21 : decode cX0_isMatched 21 = .ok (.ireturn, 1) := dk_172 (dk_at dksX0_isMatched_0 21 rfl rfl)
theorem dX0_isMatched_22 : decode cX0_isMatched 22 = .ok (.iconst 0, 1) := dk_3 (dk_at dksX0_isMatched_0 22 rfl rfl)
theorem dX0_isMatched_23 : decode cX0_isMatched 23 = .ok (.ireturn, 1) := dk_172 (dk_at dksX0_isMatched_0 23 rfl rfl)
abbrev cX0_bestRoll : ByteArray := method_19_code
def yX0_bestRoll : MethodName := ⟨RX0, "bestRoll", "(LBlockPapers;I[J)I"⟩
def dkwX0_bestRoll_0 : List UInt8 := [44, 3, 42, 27, 182, 0, 71, 133, 80, 167, 0, 9, 78, 4, 172, 78, 5, 172, 3, 172]
abbrev dktX0_bestRoll_0 : List UInt8 := dkwX0_bestRoll_0 ++ []
theorem dksX0_bestRoll_0 : cX0_bestRoll.data.toList.drop 0 = dktX0_bestRoll_0 := by decide +kernel
theorem dX0_bestRoll_0 : decode cX0_bestRoll 0 = .ok (.aload_n 2, 1) := dk_44 (dk_at dksX0_bestRoll_0 0 rfl rfl)
theorem dX0_bestRoll_1 : decode cX0_bestRoll 1 = .ok (.iconst 0, 1) := dk_3 (dk_at dksX0_bestRoll_0 1 rfl rfl)
theorem dX0_bestRoll_2 : decode cX0_bestRoll 2 = .ok (.aload_n 0, 1) := dk_42 (dk_at dksX0_bestRoll_0 2 rfl rfl)
theorem dX0_bestRoll_3 : decode cX0_bestRoll 3 = .ok (.iload_n 1, 1) := dk_27 (dk_at dksX0_bestRoll_0 3 rfl rfl)
theorem dX0_bestRoll_4 : decode cX0_bestRoll 4 = .ok (.invokevirtual 71, 3) := dk_182 0 71 (dk_at dksX0_bestRoll_0 4 rfl rfl)
theorem dX0_bestRoll_7 : decode cX0_bestRoll 7 = .ok (.i2l, 1) := dk_133 (dk_at dksX0_bestRoll_0 7 rfl rfl)
theorem dX0_bestRoll_8 : decode cX0_bestRoll 8 = .ok (.lastore, 1) := dk_80 (dk_at dksX0_bestRoll_0 8 rfl rfl)
theorem dX0_bestRoll_9 : decode cX0_bestRoll 9 = .ok (.goto 9, 3) := dk_167 0 9 (dk_at dksX0_bestRoll_0 9 rfl rfl)
theorem dX0_bestRoll_12 : decode cX0_bestRoll 12 = .ok (.astore_n 3, 1) := dk_78 (dk_at dksX0_bestRoll_0 12 rfl rfl)
theorem dX0_bestRoll_13 : decode cX0_bestRoll 13 = .ok (.iconst 1, 1) := dk_4 (dk_at dksX0_bestRoll_0 13 rfl rfl)
theorem dX0_bestRoll_14 : decode cX0_bestRoll 14 = .ok (.ireturn, 1) := dk_172 (dk_at dksX0_bestRoll_0 14 rfl rfl)
theorem dX0_bestRoll_15 : decode cX0_bestRoll 15 = .ok (.astore_n 3, 1) := dk_78 (dk_at dksX0_bestRoll_0 15 rfl rfl)
theorem dX0_bestRoll_16 : decode cX0_bestRoll 16 = .ok (.iconst 2, 1) := dk_5 (dk_at dksX0_bestRoll_0 16 rfl rfl)
theorem dX0_bestRoll_17 : decode cX0_bestRoll 17 = .ok (.ireturn, 1) := dk_172 (dk_at dksX0_bestRoll_0 17 rfl rfl)
theorem dX0_bestRoll_18 : decode cX0_bestRoll 18 = .ok (.iconst 0, 1) := dk_3 (dk_at dksX0_bestRoll_0 18 rfl rfl)
theorem dX0_bestRoll_19 : decode cX0_bestRoll 19 = .ok (.ireturn, 1) := dk_172 (dk_at dksX0_bestRoll_0 19 rfl rfl)
abbrev cX0_finish : ByteArray := method_20_code
def yX0_finish : MethodName := ⟨RX0, "finish", "(LBlockPapers;I[J)I"⟩
def dkwX0_finish_0 : List UInt8 := [44, 3, 42, 27, 182, 0, 74, 133, 80, 167, 0, 9, 78, 4, 172, 78, 5, 172, 3, 172]
abbrev dktX0_finish_0 : List UInt8 := dkwX0_finish_0 ++ []
theorem dksX0_finish_0 : cX0_finish.data.toList.drop 0 = dktX0_finish_0 := by decide +kernel
theorem dX0_finish_0 : decode cX0_finish 0 = .ok (.aload_n 2, 1) := dk_44 (dk_at dksX0_finish_0 0 rfl rfl)
theorem dX0_finish_1 : decode cX0_finish 1 = .ok (.iconst 0, 1) := dk_3 (dk_at dksX0_finish_0 1 rfl rfl)
theorem dX0_finish_2 : decode cX0_finish 2 = .ok (.aload_n 0, 1) := dk_42 (dk_at dksX0_finish_0 2 rfl rfl)
theorem dX0_finish_3 : decode cX0_finish 3 = .ok (.iload_n 1, 1) := dk_27 (dk_at dksX0_finish_0 3 rfl rfl)
theorem dX0_finish_4 : decode cX0_finish 4 = .ok (.invokevirtual 74, 3) := dk_182 0 74 (dk_at dksX0_finish_0 4 rfl rfl)
theorem dX0_finish_7 : decode cX0_finish 7 = .ok (.i2l, 1) := dk_133 (dk_at dksX0_finish_0 7 rfl rfl)
theorem dX0_finish_8 : decode cX0_finish 8 = .ok (.lastore, 1) := dk_80 (dk_at dksX0_finish_0 8 rfl rfl)
theorem dX0_finish_9 : decode cX0_finish 9 = .ok (.goto 9, 3) := dk_167 0 9 (dk_at dksX0_finish_0 9 rfl rfl)
theorem dX0_finish_12 : decode cX0_finish 12 = .ok (.astore_n 3, 1) := dk_78 (dk_at dksX0_finish_0 12 rfl rfl)
theorem dX0_finish_13 : decode cX0_finish 13 = .ok (.iconst 1, 1) := dk_4 (dk_at dksX0_finish_0 13 rfl rfl)
theorem dX0_finish_14 : decode cX0_finish 14 = .ok (.ireturn, 1) := dk_172 (dk_at dksX0_finish_0 14 rfl rfl)
theorem dX0_finish_15 : decode cX0_finish 15 = .ok (.astore_n 3, 1) := dk_78 (dk_at dksX0_finish_0 15 rfl rfl)
theorem dX0_finish_16 : decode cX0_finish 16 = .ok (.iconst 2, 1) := dk_5 (dk_at dksX0_finish_0 16 rfl rfl)
theorem dX0_finish_17 : decode cX0_finish 17 = .ok (.ireturn, 1) := dk_172 (dk_at dksX0_finish_0 17 rfl rfl)
theorem dX0_finish_18 : decode cX0_finish 18 = .ok (.iconst 0, 1) := dk_3 (dk_at dksX0_finish_0 18 rfl rfl)
theorem dX0_finish_19 : decode cX0_finish 19 = .ok (.ireturn, 1) := dk_172 (dk_at dksX0_finish_0 19 rfl rfl)
abbrev cX0_dropsFrom : ByteArray := method_21_code
def yX0_dropsFrom : MethodName := ⟨RX0, "dropsFrom", "(LBlockPapers;II[J)I"⟩
def dkwX0_dropsFrom_0 : List UInt8 := [45, 3, 42, 27, 28, 182, 0, 77, 133, 80, 167, 0, 7, 58, 4, 4, 172, 3, 172]
abbrev dktX0_dropsFrom_0 : List UInt8 := dkwX0_dropsFrom_0 ++ []
theorem dksX0_dropsFrom_0 : cX0_dropsFrom.data.toList.drop 0 = dktX0_dropsFrom_0 := by decide +kernel
theorem dX0_dropsFrom_0 : decode cX0_dropsFrom 0 = .ok (.aload_n 3, 1) := dk_45 (dk_at dksX0_dropsFrom_0 0 rfl rfl)
theorem dX0_dropsFrom_1 : decode cX0_dropsFrom 1 = .ok (.iconst 0, 1) := dk_3 (dk_at dksX0_dropsFrom_0 1 rfl rfl)
theorem dX0_dropsFrom_2 : decode cX0_dropsFrom 2 = .ok (.aload_n 0, 1) := dk_42 (dk_at dksX0_dropsFrom_0 2 rfl rfl)
theorem dX0_dropsFrom_3 : decode cX0_dropsFrom 3 = .ok (.iload_n 1, 1) := dk_27 (dk_at dksX0_dropsFrom_0 3 rfl rfl)
theorem dX0_dropsFrom_4 : decode cX0_dropsFrom 4 = .ok (.iload_n 2, 1) := dk_28 (dk_at dksX0_dropsFrom_0 4 rfl rfl)
theorem dX0_dropsFrom_5 : decode cX0_dropsFrom 5 = .ok (.invokevirtual 77, 3) := dk_182 0 77 (dk_at dksX0_dropsFrom_0 5 rfl rfl)
theorem dX0_dropsFrom_8 : decode cX0_dropsFrom 8 = .ok (.i2l, 1) := dk_133 (dk_at dksX0_dropsFrom_0 8 rfl rfl)
theorem dX0_dropsFrom_9 : decode cX0_dropsFrom 9 = .ok (.lastore, 1) := dk_80 (dk_at dksX0_dropsFrom_0 9 rfl rfl)
theorem dX0_dropsFrom_10 : decode cX0_dropsFrom 10 = .ok (.goto 7, 3) := dk_167 0 7 (dk_at dksX0_dropsFrom_0 10 rfl rfl)
theorem dX0_dropsFrom_13 : decode cX0_dropsFrom 13 = .ok (.astore 4, 2) := dk_58 4 (dk_at dksX0_dropsFrom_0 13 rfl rfl)
theorem dX0_dropsFrom_15 : decode cX0_dropsFrom 15 = .ok (.iconst 1, 1) := dk_4 (dk_at dksX0_dropsFrom_0 15 rfl rfl)
theorem dX0_dropsFrom_16 : decode cX0_dropsFrom 16 = .ok (.ireturn, 1) := dk_172 (dk_at dksX0_dropsFrom_0 16 rfl rfl)
theorem dX0_dropsFrom_17 : decode cX0_dropsFrom 17 = .ok (.iconst 0, 1) := dk_3 (dk_at dksX0_dropsFrom_0 17 rfl rfl)
theorem dX0_dropsFrom_18 : decode cX0_dropsFrom 18 = .ok (.ireturn, 1) := dk_172 (dk_at dksX0_dropsFrom_0 18 rfl rfl)
abbrev cX0_dropsAgain : ByteArray := method_22_code
def yX0_dropsAgain : MethodName := ⟨RX0, "dropsAgain", "(LBlockPapers;II[J)I"⟩
def dkwX0_dropsAgain_0 : List UInt8 := [45, 3, 42, 27, 28, 182, 0, 80, 133, 80, 167, 0, 7, 58, 4, 4, 172, 3, 172]
abbrev dktX0_dropsAgain_0 : List UInt8 := dkwX0_dropsAgain_0 ++ []
theorem dksX0_dropsAgain_0 : cX0_dropsAgain.data.toList.drop 0 = dktX0_dropsAgain_0 := by decide +kernel
theorem dX0_dropsAgain_0 : decode cX0_dropsAgain 0 = .ok (.aload_n 3, 1) := dk_45 (dk_at dksX0_dropsAgain_0 0 rfl rfl)
theorem dX0_dropsAgain_1 : decode cX0_dropsAgain 1 = .ok (.iconst 0, 1) := dk_3 (dk_at dksX0_dropsAgain_0 1 rfl rfl)
theorem dX0_dropsAgain_2 : decode cX0_dropsAgain 2 = .ok (.aload_n 0, 1) := dk_42 (dk_at dksX0_dropsAgain_0 2 rfl rfl)
theorem dX0_dropsAgain_3 : decode cX0_dropsAgain 3 = .ok (.iload_n 1, 1) := dk_27 (dk_at dksX0_dropsAgain_0 3 rfl rfl)
theorem dX0_dropsAgain_4 : decode cX0_dropsAgain 4 = .ok (.iload_n 2, 1) := dk_28 (dk_at dksX0_dropsAgain_0 4 rfl rfl)
theorem dX0_dropsAgain_5 : decode cX0_dropsAgain 5 = .ok (.invokevirtual 80, 3) := dk_182 0 80 (dk_at dksX0_dropsAgain_0 5 rfl rfl)
theorem dX0_dropsAgain_8 : decode cX0_dropsAgain 8 = .ok (.i2l, 1) := dk_133 (dk_at dksX0_dropsAgain_0 8 rfl rfl)
theorem dX0_dropsAgain_9 : decode cX0_dropsAgain 9 = .ok (.lastore, 1) := dk_80 (dk_at dksX0_dropsAgain_0 9 rfl rfl)
theorem dX0_dropsAgain_10 : decode cX0_dropsAgain 10 = .ok (.goto 7, 3) := dk_167 0 7 (dk_at dksX0_dropsAgain_0 10 rfl rfl)
theorem dX0_dropsAgain_13 : decode cX0_dropsAgain 13 = .ok (.astore 4, 2) := dk_58 4 (dk_at dksX0_dropsAgain_0 13 rfl rfl)
theorem dX0_dropsAgain_15 : decode cX0_dropsAgain 15 = .ok (.iconst 1, 1) := dk_4 (dk_at dksX0_dropsAgain_0 15 rfl rfl)
theorem dX0_dropsAgain_16 : decode cX0_dropsAgain 16 = .ok (.ireturn, 1) := dk_172 (dk_at dksX0_dropsAgain_0 16 rfl rfl)
theorem dX0_dropsAgain_17 : decode cX0_dropsAgain 17 = .ok (.iconst 0, 1) := dk_3 (dk_at dksX0_dropsAgain_0 17 rfl rfl)
theorem dX0_dropsAgain_18 : decode cX0_dropsAgain 18 = .ok (.ireturn, 1) := dk_172 (dk_at dksX0_dropsAgain_0 18 rfl rfl)
abbrev cX0_line : ByteArray := method_23_code
def yX0_line : MethodName := ⟨RX0, "line", "(LBlockPapers;I[J)I"⟩
def dkwX0_line_0 : List UInt8 := [44, 3, 42, 27, 182, 0, 83, 133, 80, 167, 0, 6, 78, 4, 172, 3, 172]
abbrev dktX0_line_0 : List UInt8 := dkwX0_line_0 ++ []
theorem dksX0_line_0 : cX0_line.data.toList.drop 0 = dktX0_line_0 := by decide +kernel
theorem dX0_line_0 : decode cX0_line 0 = .ok (.aload_n 2, 1) := dk_44 (dk_at dksX0_line_0 0 rfl rfl)
theorem dX0_line_1 : decode cX0_line 1 = .ok (.iconst 0, 1) := dk_3 (dk_at dksX0_line_0 1 rfl rfl)
theorem dX0_line_2 : decode cX0_line 2 = .ok (.aload_n 0, 1) := dk_42 (dk_at dksX0_line_0 2 rfl rfl)
theorem dX0_line_3 : decode cX0_line 3 = .ok (.iload_n 1, 1) := dk_27 (dk_at dksX0_line_0 3 rfl rfl)
theorem dX0_line_4 : decode cX0_line 4 = .ok (.invokevirtual 83, 3) := dk_182 0 83 (dk_at dksX0_line_0 4 rfl rfl)
theorem dX0_line_7 : decode cX0_line 7 = .ok (.i2l, 1) := dk_133 (dk_at dksX0_line_0 7 rfl rfl)
theorem dX0_line_8 : decode cX0_line 8 = .ok (.lastore, 1) := dk_80 (dk_at dksX0_line_0 8 rfl rfl)
theorem dX0_line_9 : decode cX0_line 9 = .ok (.goto 6, 3) := dk_167 0 6 (dk_at dksX0_line_0 9 rfl rfl)
theorem dX0_line_12 : decode cX0_line 12 = .ok (.astore_n 3, 1) := dk_78 (dk_at dksX0_line_0 12 rfl rfl)
theorem dX0_line_13 : decode cX0_line 13 = .ok (.iconst 1, 1) := dk_4 (dk_at dksX0_line_0 13 rfl rfl)
theorem dX0_line_14 : decode cX0_line 14 = .ok (.ireturn, 1) := dk_172 (dk_at dksX0_line_0 14 rfl rfl)
theorem dX0_line_15 : decode cX0_line 15 = .ok (.iconst 0, 1) := dk_3 (dk_at dksX0_line_0 15 rfl rfl)
theorem dX0_line_16 : decode cX0_line 16 = .ok (.ireturn, 1) := dk_172 (dk_at dksX0_line_0 16 rfl rfl)
abbrev cX0_character : ByteArray := method_24_code
def yX0_character : MethodName := ⟨RX0, "character", "(LBlockPapers;I[J)I"⟩
def dkwX0_character_0 : List UInt8 := [44, 3, 42, 27, 182, 0, 86, 133, 80, 167, 0, 6, 78, 4, 172, 3, 172]
abbrev dktX0_character_0 : List UInt8 := dkwX0_character_0 ++ []
theorem dksX0_character_0 : cX0_character.data.toList.drop 0 = dktX0_character_0 := by decide +kernel
theorem dX0_character_0 : decode cX0_character 0 = .ok (.aload_n 2, 1) := dk_44 (dk_at dksX0_character_0 0 rfl rfl)
theorem dX0_character_1 : decode cX0_character 1 = .ok (.iconst 0, 1) := dk_3 (dk_at dksX0_character_0 1 rfl rfl)
theorem dX0_character_2 : decode cX0_character 2 = .ok (.aload_n 0, 1) := dk_42 (dk_at dksX0_character_0 2 rfl rfl)
theorem dX0_character_3 : decode cX0_character 3 = .ok (.iload_n 1, 1) := dk_27 (dk_at dksX0_character_0 3 rfl rfl)
theorem dX0_character_4 : decode cX0_character 4 = .ok (.invokevirtual 86, 3) := dk_182 0 86 (dk_at dksX0_character_0 4 rfl rfl)
theorem dX0_character_7 : decode cX0_character 7 = .ok (.i2l, 1) := dk_133 (dk_at dksX0_character_0 7 rfl rfl)
theorem dX0_character_8 : decode cX0_character 8 = .ok (.lastore, 1) := dk_80 (dk_at dksX0_character_0 8 rfl rfl)
theorem dX0_character_9 : decode cX0_character 9 = .ok (.goto 6, 3) := dk_167 0 6 (dk_at dksX0_character_0 9 rfl rfl)
theorem dX0_character_12 : decode cX0_character 12 = .ok (.astore_n 3, 1) := dk_78 (dk_at dksX0_character_0 12 rfl rfl)
theorem dX0_character_13 : decode cX0_character 13 = .ok (.iconst 1, 1) := dk_4 (dk_at dksX0_character_0 13 rfl rfl)
theorem dX0_character_14 : decode cX0_character 14 = .ok (.ireturn, 1) := dk_172 (dk_at dksX0_character_0 14 rfl rfl)
theorem dX0_character_15 : decode cX0_character 15 = .ok (.iconst 0, 1) := dk_3 (dk_at dksX0_character_0 15 rfl rfl)
theorem dX0_character_16 : decode cX0_character 16 = .ok (.ireturn, 1) := dk_172 (dk_at dksX0_character_0 16 rfl rfl)
abbrev cX0_number : ByteArray := method_25_code
def yX0_number : MethodName := ⟨RX0, "number", "(LBlockPapers;I[J)I"⟩
def dkwX0_number_0 : List UInt8 := [44, 3, 42, 27, 182, 0, 90, 133, 80, 167, 0, 6, 78, 4, 172, 3, 172]
abbrev dktX0_number_0 : List UInt8 := dkwX0_number_0 ++ []
theorem dksX0_number_0 : cX0_number.data.toList.drop 0 = dktX0_number_0 := by decide +kernel
theorem dX0_number_0 : decode cX0_number 0 = .ok (.aload_n 2, 1) := dk_44 (dk_at dksX0_number_0 0 rfl rfl)
theorem dX0_number_1 : decode cX0_number 1 = .ok (.iconst 0, 1) := dk_3 (dk_at dksX0_number_0 1 rfl rfl)
theorem dX0_number_2 : decode cX0_number 2 = .ok (.aload_n 0, 1) := dk_42 (dk_at dksX0_number_0 2 rfl rfl)
theorem dX0_number_3 : decode cX0_number 3 = .ok (.iload_n 1, 1) := dk_27 (dk_at dksX0_number_0 3 rfl rfl)
theorem dX0_number_4 : decode cX0_number 4 = .ok (.invokevirtual 90, 3) := dk_182 0 90 (dk_at dksX0_number_0 4 rfl rfl)
theorem dX0_number_7 : decode cX0_number 7 = .ok (.i2l, 1) := dk_133 (dk_at dksX0_number_0 7 rfl rfl)
theorem dX0_number_8 : decode cX0_number 8 = .ok (.lastore, 1) := dk_80 (dk_at dksX0_number_0 8 rfl rfl)
theorem dX0_number_9 : decode cX0_number 9 = .ok (.goto 6, 3) := dk_167 0 6 (dk_at dksX0_number_0 9 rfl rfl)
theorem dX0_number_12 : decode cX0_number 12 = .ok (.astore_n 3, 1) := dk_78 (dk_at dksX0_number_0 12 rfl rfl)
theorem dX0_number_13 : decode cX0_number 13 = .ok (.iconst 1, 1) := dk_4 (dk_at dksX0_number_0 13 rfl rfl)
theorem dX0_number_14 : decode cX0_number 14 = .ok (.ireturn, 1) := dk_172 (dk_at dksX0_number_0 14 rfl rfl)
theorem dX0_number_15 : decode cX0_number 15 = .ok (.iconst 0, 1) := dk_3 (dk_at dksX0_number_0 15 rfl rfl)
theorem dX0_number_16 : decode cX0_number 16 = .ok (.ireturn, 1) := dk_172 (dk_at dksX0_number_0 16 rfl rfl)
abbrev cX0_meanShade : ByteArray := method_26_code
def yX0_meanShade : MethodName := ⟨RX0, "meanShade", "(LBlockPapers;[D)I"⟩
def dkwX0_meanShade_0 : List UInt8 := [43, 3, 42, 182, 0, 93, 82, 167, 0, 6, 77, 4, 172, 3, 172]
abbrev dktX0_meanShade_0 : List UInt8 := dkwX0_meanShade_0 ++ []
theorem dksX0_meanShade_0 : cX0_meanShade.data.toList.drop 0 = dktX0_meanShade_0 := by decide +kernel
theorem dX0_meanShade_0 : decode cX0_meanShade 0 = .ok (.aload_n 1, 1) := dk_43 (dk_at dksX0_meanShade_0 0 rfl rfl)
theorem dX0_meanShade_1 : decode cX0_meanShade 1 = .ok (.iconst 0, 1) := dk_3 (dk_at dksX0_meanShade_0 1 rfl rfl)
theorem dX0_meanShade_2 : decode cX0_meanShade 2 = .ok (.aload_n 0, 1) := dk_42 (dk_at dksX0_meanShade_0 2 rfl rfl)
theorem dX0_meanShade_3 : decode cX0_meanShade 3 = .ok (.invokevirtual 93, 3) := dk_182 0 93 (dk_at dksX0_meanShade_0 3 rfl rfl)
theorem dX0_meanShade_6 : decode cX0_meanShade 6 = .ok (.dastore, 1) := dk_82 (dk_at dksX0_meanShade_0 6 rfl rfl)
theorem dX0_meanShade_7 : decode cX0_meanShade 7 = .ok (.goto 6, 3) := dk_167 0 6 (dk_at dksX0_meanShade_0 7 rfl rfl)
theorem dX0_meanShade_10 : decode cX0_meanShade 10 = .ok (.astore_n 2, 1) := dk_77 (dk_at dksX0_meanShade_0 10 rfl rfl)
theorem dX0_meanShade_11 : decode cX0_meanShade 11 = .ok (.iconst 1, 1) := dk_4 (dk_at dksX0_meanShade_0 11 rfl rfl)
theorem dX0_meanShade_12 : decode cX0_meanShade 12 = .ok (.ireturn, 1) := dk_172 (dk_at dksX0_meanShade_0 12 rfl rfl)
theorem dX0_meanShade_13 : decode cX0_meanShade 13 = .ok (.iconst 0, 1) := dk_3 (dk_at dksX0_meanShade_0 13 rfl rfl)
theorem dX0_meanShade_14 : decode cX0_meanShade 14 = .ok (.ireturn, 1) := dk_172 (dk_at dksX0_meanShade_0 14 rfl rfl)
abbrev cX0_wasted : ByteArray := method_27_code
def yX0_wasted : MethodName := ⟨RX0, "wasted", "(LBlockPapers;[D)I"⟩
def dkwX0_wasted_0 : List UInt8 := [43, 3, 42, 182, 0, 99, 141, 82, 167, 0, 6, 77, 4, 172, 3, 172]
abbrev dktX0_wasted_0 : List UInt8 := dkwX0_wasted_0 ++ []
theorem dksX0_wasted_0 : cX0_wasted.data.toList.drop 0 = dktX0_wasted_0 := by decide +kernel
theorem dX0_wasted_0 : decode cX0_wasted 0 = .ok (.aload_n 1, 1) := dk_43 (dk_at dksX0_wasted_0 0 rfl rfl)
theorem dX0_wasted_1 : decode cX0_wasted 1 = .ok (.iconst 0, 1) := dk_3 (dk_at dksX0_wasted_0 1 rfl rfl)
theorem dX0_wasted_2 : decode cX0_wasted 2 = .ok (.aload_n 0, 1) := dk_42 (dk_at dksX0_wasted_0 2 rfl rfl)
theorem dX0_wasted_3 : decode cX0_wasted 3 = .ok (.invokevirtual 99, 3) := dk_182 0 99 (dk_at dksX0_wasted_0 3 rfl rfl)
theorem dX0_wasted_6 : decode cX0_wasted 6 = .ok (.f2d, 1) := dk_141 (dk_at dksX0_wasted_0 6 rfl rfl)
theorem dX0_wasted_7 : decode cX0_wasted 7 = .ok (.dastore, 1) := dk_82 (dk_at dksX0_wasted_0 7 rfl rfl)
theorem dX0_wasted_8 : decode cX0_wasted 8 = .ok (.goto 6, 3) := dk_167 0 6 (dk_at dksX0_wasted_0 8 rfl rfl)
theorem dX0_wasted_11 : decode cX0_wasted 11 = .ok (.astore_n 2, 1) := dk_77 (dk_at dksX0_wasted_0 11 rfl rfl)
theorem dX0_wasted_12 : decode cX0_wasted 12 = .ok (.iconst 1, 1) := dk_4 (dk_at dksX0_wasted_0 12 rfl rfl)
theorem dX0_wasted_13 : decode cX0_wasted 13 = .ok (.ireturn, 1) := dk_172 (dk_at dksX0_wasted_0 13 rfl rfl)
theorem dX0_wasted_14 : decode cX0_wasted 14 = .ok (.iconst 0, 1) := dk_3 (dk_at dksX0_wasted_0 14 rfl rfl)
theorem dX0_wasted_15 : decode cX0_wasted 15 = .ok (.ireturn, 1) := dk_172 (dk_at dksX0_wasted_0 15 rfl rfl)
abbrev cX0_feed : ByteArray := method_28_code
def yX0_feed : MethodName := ⟨RX0, "feed", "(LBlockPapers;C[J)I"⟩
def dkwX0_feed_0 : List UInt8 := [44, 3, 42, 27, 182, 0, 103, 133, 80, 167, 0, 6, 78, 4, 172, 3, 172]
abbrev dktX0_feed_0 : List UInt8 := dkwX0_feed_0 ++ []
theorem dksX0_feed_0 : cX0_feed.data.toList.drop 0 = dktX0_feed_0 := by decide +kernel
theorem dX0_feed_0 : decode cX0_feed 0 = .ok (.aload_n 2, 1) := dk_44 (dk_at dksX0_feed_0 0 rfl rfl)
theorem dX0_feed_1 : decode cX0_feed 1 = .ok (.iconst 0, 1) := dk_3 (dk_at dksX0_feed_0 1 rfl rfl)
theorem dX0_feed_2 : decode cX0_feed 2 = .ok (.aload_n 0, 1) := dk_42 (dk_at dksX0_feed_0 2 rfl rfl)
theorem dX0_feed_3 : decode cX0_feed 3 = .ok (.iload_n 1, 1) := dk_27 (dk_at dksX0_feed_0 3 rfl rfl)
theorem dX0_feed_4 : decode cX0_feed 4 = .ok (.invokevirtual 103, 3) := dk_182 0 103 (dk_at dksX0_feed_0 4 rfl rfl)
theorem dX0_feed_7 : decode cX0_feed 7 = .ok (.i2l, 1) := dk_133 (dk_at dksX0_feed_0 7 rfl rfl)
theorem dX0_feed_8 : decode cX0_feed 8 = .ok (.lastore, 1) := dk_80 (dk_at dksX0_feed_0 8 rfl rfl)
theorem dX0_feed_9 : decode cX0_feed 9 = .ok (.goto 6, 3) := dk_167 0 6 (dk_at dksX0_feed_0 9 rfl rfl)
theorem dX0_feed_12 : decode cX0_feed 12 = .ok (.astore_n 3, 1) := dk_78 (dk_at dksX0_feed_0 12 rfl rfl)
theorem dX0_feed_13 : decode cX0_feed 13 = .ok (.iconst 1, 1) := dk_4 (dk_at dksX0_feed_0 13 rfl rfl)
theorem dX0_feed_14 : decode cX0_feed 14 = .ok (.ireturn, 1) := dk_172 (dk_at dksX0_feed_0 14 rfl rfl)
theorem dX0_feed_15 : decode cX0_feed 15 = .ok (.iconst 0, 1) := dk_3 (dk_at dksX0_feed_0 15 rfl rfl)
theorem dX0_feed_16 : decode cX0_feed 16 = .ok (.ireturn, 1) := dk_172 (dk_at dksX0_feed_0 16 rfl rfl)
abbrev cX0_read : ByteArray := method_29_code
def yX0_read : MethodName := ⟨RX0, "read", "(LBlockPapers;[J)I"⟩
def dkwX0_read_0 : List UInt8 := [43, 3, 42, 182, 0, 109, 133, 80, 167, 0, 9, 77, 4, 172, 77, 5, 172, 3, 172]
abbrev dktX0_read_0 : List UInt8 := dkwX0_read_0 ++ []
theorem dksX0_read_0 : cX0_read.data.toList.drop 0 = dktX0_read_0 := by decide +kernel
theorem dX0_read_0 : decode cX0_read 0 = .ok (.aload_n 1, 1) := dk_43 (dk_at dksX0_read_0 0 rfl rfl)
theorem dX0_read_1 : decode cX0_read 1 = .ok (.iconst 0, 1) := dk_3 (dk_at dksX0_read_0 1 rfl rfl)
theorem dX0_read_2 : decode cX0_read 2 = .ok (.aload_n 0, 1) := dk_42 (dk_at dksX0_read_0 2 rfl rfl)
theorem dX0_read_3 : decode cX0_read 3 = .ok (.invokevirtual 109, 3) := dk_182 0 109 (dk_at dksX0_read_0 3 rfl rfl)
theorem dX0_read_6 : decode cX0_read 6 = .ok (.i2l, 1) := dk_133 (dk_at dksX0_read_0 6 rfl rfl)
theorem dX0_read_7 : decode cX0_read 7 = .ok (.lastore, 1) := dk_80 (dk_at dksX0_read_0 7 rfl rfl)
theorem dX0_read_8 : decode cX0_read 8 = .ok (.goto 9, 3) := dk_167 0 9 (dk_at dksX0_read_0 8 rfl rfl)
theorem dX0_read_11 : decode cX0_read 11 = .ok (.astore_n 2, 1) := dk_77 (dk_at dksX0_read_0 11 rfl rfl)
theorem dX0_read_12 : decode cX0_read 12 = .ok (.iconst 1, 1) := dk_4 (dk_at dksX0_read_0 12 rfl rfl)
theorem dX0_read_13 : decode cX0_read 13 = .ok (.ireturn, 1) := dk_172 (dk_at dksX0_read_0 13 rfl rfl)
theorem dX0_read_14 : decode cX0_read 14 = .ok (.astore_n 2, 1) := dk_77 (dk_at dksX0_read_0 14 rfl rfl)
theorem dX0_read_15 : decode cX0_read 15 = .ok (.iconst 2, 1) := dk_5 (dk_at dksX0_read_0 15 rfl rfl)
theorem dX0_read_16 : decode cX0_read 16 = .ok (.ireturn, 1) := dk_172 (dk_at dksX0_read_0 16 rfl rfl)
theorem dX0_read_17 : decode cX0_read 17 = .ok (.iconst 0, 1) := dk_3 (dk_at dksX0_read_0 17 rfl rfl)
theorem dX0_read_18 : decode cX0_read 18 = .ok (.ireturn, 1) := dk_172 (dk_at dksX0_read_0 18 rfl rfl)
abbrev cX0_faultPosition : ByteArray := method_30_code
def yX0_faultPosition : MethodName := ⟨RX0, "faultPosition", "(LBlockPapers;[J)I"⟩
def dkwX0_faultPosition_0 : List UInt8 := [43, 3, 42, 182, 0, 113, 133, 80, 167, 0, 6, 77, 4, 172, 3, 172]
abbrev dktX0_faultPosition_0 : List UInt8 := dkwX0_faultPosition_0 ++ []
theorem dksX0_faultPosition_0 : cX0_faultPosition.data.toList.drop 0 = dktX0_faultPosition_0 := by decide +kernel
theorem dX0_faultPosition_0 : decode cX0_faultPosition 0 = .ok (.aload_n 1, 1) := dk_43 (dk_at dksX0_faultPosition_0 0 rfl rfl)
theorem dX0_faultPosition_1 : decode cX0_faultPosition 1 = .ok (.iconst 0, 1) := dk_3 (dk_at dksX0_faultPosition_0 1 rfl rfl)
theorem dX0_faultPosition_2 : decode cX0_faultPosition 2 = .ok (.aload_n 0, 1) := dk_42 (dk_at dksX0_faultPosition_0 2 rfl rfl)
theorem dX0_faultPosition_3 : decode cX0_faultPosition 3 = .ok (.invokevirtual 113, 3) := dk_182 0 113 (dk_at dksX0_faultPosition_0 3 rfl rfl)
theorem dX0_faultPosition_6 : decode cX0_faultPosition 6 = .ok (.i2l, 1) := dk_133 (dk_at dksX0_faultPosition_0 6 rfl rfl)
theorem dX0_faultPosition_7 : decode cX0_faultPosition 7 = .ok (.lastore, 1) := dk_80 (dk_at dksX0_faultPosition_0 7 rfl rfl)
theorem dX0_faultPosition_8 : decode cX0_faultPosition 8 = .ok (.goto 6, 3) := dk_167 0 6 (dk_at dksX0_faultPosition_0 8 rfl rfl)
theorem dX0_faultPosition_11 : decode cX0_faultPosition 11 = .ok (.astore_n 2, 1) := dk_77 (dk_at dksX0_faultPosition_0 11 rfl rfl)
theorem dX0_faultPosition_12 : decode cX0_faultPosition 12 = .ok (.iconst 1, 1) := dk_4 (dk_at dksX0_faultPosition_0 12 rfl rfl)
theorem dX0_faultPosition_13 : decode cX0_faultPosition 13 = .ok (.ireturn, 1) := dk_172 (dk_at dksX0_faultPosition_0 13 rfl rfl)
theorem dX0_faultPosition_14 : decode cX0_faultPosition 14 = .ok (.iconst 0, 1) := dk_3 (dk_at dksX0_faultPosition_0 14 rfl rfl)
theorem dX0_faultPosition_15 : decode cX0_faultPosition 15 = .ok (.ireturn, 1) := dk_172 (dk_at dksX0_faultPosition_0 15 rfl rfl)
abbrev cX0_refusal : ByteArray := method_31_code
def yX0_refusal : MethodName := ⟨RX0, "refusal", "(LBlockPapers;IZ[J)I"⟩
def dkwX0_refusal_0 : List UInt8 := [45, 3, 42, 27, 28, 182, 0, 116, 133, 80, 167, 0, 7, 58, 4, 4, 172, 3, 172]
abbrev dktX0_refusal_0 : List UInt8 := dkwX0_refusal_0 ++ []
theorem dksX0_refusal_0 : cX0_refusal.data.toList.drop 0 = dktX0_refusal_0 := by decide +kernel
theorem dX0_refusal_0 : decode cX0_refusal 0 = .ok (.aload_n 3, 1) := dk_45 (dk_at dksX0_refusal_0 0 rfl rfl)
theorem dX0_refusal_1 : decode cX0_refusal 1 = .ok (.iconst 0, 1) := dk_3 (dk_at dksX0_refusal_0 1 rfl rfl)
theorem dX0_refusal_2 : decode cX0_refusal 2 = .ok (.aload_n 0, 1) := dk_42 (dk_at dksX0_refusal_0 2 rfl rfl)
theorem dX0_refusal_3 : decode cX0_refusal 3 = .ok (.iload_n 1, 1) := dk_27 (dk_at dksX0_refusal_0 3 rfl rfl)
theorem dX0_refusal_4 : decode cX0_refusal 4 = .ok (.iload_n 2, 1) := dk_28 (dk_at dksX0_refusal_0 4 rfl rfl)
theorem dX0_refusal_5 : decode cX0_refusal 5 = .ok (.invokevirtual 116, 3) := dk_182 0 116 (dk_at dksX0_refusal_0 5 rfl rfl)
theorem dX0_refusal_8 : decode cX0_refusal 8 = .ok (.i2l, 1) := dk_133 (dk_at dksX0_refusal_0 8 rfl rfl)
theorem dX0_refusal_9 : decode cX0_refusal 9 = .ok (.lastore, 1) := dk_80 (dk_at dksX0_refusal_0 9 rfl rfl)
theorem dX0_refusal_10 : decode cX0_refusal 10 = .ok (.goto 7, 3) := dk_167 0 7 (dk_at dksX0_refusal_0 10 rfl rfl)
theorem dX0_refusal_13 : decode cX0_refusal 13 = .ok (.astore 4, 2) := dk_58 4 (dk_at dksX0_refusal_0 13 rfl rfl)
theorem dX0_refusal_15 : decode cX0_refusal 15 = .ok (.iconst 1, 1) := dk_4 (dk_at dksX0_refusal_0 15 rfl rfl)
theorem dX0_refusal_16 : decode cX0_refusal 16 = .ok (.ireturn, 1) := dk_172 (dk_at dksX0_refusal_0 16 rfl rfl)
theorem dX0_refusal_17 : decode cX0_refusal 17 = .ok (.iconst 0, 1) := dk_3 (dk_at dksX0_refusal_0 17 rfl rfl)
theorem dX0_refusal_18 : decode cX0_refusal 18 = .ok (.ireturn, 1) := dk_172 (dk_at dksX0_refusal_0 18 rfl rfl)
abbrev cX0_undo : ByteArray := method_32_code
def yX0_undo : MethodName := ⟨RX0, "undo", "(LBlockPapers;[J)I"⟩
def dkwX0_undo_0 : List UInt8 := [43, 3, 42, 182, 0, 119, 133, 80, 167, 0, 6, 77, 4, 172, 3, 172]
abbrev dktX0_undo_0 : List UInt8 := dkwX0_undo_0 ++ []
theorem dksX0_undo_0 : cX0_undo.data.toList.drop 0 = dktX0_undo_0 := by decide +kernel
theorem dX0_undo_0 : decode cX0_undo 0 = .ok (.aload_n 1, 1) := dk_43 (dk_at dksX0_undo_0 0 rfl rfl)
theorem dX0_undo_1 : decode cX0_undo 1 = .ok (.iconst 0, 1) := dk_3 (dk_at dksX0_undo_0 1 rfl rfl)
theorem dX0_undo_2 : decode cX0_undo 2 = .ok (.aload_n 0, 1) := dk_42 (dk_at dksX0_undo_0 2 rfl rfl)
theorem dX0_undo_3 : decode cX0_undo 3 = .ok (.invokevirtual 119, 3) := dk_182 0 119 (dk_at dksX0_undo_0 3 rfl rfl)
theorem dX0_undo_6 : decode cX0_undo 6 = .ok (.i2l, 1) := dk_133 (dk_at dksX0_undo_0 6 rfl rfl)
theorem dX0_undo_7 : decode cX0_undo 7 = .ok (.lastore, 1) := dk_80 (dk_at dksX0_undo_0 7 rfl rfl)
theorem dX0_undo_8 : decode cX0_undo 8 = .ok (.goto 6, 3) := dk_167 0 6 (dk_at dksX0_undo_0 8 rfl rfl)
theorem dX0_undo_11 : decode cX0_undo 11 = .ok (.astore_n 2, 1) := dk_77 (dk_at dksX0_undo_0 11 rfl rfl)
theorem dX0_undo_12 : decode cX0_undo 12 = .ok (.iconst 1, 1) := dk_4 (dk_at dksX0_undo_0 12 rfl rfl)
theorem dX0_undo_13 : decode cX0_undo 13 = .ok (.ireturn, 1) := dk_172 (dk_at dksX0_undo_0 13 rfl rfl)
theorem dX0_undo_14 : decode cX0_undo 14 = .ok (.iconst 0, 1) := dk_3 (dk_at dksX0_undo_0 14 rfl rfl)
theorem dX0_undo_15 : decode cX0_undo 15 = .ok (.ireturn, 1) := dk_172 (dk_at dksX0_undo_0 15 rfl rfl)
abbrev cX0_restoreSnapshot : ByteArray := method_33_code
def yX0_restoreSnapshot : MethodName := ⟨RX0, "restoreSnapshot", "(LBlockPapers;[J)I"⟩
def dkwX0_restoreSnapshot_0 : List UInt8 := [43, 3, 42, 182, 0, 122, 133, 80, 167, 0, 6, 77, 4, 172, 3, 172]
abbrev dktX0_restoreSnapshot_0 : List UInt8 := dkwX0_restoreSnapshot_0 ++ []
theorem dksX0_restoreSnapshot_0 : cX0_restoreSnapshot.data.toList.drop 0 = dktX0_restoreSnapshot_0 := by decide +kernel
theorem dX0_restoreSnapshot_0 : decode cX0_restoreSnapshot 0 = .ok (.aload_n 1, 1) := dk_43 (dk_at dksX0_restoreSnapshot_0 0 rfl rfl)
theorem dX0_restoreSnapshot_1 : decode cX0_restoreSnapshot 1 = .ok (.iconst 0, 1) := dk_3 (dk_at dksX0_restoreSnapshot_0 1 rfl rfl)
theorem dX0_restoreSnapshot_2 : decode cX0_restoreSnapshot 2 = .ok (.aload_n 0, 1) := dk_42 (dk_at dksX0_restoreSnapshot_0 2 rfl rfl)
theorem dX0_restoreSnapshot_3 : decode cX0_restoreSnapshot 3 = .ok (.invokevirtual 122, 3) := dk_182 0 122 (dk_at dksX0_restoreSnapshot_0 3 rfl rfl)
theorem dX0_restoreSnapshot_6 : decode cX0_restoreSnapshot 6 = .ok (.i2l, 1) := dk_133 (dk_at dksX0_restoreSnapshot_0 6 rfl rfl)
theorem dX0_restoreSnapshot_7 : decode cX0_restoreSnapshot 7 = .ok (.lastore, 1) := dk_80 (dk_at dksX0_restoreSnapshot_0 7 rfl rfl)
theorem dX0_restoreSnapshot_8 : decode cX0_restoreSnapshot 8 = .ok (.goto 6, 3) := dk_167 0 6 (dk_at dksX0_restoreSnapshot_0 8 rfl rfl)
theorem dX0_restoreSnapshot_11 : decode cX0_restoreSnapshot 11 = .ok (.astore_n 2, 1) := dk_77 (dk_at dksX0_restoreSnapshot_0 11 rfl rfl)
theorem dX0_restoreSnapshot_12 : decode cX0_restoreSnapshot 12 = .ok (.iconst 1, 1) := dk_4 (dk_at dksX0_restoreSnapshot_0 12 rfl rfl)
theorem dX0_restoreSnapshot_13 : decode cX0_restoreSnapshot 13 = .ok (.ireturn, 1) := dk_172 (dk_at dksX0_restoreSnapshot_0 13 rfl rfl)
theorem dX0_restoreSnapshot_14 : decode cX0_restoreSnapshot 14 = .ok (.iconst 0, 1) := dk_3 (dk_at dksX0_restoreSnapshot_0 14 rfl rfl)
theorem dX0_restoreSnapshot_15 : decode cX0_restoreSnapshot 15 = .ok (.ireturn, 1) := dk_172 (dk_at dksX0_restoreSnapshot_0 15 rfl rfl)
theorem q74 : (Jvm.Cond.initialized "BlockPapersLaw") ∈ lw_all := lw_g (lw_at lw_m1 0 rfl) rfl
theorem q121 : (Jvm.Cond.classLink "BlockPapersLaw" (8 : Nat) "BlockPapers") ∈ lw_all := lw_g (lw_at lw_m1 47 rfl) rfl
theorem q123 : (Jvm.Cond.methodLink "BlockPapersLaw" (125 : Nat) ({ cls := "BlockPapers", name := "<init>", desc := "()V" } : Jvm.MethodName)) ∈ lw_all := lw_g (lw_at lw_m1 49 rfl) rfl
theorem q258 : (Jvm.Cond.methodLink "BlockPapersLaw" (208 : Nat) ({ cls := "BlockPapers", name := "printedAgain", desc := "()I" } : Jvm.MethodName)) ∈ lw_all := lw_g (lw_at lw_m1 184 rfl) rfl
theorem q551 : (Jvm.Cond.methodLink "BlockPapersLaw" (236 : Nat) ({ cls := "BlockPapers", name := "saveSnapshot", desc := "()I" } : Jvm.MethodName)) ∈ lw_all := lw_g (lw_at lw_m2 237 rfl) rfl
theorem q920 : (Jvm.Cond.methodLink "BlockPapersLaw" (129 : Nat) ({ cls := "BlockPapersLaw", name := "block", desc := "(LBlockPapers;IZ[J)I" } : Jvm.MethodName)) ∈ lw_all := lw_g (lw_at lw_m4 126 rfl) rfl
theorem q921 : (Jvm.Cond.static ({ cls := "BlockPapersLaw", name := "block", desc := "(LBlockPapers;IZ[J)I" } : Jvm.MethodName)) ∈ lw_all := lw_g (lw_at lw_m4 127 rfl) rfl
theorem q922 : (Jvm.Cond.codeWith ({ cls := "BlockPapersLaw", name := "block", desc := "(LBlockPapers;IZ[J)I" } : Jvm.MethodName) method_3_code (5 : Nat) (Option.some Jvm.ClassFile.FieldType.int) [((0 : Nat), (10 : Nat), (13 : Nat), (13 : Nat)), ((0 : Nat), (10 : Nat), (17 : Nat), (15 : Nat))]) ∈ lw_all := lw_g (lw_at lw_m4 128 rfl) rfl
theorem q923 : (Jvm.Cond.classLink "BlockPapersLaw" (13 : Nat) "java/lang/IllegalArgumentException") ∈ lw_all := lw_g (lw_at lw_m4 129 rfl) rfl
theorem q924 : (Jvm.Cond.classLink "BlockPapersLaw" (15 : Nat) "java/lang/UnsupportedOperationException") ∈ lw_all := lw_g (lw_at lw_m4 130 rfl) rfl
theorem q925 : (Jvm.Cond.methodLink "BlockPapersLaw" (7 : Nat) ({ cls := "BlockPapers", name := "block", desc := "(IZ)I" } : Jvm.MethodName)) ∈ lw_all := lw_g (lw_at lw_m4 131 rfl) rfl
theorem q1554 : (Jvm.Cond.methodLink "BlockPapersLaw" (138 : Nat) ({ cls := "BlockPapersLaw", name := "blockOf", desc := "(LBlockPapers;II[J)I" } : Jvm.MethodName)) ∈ lw_all := lw_g (lw_at lw_m7 40 rfl) rfl
theorem q1555 : (Jvm.Cond.static ({ cls := "BlockPapersLaw", name := "blockOf", desc := "(LBlockPapers;II[J)I" } : Jvm.MethodName)) ∈ lw_all := lw_g (lw_at lw_m7 41 rfl) rfl
theorem q1556 : (Jvm.Cond.codeWith ({ cls := "BlockPapersLaw", name := "blockOf", desc := "(LBlockPapers;II[J)I" } : Jvm.MethodName) method_4_code (5 : Nat) (Option.some Jvm.ClassFile.FieldType.int) [((0 : Nat), (10 : Nat), (13 : Nat), (21 : Nat)), ((0 : Nat), (10 : Nat), (17 : Nat), (13 : Nat))]) ∈ lw_all := lw_g (lw_at lw_m7 42 rfl) rfl
theorem q1557 : (Jvm.Cond.classLink "BlockPapersLaw" (21 : Nat) "java/lang/IndexOutOfBoundsException") ∈ lw_all := lw_g (lw_at lw_m7 43 rfl) rfl
theorem q1558 : (Jvm.Cond.methodLink "BlockPapersLaw" (17 : Nat) ({ cls := "BlockPapers", name := "blockOf", desc := "(II)I" } : Jvm.MethodName)) ∈ lw_all := lw_g (lw_at lw_m7 44 rfl) rfl
theorem q1569 : (Jvm.Cond.methodLink "BlockPapersLaw" (142 : Nat) ({ cls := "BlockPapersLaw", name := "carve", desc := "(LBlockPapers;I[J)I" } : Jvm.MethodName)) ∈ lw_all := lw_g (lw_at lw_m7 55 rfl) rfl
theorem q1570 : (Jvm.Cond.static ({ cls := "BlockPapersLaw", name := "carve", desc := "(LBlockPapers;I[J)I" } : Jvm.MethodName)) ∈ lw_all := lw_g (lw_at lw_m7 56 rfl) rfl
theorem q1571 : (Jvm.Cond.codeWith ({ cls := "BlockPapersLaw", name := "carve", desc := "(LBlockPapers;I[J)I" } : Jvm.MethodName) method_5_code (4 : Nat) (Option.some Jvm.ClassFile.FieldType.int) [((0 : Nat), (9 : Nat), (12 : Nat), (21 : Nat))]) ∈ lw_all := lw_g (lw_at lw_m7 57 rfl) rfl
theorem q1572 : (Jvm.Cond.methodLink "BlockPapersLaw" (23 : Nat) ({ cls := "BlockPapers", name := "carve", desc := "(I)I" } : Jvm.MethodName)) ∈ lw_all := lw_g (lw_at lw_m7 58 rfl) rfl
theorem q1580 : (Jvm.Cond.methodLink "BlockPapersLaw" (146 : Nat) ({ cls := "BlockPapersLaw", name := "ink", desc := "(LBlockPapers;III[J)I" } : Jvm.MethodName)) ∈ lw_all := lw_g (lw_at lw_m7 66 rfl) rfl
theorem q1581 : (Jvm.Cond.static ({ cls := "BlockPapersLaw", name := "ink", desc := "(LBlockPapers;III[J)I" } : Jvm.MethodName)) ∈ lw_all := lw_g (lw_at lw_m7 67 rfl) rfl
theorem q1582 : (Jvm.Cond.codeWith ({ cls := "BlockPapersLaw", name := "ink", desc := "(LBlockPapers;III[J)I" } : Jvm.MethodName) method_6_code (6 : Nat) (Option.some Jvm.ClassFile.FieldType.int) [((0 : Nat), (12 : Nat), (15 : Nat), (13 : Nat)), ((0 : Nat), (12 : Nat), (19 : Nat), (15 : Nat))]) ∈ lw_all := lw_g (lw_at lw_m7 68 rfl) rfl
theorem q1583 : (Jvm.Cond.methodLink "BlockPapersLaw" (27 : Nat) ({ cls := "BlockPapers", name := "ink", desc := "(III)I" } : Jvm.MethodName)) ∈ lw_all := lw_g (lw_at lw_m7 69 rfl) rfl
theorem q1589 : (Jvm.Cond.methodLink "BlockPapersLaw" (150 : Nat) ({ cls := "BlockPapersLaw", name := "inkOf", desc := "(LBlockPapers;II[J)I" } : Jvm.MethodName)) ∈ lw_all := lw_g (lw_at lw_m7 75 rfl) rfl
theorem q1590 : (Jvm.Cond.static ({ cls := "BlockPapersLaw", name := "inkOf", desc := "(LBlockPapers;II[J)I" } : Jvm.MethodName)) ∈ lw_all := lw_g (lw_at lw_m7 76 rfl) rfl
theorem q1591 : (Jvm.Cond.codeWith ({ cls := "BlockPapersLaw", name := "inkOf", desc := "(LBlockPapers;II[J)I" } : Jvm.MethodName) method_7_code (5 : Nat) (Option.some Jvm.ClassFile.FieldType.int) [((0 : Nat), (10 : Nat), (13 : Nat), (21 : Nat)), ((0 : Nat), (10 : Nat), (17 : Nat), (13 : Nat))]) ∈ lw_all := lw_g (lw_at lw_m7 77 rfl) rfl
theorem q1592 : (Jvm.Cond.methodLink "BlockPapersLaw" (31 : Nat) ({ cls := "BlockPapers", name := "inkOf", desc := "(II)I" } : Jvm.MethodName)) ∈ lw_all := lw_g (lw_at lw_m7 78 rfl) rfl
theorem q1597 : (Jvm.Cond.methodLink "BlockPapersLaw" (153 : Nat) ({ cls := "BlockPapersLaw", name := "mix", desc := "(LBlockPapers;III[J)I" } : Jvm.MethodName)) ∈ lw_all := lw_g (lw_at lw_m7 83 rfl) rfl
theorem q1598 : (Jvm.Cond.static ({ cls := "BlockPapersLaw", name := "mix", desc := "(LBlockPapers;III[J)I" } : Jvm.MethodName)) ∈ lw_all := lw_g (lw_at lw_m7 84 rfl) rfl
theorem q1599 : (Jvm.Cond.codeWith ({ cls := "BlockPapersLaw", name := "mix", desc := "(LBlockPapers;III[J)I" } : Jvm.MethodName) method_8_code (6 : Nat) (Option.some Jvm.ClassFile.FieldType.int) [((0 : Nat), (12 : Nat), (15 : Nat), (21 : Nat)), ((0 : Nat), (12 : Nat), (19 : Nat), (13 : Nat)), ((0 : Nat), (12 : Nat), (23 : Nat), (15 : Nat))]) ∈ lw_all := lw_g (lw_at lw_m7 85 rfl) rfl
theorem q1600 : (Jvm.Cond.methodLink "BlockPapersLaw" (34 : Nat) ({ cls := "BlockPapers", name := "mix", desc := "(III)I" } : Jvm.MethodName)) ∈ lw_all := lw_g (lw_at lw_m7 86 rfl) rfl
theorem q1605 : (Jvm.Cond.methodLink "BlockPapersLaw" (156 : Nat) ({ cls := "BlockPapersLaw", name := "print", desc := "(LBlockPapers;III[J)I" } : Jvm.MethodName)) ∈ lw_all := lw_g (lw_at lw_m7 91 rfl) rfl
theorem q1606 : (Jvm.Cond.static ({ cls := "BlockPapersLaw", name := "print", desc := "(LBlockPapers;III[J)I" } : Jvm.MethodName)) ∈ lw_all := lw_g (lw_at lw_m7 92 rfl) rfl
theorem q1607 : (Jvm.Cond.codeWith ({ cls := "BlockPapersLaw", name := "print", desc := "(LBlockPapers;III[J)I" } : Jvm.MethodName) method_9_code (6 : Nat) (Option.some Jvm.ClassFile.FieldType.int) [((0 : Nat), (12 : Nat), (15 : Nat), (21 : Nat)), ((0 : Nat), (12 : Nat), (19 : Nat), (13 : Nat)), ((0 : Nat), (12 : Nat), (23 : Nat), (15 : Nat))]) ∈ lw_all := lw_g (lw_at lw_m7 93 rfl) rfl
theorem q1608 : (Jvm.Cond.methodLink "BlockPapersLaw" (37 : Nat) ({ cls := "BlockPapers", name := "print", desc := "(III)I" } : Jvm.MethodName)) ∈ lw_all := lw_g (lw_at lw_m7 94 rfl) rfl
theorem q1613 : (Jvm.Cond.methodLink "BlockPapersLaw" (159 : Nat) ({ cls := "BlockPapersLaw", name := "rollOf", desc := "(LBlockPapers;II[J)I" } : Jvm.MethodName)) ∈ lw_all := lw_g (lw_at lw_m7 99 rfl) rfl
theorem q1614 : (Jvm.Cond.static ({ cls := "BlockPapersLaw", name := "rollOf", desc := "(LBlockPapers;II[J)I" } : Jvm.MethodName)) ∈ lw_all := lw_g (lw_at lw_m7 100 rfl) rfl
theorem q1615 : (Jvm.Cond.codeWith ({ cls := "BlockPapersLaw", name := "rollOf", desc := "(LBlockPapers;II[J)I" } : Jvm.MethodName) method_10_code (5 : Nat) (Option.some Jvm.ClassFile.FieldType.int) [((0 : Nat), (10 : Nat), (13 : Nat), (21 : Nat)), ((0 : Nat), (10 : Nat), (17 : Nat), (13 : Nat))]) ∈ lw_all := lw_g (lw_at lw_m7 101 rfl) rfl
theorem q1616 : (Jvm.Cond.methodLink "BlockPapersLaw" (40 : Nat) ({ cls := "BlockPapers", name := "rollOf", desc := "(II)I" } : Jvm.MethodName)) ∈ lw_all := lw_g (lw_at lw_m7 102 rfl) rfl
theorem q1622 : (Jvm.Cond.methodLink "BlockPapersLaw" (162 : Nat) ({ cls := "BlockPapersLaw", name := "giveBack", desc := "(LBlockPapers;I[J)I" } : Jvm.MethodName)) ∈ lw_all := lw_g (lw_at lw_m7 108 rfl) rfl
theorem q1623 : (Jvm.Cond.static ({ cls := "BlockPapersLaw", name := "giveBack", desc := "(LBlockPapers;I[J)I" } : Jvm.MethodName)) ∈ lw_all := lw_g (lw_at lw_m7 109 rfl) rfl
theorem q1624 : (Jvm.Cond.codeWith ({ cls := "BlockPapersLaw", name := "giveBack", desc := "(LBlockPapers;I[J)I" } : Jvm.MethodName) method_11_code (4 : Nat) (Option.some Jvm.ClassFile.FieldType.int) [((0 : Nat), (9 : Nat), (12 : Nat), (21 : Nat)), ((0 : Nat), (9 : Nat), (15 : Nat), (15 : Nat))]) ∈ lw_all := lw_g (lw_at lw_m7 110 rfl) rfl
theorem q1625 : (Jvm.Cond.methodLink "BlockPapersLaw" (43 : Nat) ({ cls := "BlockPapers", name := "giveBack", desc := "(I)I" } : Jvm.MethodName)) ∈ lw_all := lw_g (lw_at lw_m7 111 rfl) rfl
theorem q1630 : (Jvm.Cond.methodLink "BlockPapersLaw" (165 : Nat) ({ cls := "BlockPapersLaw", name := "room", desc := "(LBlockPapers;II[J)I" } : Jvm.MethodName)) ∈ lw_all := lw_g (lw_at lw_m7 116 rfl) rfl
theorem q1631 : (Jvm.Cond.static ({ cls := "BlockPapersLaw", name := "room", desc := "(LBlockPapers;II[J)I" } : Jvm.MethodName)) ∈ lw_all := lw_g (lw_at lw_m7 117 rfl) rfl
theorem q1632 : (Jvm.Cond.codeWith ({ cls := "BlockPapersLaw", name := "room", desc := "(LBlockPapers;II[J)I" } : Jvm.MethodName) method_12_code (5 : Nat) (Option.some Jvm.ClassFile.FieldType.int) [((0 : Nat), (10 : Nat), (13 : Nat), (13 : Nat)), ((0 : Nat), (10 : Nat), (17 : Nat), (15 : Nat))]) ∈ lw_all := lw_g (lw_at lw_m7 118 rfl) rfl
theorem q1633 : (Jvm.Cond.methodLink "BlockPapersLaw" (46 : Nat) ({ cls := "BlockPapers", name := "room", desc := "(II)I" } : Jvm.MethodName)) ∈ lw_all := lw_g (lw_at lw_m7 119 rfl) rfl
theorem q1638 : (Jvm.Cond.methodLink "BlockPapersLaw" (168 : Nat) ({ cls := "BlockPapersLaw", name := "roomOf", desc := "(LBlockPapers;II[J)I" } : Jvm.MethodName)) ∈ lw_all := lw_g (lw_at lw_m7 124 rfl) rfl
theorem q1639 : (Jvm.Cond.static ({ cls := "BlockPapersLaw", name := "roomOf", desc := "(LBlockPapers;II[J)I" } : Jvm.MethodName)) ∈ lw_all := lw_g (lw_at lw_m7 125 rfl) rfl
theorem q1640 : (Jvm.Cond.codeWith ({ cls := "BlockPapersLaw", name := "roomOf", desc := "(LBlockPapers;II[J)I" } : Jvm.MethodName) method_13_code (5 : Nat) (Option.some Jvm.ClassFile.FieldType.int) [((0 : Nat), (10 : Nat), (13 : Nat), (21 : Nat)), ((0 : Nat), (10 : Nat), (17 : Nat), (13 : Nat))]) ∈ lw_all := lw_g (lw_at lw_m7 126 rfl) rfl
theorem q1641 : (Jvm.Cond.methodLink "BlockPapersLaw" (49 : Nat) ({ cls := "BlockPapers", name := "roomOf", desc := "(II)I" } : Jvm.MethodName)) ∈ lw_all := lw_g (lw_at lw_m7 127 rfl) rfl
theorem q1649 : (Jvm.Cond.methodLink "BlockPapersLaw" (171 : Nat) ({ cls := "BlockPapersLaw", name := "dropOf", desc := "(LBlockPapers;III[J)I" } : Jvm.MethodName)) ∈ lw_all := lw_g (lw_at lw_m7 135 rfl) rfl
theorem q1650 : (Jvm.Cond.static ({ cls := "BlockPapersLaw", name := "dropOf", desc := "(LBlockPapers;III[J)I" } : Jvm.MethodName)) ∈ lw_all := lw_g (lw_at lw_m7 136 rfl) rfl
theorem q1651 : (Jvm.Cond.codeWith ({ cls := "BlockPapersLaw", name := "dropOf", desc := "(LBlockPapers;III[J)I" } : Jvm.MethodName) method_14_code (6 : Nat) (Option.some Jvm.ClassFile.FieldType.int) [((0 : Nat), (12 : Nat), (15 : Nat), (21 : Nat)), ((0 : Nat), (12 : Nat), (19 : Nat), (55 : Nat)), ((0 : Nat), (12 : Nat), (23 : Nat), (13 : Nat))]) ∈ lw_all := lw_g (lw_at lw_m7 137 rfl) rfl
theorem q1652 : (Jvm.Cond.classLink "BlockPapersLaw" (55 : Nat) "java/util/NoSuchElementException") ∈ lw_all := lw_g (lw_at lw_m7 138 rfl) rfl
theorem q1653 : (Jvm.Cond.methodLink "BlockPapersLaw" (52 : Nat) ({ cls := "BlockPapers", name := "dropOf", desc := "(III)I" } : Jvm.MethodName)) ∈ lw_all := lw_g (lw_at lw_m7 139 rfl) rfl
theorem q1659 : (Jvm.Cond.methodLink "BlockPapersLaw" (174 : Nat) ({ cls := "BlockPapersLaw", name := "hang", desc := "(LBlockPapers;II[J)I" } : Jvm.MethodName)) ∈ lw_all := lw_g (lw_at lw_m7 145 rfl) rfl
theorem q1660 : (Jvm.Cond.static ({ cls := "BlockPapersLaw", name := "hang", desc := "(LBlockPapers;II[J)I" } : Jvm.MethodName)) ∈ lw_all := lw_g (lw_at lw_m7 146 rfl) rfl
theorem q1661 : (Jvm.Cond.codeWith ({ cls := "BlockPapersLaw", name := "hang", desc := "(LBlockPapers;II[J)I" } : Jvm.MethodName) method_15_code (5 : Nat) (Option.some Jvm.ClassFile.FieldType.int) [((0 : Nat), (10 : Nat), (13 : Nat), (21 : Nat)), ((0 : Nat), (10 : Nat), (17 : Nat), (15 : Nat))]) ∈ lw_all := lw_g (lw_at lw_m7 147 rfl) rfl
theorem q1662 : (Jvm.Cond.methodLink "BlockPapersLaw" (57 : Nat) ({ cls := "BlockPapers", name := "hang", desc := "(II)I" } : Jvm.MethodName)) ∈ lw_all := lw_g (lw_at lw_m7 148 rfl) rfl
theorem q1667 : (Jvm.Cond.methodLink "BlockPapersLaw" (177 : Nat) ({ cls := "BlockPapersLaw", name := "why", desc := "(LBlockPapers;IIZ[J)I" } : Jvm.MethodName)) ∈ lw_all := lw_g (lw_at lw_m7 153 rfl) rfl
theorem q1668 : (Jvm.Cond.static ({ cls := "BlockPapersLaw", name := "why", desc := "(LBlockPapers;IIZ[J)I" } : Jvm.MethodName)) ∈ lw_all := lw_g (lw_at lw_m7 154 rfl) rfl
theorem q1669 : (Jvm.Cond.codeWith ({ cls := "BlockPapersLaw", name := "why", desc := "(LBlockPapers;IIZ[J)I" } : Jvm.MethodName) method_16_code (6 : Nat) (Option.some Jvm.ClassFile.FieldType.int) [((0 : Nat), (12 : Nat), (15 : Nat), (21 : Nat))]) ∈ lw_all := lw_g (lw_at lw_m7 155 rfl) rfl
theorem q1670 : (Jvm.Cond.methodLink "BlockPapersLaw" (60 : Nat) ({ cls := "BlockPapers", name := "why", desc := "(IIZ)I" } : Jvm.MethodName)) ∈ lw_all := lw_g (lw_at lw_m7 156 rfl) rfl
theorem q1676 : (Jvm.Cond.methodLink "BlockPapersLaw" (181 : Nat) ({ cls := "BlockPapersLaw", name := "strip", desc := "(LBlockPapers;I[J)I" } : Jvm.MethodName)) ∈ lw_all := lw_g (lw_at lw_m7 162 rfl) rfl
theorem q1677 : (Jvm.Cond.static ({ cls := "BlockPapersLaw", name := "strip", desc := "(LBlockPapers;I[J)I" } : Jvm.MethodName)) ∈ lw_all := lw_g (lw_at lw_m7 163 rfl) rfl
theorem q1678 : (Jvm.Cond.codeWith ({ cls := "BlockPapersLaw", name := "strip", desc := "(LBlockPapers;I[J)I" } : Jvm.MethodName) method_17_code (4 : Nat) (Option.some Jvm.ClassFile.FieldType.int) [((0 : Nat), (9 : Nat), (12 : Nat), (21 : Nat)), ((0 : Nat), (9 : Nat), (15 : Nat), (15 : Nat))]) ∈ lw_all := lw_g (lw_at lw_m7 164 rfl) rfl
theorem q1679 : (Jvm.Cond.methodLink "BlockPapersLaw" (64 : Nat) ({ cls := "BlockPapers", name := "strip", desc := "(I)I" } : Jvm.MethodName)) ∈ lw_all := lw_g (lw_at lw_m7 165 rfl) rfl
theorem q1684 : (Jvm.Cond.methodLink "BlockPapersLaw" (184 : Nat) ({ cls := "BlockPapersLaw", name := "isMatched", desc := "(LBlockPapers;I[J)I" } : Jvm.MethodName)) ∈ lw_all := lw_g (lw_at lw_m7 170 rfl) rfl
theorem q1685 : (Jvm.Cond.static ({ cls := "BlockPapersLaw", name := "isMatched", desc := "(LBlockPapers;I[J)I" } : Jvm.MethodName)) ∈ lw_all := lw_g (lw_at lw_m7 171 rfl) rfl
theorem q1686 : (Jvm.Cond.codeWith ({ cls := "BlockPapersLaw", name := "isMatched", desc := "(LBlockPapers;I[J)I" } : Jvm.MethodName) method_18_code (4 : Nat) (Option.some Jvm.ClassFile.FieldType.int) [((0 : Nat), (16 : Nat), (19 : Nat), (21 : Nat))]) ∈ lw_all := lw_g (lw_at lw_m7 172 rfl) rfl
theorem q1687 : (Jvm.Cond.methodLink "BlockPapersLaw" (67 : Nat) ({ cls := "BlockPapers", name := "isMatched", desc := "(I)Z" } : Jvm.MethodName)) ∈ lw_all := lw_g (lw_at lw_m7 173 rfl) rfl
theorem q1691 : (Jvm.Cond.methodLink "BlockPapersLaw" (187 : Nat) ({ cls := "BlockPapersLaw", name := "bestRoll", desc := "(LBlockPapers;I[J)I" } : Jvm.MethodName)) ∈ lw_all := lw_g (lw_at lw_m7 177 rfl) rfl
theorem q1692 : (Jvm.Cond.static ({ cls := "BlockPapersLaw", name := "bestRoll", desc := "(LBlockPapers;I[J)I" } : Jvm.MethodName)) ∈ lw_all := lw_g (lw_at lw_m7 178 rfl) rfl
theorem q1693 : (Jvm.Cond.codeWith ({ cls := "BlockPapersLaw", name := "bestRoll", desc := "(LBlockPapers;I[J)I" } : Jvm.MethodName) method_19_code (4 : Nat) (Option.some Jvm.ClassFile.FieldType.int) [((0 : Nat), (9 : Nat), (12 : Nat), (21 : Nat)), ((0 : Nat), (9 : Nat), (15 : Nat), (55 : Nat))]) ∈ lw_all := lw_g (lw_at lw_m7 179 rfl) rfl
theorem q1694 : (Jvm.Cond.methodLink "BlockPapersLaw" (71 : Nat) ({ cls := "BlockPapers", name := "bestRoll", desc := "(I)I" } : Jvm.MethodName)) ∈ lw_all := lw_g (lw_at lw_m7 180 rfl) rfl
theorem q1699 : (Jvm.Cond.methodLink "BlockPapersLaw" (190 : Nat) ({ cls := "BlockPapersLaw", name := "finish", desc := "(LBlockPapers;I[J)I" } : Jvm.MethodName)) ∈ lw_all := lw_g (lw_at lw_m7 185 rfl) rfl
theorem q1700 : (Jvm.Cond.static ({ cls := "BlockPapersLaw", name := "finish", desc := "(LBlockPapers;I[J)I" } : Jvm.MethodName)) ∈ lw_all := lw_g (lw_at lw_m7 186 rfl) rfl
theorem q1701 : (Jvm.Cond.codeWith ({ cls := "BlockPapersLaw", name := "finish", desc := "(LBlockPapers;I[J)I" } : Jvm.MethodName) method_20_code (4 : Nat) (Option.some Jvm.ClassFile.FieldType.int) [((0 : Nat), (9 : Nat), (12 : Nat), (21 : Nat)), ((0 : Nat), (9 : Nat), (15 : Nat), (15 : Nat))]) ∈ lw_all := lw_g (lw_at lw_m7 187 rfl) rfl
theorem q1702 : (Jvm.Cond.methodLink "BlockPapersLaw" (74 : Nat) ({ cls := "BlockPapers", name := "finish", desc := "(I)I" } : Jvm.MethodName)) ∈ lw_all := lw_g (lw_at lw_m7 188 rfl) rfl
theorem q1707 : (Jvm.Cond.methodLink "BlockPapersLaw" (193 : Nat) ({ cls := "BlockPapersLaw", name := "dropsFrom", desc := "(LBlockPapers;II[J)I" } : Jvm.MethodName)) ∈ lw_all := lw_g (lw_at lw_m7 193 rfl) rfl
theorem q1708 : (Jvm.Cond.static ({ cls := "BlockPapersLaw", name := "dropsFrom", desc := "(LBlockPapers;II[J)I" } : Jvm.MethodName)) ∈ lw_all := lw_g (lw_at lw_m7 194 rfl) rfl
theorem q1709 : (Jvm.Cond.codeWith ({ cls := "BlockPapersLaw", name := "dropsFrom", desc := "(LBlockPapers;II[J)I" } : Jvm.MethodName) method_21_code (5 : Nat) (Option.some Jvm.ClassFile.FieldType.int) [((0 : Nat), (10 : Nat), (13 : Nat), (21 : Nat))]) ∈ lw_all := lw_g (lw_at lw_m7 195 rfl) rfl
theorem q1710 : (Jvm.Cond.methodLink "BlockPapersLaw" (77 : Nat) ({ cls := "BlockPapers", name := "dropsFrom", desc := "(II)I" } : Jvm.MethodName)) ∈ lw_all := lw_g (lw_at lw_m7 196 rfl) rfl
theorem q1718 : (Jvm.Cond.methodLink "BlockPapersLaw" (196 : Nat) ({ cls := "BlockPapersLaw", name := "dropsAgain", desc := "(LBlockPapers;II[J)I" } : Jvm.MethodName)) ∈ lw_all := lw_g (lw_at lw_m7 204 rfl) rfl
theorem q1719 : (Jvm.Cond.static ({ cls := "BlockPapersLaw", name := "dropsAgain", desc := "(LBlockPapers;II[J)I" } : Jvm.MethodName)) ∈ lw_all := lw_g (lw_at lw_m7 205 rfl) rfl
theorem q1720 : (Jvm.Cond.codeWith ({ cls := "BlockPapersLaw", name := "dropsAgain", desc := "(LBlockPapers;II[J)I" } : Jvm.MethodName) method_22_code (5 : Nat) (Option.some Jvm.ClassFile.FieldType.int) [((0 : Nat), (10 : Nat), (13 : Nat), (21 : Nat))]) ∈ lw_all := lw_g (lw_at lw_m7 206 rfl) rfl
theorem q1721 : (Jvm.Cond.methodLink "BlockPapersLaw" (80 : Nat) ({ cls := "BlockPapers", name := "dropsAgain", desc := "(II)I" } : Jvm.MethodName)) ∈ lw_all := lw_g (lw_at lw_m7 207 rfl) rfl
theorem q1727 : (Jvm.Cond.methodLink "BlockPapersLaw" (199 : Nat) ({ cls := "BlockPapersLaw", name := "line", desc := "(LBlockPapers;I[J)I" } : Jvm.MethodName)) ∈ lw_all := lw_g (lw_at lw_m7 213 rfl) rfl
theorem q1728 : (Jvm.Cond.static ({ cls := "BlockPapersLaw", name := "line", desc := "(LBlockPapers;I[J)I" } : Jvm.MethodName)) ∈ lw_all := lw_g (lw_at lw_m7 214 rfl) rfl
theorem q1729 : (Jvm.Cond.codeWith ({ cls := "BlockPapersLaw", name := "line", desc := "(LBlockPapers;I[J)I" } : Jvm.MethodName) method_23_code (4 : Nat) (Option.some Jvm.ClassFile.FieldType.int) [((0 : Nat), (9 : Nat), (12 : Nat), (21 : Nat))]) ∈ lw_all := lw_g (lw_at lw_m7 215 rfl) rfl
theorem q1730 : (Jvm.Cond.methodLink "BlockPapersLaw" (83 : Nat) ({ cls := "BlockPapers", name := "line", desc := "(I)I" } : Jvm.MethodName)) ∈ lw_all := lw_g (lw_at lw_m7 216 rfl) rfl
theorem q1878 : (Jvm.Cond.methodLink "BlockPapersLaw" (202 : Nat) ({ cls := "BlockPapersLaw", name := "character", desc := "(LBlockPapers;I[J)I" } : Jvm.MethodName)) ∈ lw_all := lw_g (lw_at lw_m8 124 rfl) rfl
theorem q1879 : (Jvm.Cond.static ({ cls := "BlockPapersLaw", name := "character", desc := "(LBlockPapers;I[J)I" } : Jvm.MethodName)) ∈ lw_all := lw_g (lw_at lw_m8 125 rfl) rfl
theorem q1880 : (Jvm.Cond.codeWith ({ cls := "BlockPapersLaw", name := "character", desc := "(LBlockPapers;I[J)I" } : Jvm.MethodName) method_24_code (4 : Nat) (Option.some Jvm.ClassFile.FieldType.int) [((0 : Nat), (9 : Nat), (12 : Nat), (21 : Nat))]) ∈ lw_all := lw_g (lw_at lw_m8 126 rfl) rfl
theorem q1881 : (Jvm.Cond.methodLink "BlockPapersLaw" (86 : Nat) ({ cls := "BlockPapers", name := "character", desc := "(I)C" } : Jvm.MethodName)) ∈ lw_all := lw_g (lw_at lw_m8 127 rfl) rfl
theorem q1888 : (Jvm.Cond.methodLink "BlockPapersLaw" (205 : Nat) ({ cls := "BlockPapersLaw", name := "number", desc := "(LBlockPapers;I[J)I" } : Jvm.MethodName)) ∈ lw_all := lw_g (lw_at lw_m8 134 rfl) rfl
theorem q1889 : (Jvm.Cond.static ({ cls := "BlockPapersLaw", name := "number", desc := "(LBlockPapers;I[J)I" } : Jvm.MethodName)) ∈ lw_all := lw_g (lw_at lw_m8 135 rfl) rfl
theorem q1890 : (Jvm.Cond.codeWith ({ cls := "BlockPapersLaw", name := "number", desc := "(LBlockPapers;I[J)I" } : Jvm.MethodName) method_25_code (4 : Nat) (Option.some Jvm.ClassFile.FieldType.int) [((0 : Nat), (9 : Nat), (12 : Nat), (13 : Nat))]) ∈ lw_all := lw_g (lw_at lw_m8 136 rfl) rfl
theorem q1891 : (Jvm.Cond.methodLink "BlockPapersLaw" (90 : Nat) ({ cls := "BlockPapers", name := "number", desc := "(I)I" } : Jvm.MethodName)) ∈ lw_all := lw_g (lw_at lw_m8 137 rfl) rfl
theorem q1892 : (Jvm.Cond.methodLink "BlockPapersLaw" (212 : Nat) ({ cls := "BlockPapersLaw", name := "meanShade", desc := "(LBlockPapers;[D)I" } : Jvm.MethodName)) ∈ lw_all := lw_g (lw_at lw_m8 138 rfl) rfl
theorem q1893 : (Jvm.Cond.static ({ cls := "BlockPapersLaw", name := "meanShade", desc := "(LBlockPapers;[D)I" } : Jvm.MethodName)) ∈ lw_all := lw_g (lw_at lw_m8 139 rfl) rfl
theorem q1894 : (Jvm.Cond.codeWith ({ cls := "BlockPapersLaw", name := "meanShade", desc := "(LBlockPapers;[D)I" } : Jvm.MethodName) method_26_code (3 : Nat) (Option.some Jvm.ClassFile.FieldType.int) [((0 : Nat), (7 : Nat), (10 : Nat), (97 : Nat))]) ∈ lw_all := lw_g (lw_at lw_m8 140 rfl) rfl
theorem q1895 : (Jvm.Cond.classLink "BlockPapersLaw" (97 : Nat) "java/lang/ArithmeticException") ∈ lw_all := lw_g (lw_at lw_m8 141 rfl) rfl
theorem q1909 : (Jvm.Cond.methodLink "BlockPapersLaw" (93 : Nat) ({ cls := "BlockPapers", name := "meanShade", desc := "()D" } : Jvm.MethodName)) ∈ lw_all := lw_g (lw_at lw_m8 155 rfl) rfl
theorem q1920 : (Jvm.Cond.methodLink "BlockPapersLaw" (216 : Nat) ({ cls := "BlockPapersLaw", name := "wasted", desc := "(LBlockPapers;[D)I" } : Jvm.MethodName)) ∈ lw_all := lw_g (lw_at lw_m8 166 rfl) rfl
theorem q1921 : (Jvm.Cond.static ({ cls := "BlockPapersLaw", name := "wasted", desc := "(LBlockPapers;[D)I" } : Jvm.MethodName)) ∈ lw_all := lw_g (lw_at lw_m8 167 rfl) rfl
theorem q1922 : (Jvm.Cond.codeWith ({ cls := "BlockPapersLaw", name := "wasted", desc := "(LBlockPapers;[D)I" } : Jvm.MethodName) method_27_code (3 : Nat) (Option.some Jvm.ClassFile.FieldType.int) [((0 : Nat), (8 : Nat), (11 : Nat), (97 : Nat))]) ∈ lw_all := lw_g (lw_at lw_m8 168 rfl) rfl
theorem q1923 : (Jvm.Cond.methodLink "BlockPapersLaw" (99 : Nat) ({ cls := "BlockPapers", name := "wasted", desc := "()F" } : Jvm.MethodName)) ∈ lw_all := lw_g (lw_at lw_m8 169 rfl) rfl
theorem q1927 : (Jvm.Cond.methodLink "BlockPapersLaw" (219 : Nat) ({ cls := "BlockPapersLaw", name := "feed", desc := "(LBlockPapers;C[J)I" } : Jvm.MethodName)) ∈ lw_all := lw_g (lw_at lw_m8 173 rfl) rfl
theorem q1928 : (Jvm.Cond.static ({ cls := "BlockPapersLaw", name := "feed", desc := "(LBlockPapers;C[J)I" } : Jvm.MethodName)) ∈ lw_all := lw_g (lw_at lw_m8 174 rfl) rfl
theorem q1929 : (Jvm.Cond.codeWith ({ cls := "BlockPapersLaw", name := "feed", desc := "(LBlockPapers;C[J)I" } : Jvm.MethodName) method_28_code (4 : Nat) (Option.some Jvm.ClassFile.FieldType.int) [((0 : Nat), (9 : Nat), (12 : Nat), (107 : Nat))]) ∈ lw_all := lw_g (lw_at lw_m8 175 rfl) rfl
theorem q1930 : (Jvm.Cond.classLink "BlockPapersLaw" (107 : Nat) "java/lang/IllegalStateException") ∈ lw_all := lw_g (lw_at lw_m8 176 rfl) rfl
theorem q1931 : (Jvm.Cond.methodLink "BlockPapersLaw" (103 : Nat) ({ cls := "BlockPapers", name := "feed", desc := "(C)I" } : Jvm.MethodName)) ∈ lw_all := lw_g (lw_at lw_m8 177 rfl) rfl
theorem q1950 : (Jvm.Cond.methodLink "BlockPapersLaw" (223 : Nat) ({ cls := "BlockPapersLaw", name := "read", desc := "(LBlockPapers;[J)I" } : Jvm.MethodName)) ∈ lw_all := lw_g (lw_at lw_m8 196 rfl) rfl
theorem q1951 : (Jvm.Cond.static ({ cls := "BlockPapersLaw", name := "read", desc := "(LBlockPapers;[J)I" } : Jvm.MethodName)) ∈ lw_all := lw_g (lw_at lw_m8 197 rfl) rfl
theorem q1952 : (Jvm.Cond.codeWith ({ cls := "BlockPapersLaw", name := "read", desc := "(LBlockPapers;[J)I" } : Jvm.MethodName) method_29_code (3 : Nat) (Option.some Jvm.ClassFile.FieldType.int) [((0 : Nat), (8 : Nat), (11 : Nat), (13 : Nat)), ((0 : Nat), (8 : Nat), (14 : Nat), (15 : Nat))]) ∈ lw_all := lw_g (lw_at lw_m8 198 rfl) rfl
theorem q1953 : (Jvm.Cond.methodLink "BlockPapersLaw" (109 : Nat) ({ cls := "BlockPapers", name := "read", desc := "()I" } : Jvm.MethodName)) ∈ lw_all := lw_g (lw_at lw_m8 199 rfl) rfl
theorem q2170 : (Jvm.Cond.methodLink "BlockPapersLaw" (227 : Nat) ({ cls := "BlockPapersLaw", name := "faultPosition", desc := "(LBlockPapers;[J)I" } : Jvm.MethodName)) ∈ lw_all := lw_g (lw_at lw_m9 176 rfl) rfl
theorem q2171 : (Jvm.Cond.static ({ cls := "BlockPapersLaw", name := "faultPosition", desc := "(LBlockPapers;[J)I" } : Jvm.MethodName)) ∈ lw_all := lw_g (lw_at lw_m9 177 rfl) rfl
theorem q2172 : (Jvm.Cond.codeWith ({ cls := "BlockPapersLaw", name := "faultPosition", desc := "(LBlockPapers;[J)I" } : Jvm.MethodName) method_30_code (3 : Nat) (Option.some Jvm.ClassFile.FieldType.int) [((0 : Nat), (8 : Nat), (11 : Nat), (55 : Nat))]) ∈ lw_all := lw_g (lw_at lw_m9 178 rfl) rfl
theorem q2173 : (Jvm.Cond.methodLink "BlockPapersLaw" (113 : Nat) ({ cls := "BlockPapers", name := "faultPosition", desc := "()I" } : Jvm.MethodName)) ∈ lw_all := lw_g (lw_at lw_m9 179 rfl) rfl
theorem q2177 : (Jvm.Cond.methodLink "BlockPapersLaw" (230 : Nat) ({ cls := "BlockPapersLaw", name := "refusal", desc := "(LBlockPapers;IZ[J)I" } : Jvm.MethodName)) ∈ lw_all := lw_g (lw_at lw_m9 183 rfl) rfl
theorem q2178 : (Jvm.Cond.static ({ cls := "BlockPapersLaw", name := "refusal", desc := "(LBlockPapers;IZ[J)I" } : Jvm.MethodName)) ∈ lw_all := lw_g (lw_at lw_m9 184 rfl) rfl
theorem q2179 : (Jvm.Cond.codeWith ({ cls := "BlockPapersLaw", name := "refusal", desc := "(LBlockPapers;IZ[J)I" } : Jvm.MethodName) method_31_code (5 : Nat) (Option.some Jvm.ClassFile.FieldType.int) [((0 : Nat), (10 : Nat), (13 : Nat), (55 : Nat))]) ∈ lw_all := lw_g (lw_at lw_m9 185 rfl) rfl
theorem q2180 : (Jvm.Cond.methodLink "BlockPapersLaw" (116 : Nat) ({ cls := "BlockPapers", name := "refusal", desc := "(IZ)I" } : Jvm.MethodName)) ∈ lw_all := lw_g (lw_at lw_m9 186 rfl) rfl
theorem q2196 : (Jvm.Cond.methodLink "BlockPapersLaw" (233 : Nat) ({ cls := "BlockPapersLaw", name := "undo", desc := "(LBlockPapers;[J)I" } : Jvm.MethodName)) ∈ lw_all := lw_g (lw_at lw_m9 202 rfl) rfl
theorem q2197 : (Jvm.Cond.static ({ cls := "BlockPapersLaw", name := "undo", desc := "(LBlockPapers;[J)I" } : Jvm.MethodName)) ∈ lw_all := lw_g (lw_at lw_m9 203 rfl) rfl
theorem q2198 : (Jvm.Cond.codeWith ({ cls := "BlockPapersLaw", name := "undo", desc := "(LBlockPapers;[J)I" } : Jvm.MethodName) method_32_code (3 : Nat) (Option.some Jvm.ClassFile.FieldType.int) [((0 : Nat), (8 : Nat), (11 : Nat), (107 : Nat))]) ∈ lw_all := lw_g (lw_at lw_m9 204 rfl) rfl
theorem q2199 : (Jvm.Cond.methodLink "BlockPapersLaw" (119 : Nat) ({ cls := "BlockPapers", name := "undo", desc := "()I" } : Jvm.MethodName)) ∈ lw_all := lw_g (lw_at lw_m9 205 rfl) rfl
theorem q2222 : (Jvm.Cond.methodLink "BlockPapersLaw" (240 : Nat) ({ cls := "BlockPapersLaw", name := "restoreSnapshot", desc := "(LBlockPapers;[J)I" } : Jvm.MethodName)) ∈ lw_all := lw_g (lw_at lw_m9 228 rfl) rfl
theorem q2223 : (Jvm.Cond.static ({ cls := "BlockPapersLaw", name := "restoreSnapshot", desc := "(LBlockPapers;[J)I" } : Jvm.MethodName)) ∈ lw_all := lw_g (lw_at lw_m9 229 rfl) rfl
theorem q2224 : (Jvm.Cond.codeWith ({ cls := "BlockPapersLaw", name := "restoreSnapshot", desc := "(LBlockPapers;[J)I" } : Jvm.MethodName) method_33_code (3 : Nat) (Option.some Jvm.ClassFile.FieldType.int) [((0 : Nat), (8 : Nat), (11 : Nat), (107 : Nat))]) ∈ lw_all := lw_g (lw_at lw_m9 230 rfl) rfl
theorem q2225 : (Jvm.Cond.methodLink "BlockPapersLaw" (122 : Nat) ({ cls := "BlockPapers", name := "restoreSnapshot", desc := "()I" } : Jvm.MethodName)) ∈ lw_all := lw_g (lw_at lw_m9 231 rfl) rfl
theorem q2236 : (Jvm.Cond.classLink "BlockPapersLaw" (126 : Nat) "BlockPapersModel") ∈ lw_all := lw_g (lw_at lw_m10 2 rfl) rfl
theorem q2238 : (Jvm.Cond.methodLink "BlockPapersLaw" (128 : Nat) ({ cls := "BlockPapersModel", name := "<init>", desc := "()V" } : Jvm.MethodName)) ∈ lw_all := lw_g (lw_at lw_m10 4 rfl) rfl
theorem q2316 : (Jvm.Cond.methodLink "BlockPapersLaw" (135 : Nat) ({ cls := "BlockPapersModel", name := "thrown", desc := "()I" } : Jvm.MethodName)) ∈ lw_all := lw_g (lw_at lw_m10 82 rfl) rfl
theorem q2320 : (Jvm.Cond.methodLink "BlockPapersLaw" (134 : Nat) ({ cls := "BlockPapersModel", name := "block", desc := "(IZ)I" } : Jvm.MethodName)) ∈ lw_all := lw_g (lw_at lw_m10 86 rfl) rfl
theorem q2355 : (Jvm.Cond.methodLink "BlockPapersLaw" (141 : Nat) ({ cls := "BlockPapersModel", name := "blockOf", desc := "(II)I" } : Jvm.MethodName)) ∈ lw_all := lw_g (lw_at lw_m10 121 rfl) rfl
theorem q2367 : (Jvm.Cond.methodLink "BlockPapersLaw" (145 : Nat) ({ cls := "BlockPapersModel", name := "carve", desc := "(I)I" } : Jvm.MethodName)) ∈ lw_all := lw_g (lw_at lw_m10 133 rfl) rfl
theorem q2375 : (Jvm.Cond.methodLink "BlockPapersLaw" (149 : Nat) ({ cls := "BlockPapersModel", name := "ink", desc := "(III)I" } : Jvm.MethodName)) ∈ lw_all := lw_g (lw_at lw_m10 141 rfl) rfl
theorem q2383 : (Jvm.Cond.methodLink "BlockPapersLaw" (152 : Nat) ({ cls := "BlockPapersModel", name := "inkOf", desc := "(II)I" } : Jvm.MethodName)) ∈ lw_all := lw_g (lw_at lw_m10 149 rfl) rfl
theorem q2395 : (Jvm.Cond.methodLink "BlockPapersLaw" (155 : Nat) ({ cls := "BlockPapersModel", name := "mix", desc := "(III)I" } : Jvm.MethodName)) ∈ lw_all := lw_g (lw_at lw_m10 161 rfl) rfl
theorem q2403 : (Jvm.Cond.methodLink "BlockPapersLaw" (158 : Nat) ({ cls := "BlockPapersModel", name := "print", desc := "(III)I" } : Jvm.MethodName)) ∈ lw_all := lw_g (lw_at lw_m10 169 rfl) rfl
theorem q2411 : (Jvm.Cond.methodLink "BlockPapersLaw" (161 : Nat) ({ cls := "BlockPapersModel", name := "rollOf", desc := "(II)I" } : Jvm.MethodName)) ∈ lw_all := lw_g (lw_at lw_m10 177 rfl) rfl
theorem q2442 : (Jvm.Cond.methodLink "BlockPapersLaw" (164 : Nat) ({ cls := "BlockPapersModel", name := "giveBack", desc := "(I)I" } : Jvm.MethodName)) ∈ lw_all := lw_g (lw_at lw_m10 208 rfl) rfl
theorem q2458 : (Jvm.Cond.methodLink "BlockPapersLaw" (167 : Nat) ({ cls := "BlockPapersModel", name := "room", desc := "(II)I" } : Jvm.MethodName)) ∈ lw_all := lw_g (lw_at lw_m10 224 rfl) rfl
theorem q2466 : (Jvm.Cond.methodLink "BlockPapersLaw" (170 : Nat) ({ cls := "BlockPapersModel", name := "roomOf", desc := "(II)I" } : Jvm.MethodName)) ∈ lw_all := lw_g (lw_at lw_m10 232 rfl) rfl
theorem q2486 : (Jvm.Cond.methodLink "BlockPapersLaw" (173 : Nat) ({ cls := "BlockPapersModel", name := "dropOf", desc := "(III)I" } : Jvm.MethodName)) ∈ lw_all := lw_g (lw_at lw_m11 12 rfl) rfl
theorem q2490 : (Jvm.Cond.methodLink "BlockPapersLaw" (176 : Nat) ({ cls := "BlockPapersModel", name := "hang", desc := "(II)I" } : Jvm.MethodName)) ∈ lw_all := lw_g (lw_at lw_m11 16 rfl) rfl
theorem q2506 : (Jvm.Cond.methodLink "BlockPapersLaw" (180 : Nat) ({ cls := "BlockPapersModel", name := "why", desc := "(IIZ)I" } : Jvm.MethodName)) ∈ lw_all := lw_g (lw_at lw_m11 32 rfl) rfl
theorem q2510 : (Jvm.Cond.methodLink "BlockPapersLaw" (183 : Nat) ({ cls := "BlockPapersModel", name := "strip", desc := "(I)I" } : Jvm.MethodName)) ∈ lw_all := lw_g (lw_at lw_m11 36 rfl) rfl
theorem q2518 : (Jvm.Cond.methodLink "BlockPapersLaw" (186 : Nat) ({ cls := "BlockPapersModel", name := "isMatched", desc := "(I)Z" } : Jvm.MethodName)) ∈ lw_all := lw_g (lw_at lw_m11 44 rfl) rfl
theorem q2522 : (Jvm.Cond.methodLink "BlockPapersLaw" (189 : Nat) ({ cls := "BlockPapersModel", name := "bestRoll", desc := "(I)I" } : Jvm.MethodName)) ∈ lw_all := lw_g (lw_at lw_m11 48 rfl) rfl
theorem q2530 : (Jvm.Cond.methodLink "BlockPapersLaw" (192 : Nat) ({ cls := "BlockPapersModel", name := "finish", desc := "(I)I" } : Jvm.MethodName)) ∈ lw_all := lw_g (lw_at lw_m11 56 rfl) rfl
theorem q2538 : (Jvm.Cond.methodLink "BlockPapersLaw" (195 : Nat) ({ cls := "BlockPapersModel", name := "dropsFrom", desc := "(II)I" } : Jvm.MethodName)) ∈ lw_all := lw_g (lw_at lw_m11 64 rfl) rfl
theorem q2542 : (Jvm.Cond.methodLink "BlockPapersLaw" (198 : Nat) ({ cls := "BlockPapersModel", name := "dropsAgain", desc := "(II)I" } : Jvm.MethodName)) ∈ lw_all := lw_g (lw_at lw_m11 68 rfl) rfl
theorem q2547 : (Jvm.Cond.methodLink "BlockPapersLaw" (201 : Nat) ({ cls := "BlockPapersModel", name := "line", desc := "(I)I" } : Jvm.MethodName)) ∈ lw_all := lw_g (lw_at lw_m11 73 rfl) rfl
theorem q2571 : (Jvm.Cond.methodLink "BlockPapersLaw" (204 : Nat) ({ cls := "BlockPapersModel", name := "character", desc := "(I)C" } : Jvm.MethodName)) ∈ lw_all := lw_g (lw_at lw_m11 97 rfl) rfl
theorem q2575 : (Jvm.Cond.methodLink "BlockPapersLaw" (207 : Nat) ({ cls := "BlockPapersModel", name := "number", desc := "(I)I" } : Jvm.MethodName)) ∈ lw_all := lw_g (lw_at lw_m11 101 rfl) rfl
theorem q2599 : (Jvm.Cond.methodLink "BlockPapersLaw" (211 : Nat) ({ cls := "BlockPapersModel", name := "printedAgain", desc := "()I" } : Jvm.MethodName)) ∈ lw_all := lw_g (lw_at lw_m11 125 rfl) rfl
theorem q2603 : (Jvm.Cond.methodLink "BlockPapersLaw" (215 : Nat) ({ cls := "BlockPapersModel", name := "meanShade", desc := "()D" } : Jvm.MethodName)) ∈ lw_all := lw_g (lw_at lw_m11 129 rfl) rfl
theorem q2607 : (Jvm.Cond.methodLink "BlockPapersLaw" (218 : Nat) ({ cls := "BlockPapersModel", name := "wasted", desc := "()F" } : Jvm.MethodName)) ∈ lw_all := lw_g (lw_at lw_m11 133 rfl) rfl
theorem q2615 : (Jvm.Cond.methodLink "BlockPapersLaw" (222 : Nat) ({ cls := "BlockPapersModel", name := "feed", desc := "(C)I" } : Jvm.MethodName)) ∈ lw_all := lw_g (lw_at lw_m11 141 rfl) rfl
theorem q2619 : (Jvm.Cond.methodLink "BlockPapersLaw" (226 : Nat) ({ cls := "BlockPapersModel", name := "read", desc := "()I" } : Jvm.MethodName)) ∈ lw_all := lw_g (lw_at lw_m11 145 rfl) rfl
theorem q2654 : (Jvm.Cond.methodLink "BlockPapersLaw" (229 : Nat) ({ cls := "BlockPapersModel", name := "faultPosition", desc := "()I" } : Jvm.MethodName)) ∈ lw_all := lw_g (lw_at lw_m11 180 rfl) rfl
theorem q2658 : (Jvm.Cond.methodLink "BlockPapersLaw" (232 : Nat) ({ cls := "BlockPapersModel", name := "refusal", desc := "(IZ)I" } : Jvm.MethodName)) ∈ lw_all := lw_g (lw_at lw_m11 184 rfl) rfl
theorem q2662 : (Jvm.Cond.methodLink "BlockPapersLaw" (235 : Nat) ({ cls := "BlockPapersModel", name := "undo", desc := "()I" } : Jvm.MethodName)) ∈ lw_all := lw_g (lw_at lw_m11 188 rfl) rfl
theorem q2666 : (Jvm.Cond.methodLink "BlockPapersLaw" (239 : Nat) ({ cls := "BlockPapersModel", name := "saveSnapshot", desc := "()I" } : Jvm.MethodName)) ∈ lw_all := lw_g (lw_at lw_m11 192 rfl) rfl
theorem q2670 : (Jvm.Cond.methodLink "BlockPapersLaw" (242 : Nat) ({ cls := "BlockPapersModel", name := "restoreSnapshot", desc := "()I" } : Jvm.MethodName)) ∈ lw_all := lw_g (lw_at lw_m11 196 rfl) rfl
/-! the law's own entry -/
set_option maxRecDepth 100000
abbrev cL_law : ByteArray := code
def dkwL_law_90 : List UInt8 := [167, 0, 3, 132, 5, 4, 167, 247, 107, 4, 172]
abbrev dktL_law_90 : List UInt8 := dkwL_law_90 ++ []
def dkwL_law_89 : List UInt8 := [159, 0, 5, 3, 172, 21, 6, 154, 0, 15, 45, 3, 47, 21, 7, 133, 148, 153, 0, 5, 3, 172]
abbrev dktL_law_89 : List UInt8 := dkwL_law_89 ++ dktL_law_90
def dkwL_law_88 : List UInt8 := [159, 0, 49, 3, 172, 43, 45, 184, 0, 240, 54, 6, 44, 182, 0, 242, 54, 7, 44, 182, 0, 135, 21, 6]
abbrev dktL_law_88 : List UInt8 := dkwL_law_88 ++ dktL_law_89
def dkwL_law_87 : List UInt8 := [45, 3, 47, 21, 7, 133, 148, 153, 0, 5, 3, 172, 167, 0, 60, 43, 182, 0, 236, 44, 182, 0, 239]
abbrev dktL_law_87 : List UInt8 := dkwL_law_87 ++ dktL_law_88
def dkwL_law_86 : List UInt8 := [54, 6, 44, 182, 0, 235, 54, 7, 44, 182, 0, 135, 21, 6, 159, 0, 5, 3, 172, 21, 6, 154, 0, 15]
abbrev dktL_law_86 : List UInt8 := dkwL_law_86 ++ dktL_law_87
def dkwL_law_85 : List UInt8 := [154, 0, 15, 45, 3, 47, 21, 7, 133, 148, 153, 0, 5, 3, 172, 167, 0, 104, 43, 45, 184, 0, 233]
abbrev dktL_law_85 : List UInt8 := dkwL_law_85 ++ dktL_law_86
def dkwL_law_84 : List UInt8 := [167, 0, 4, 3, 182, 0, 232, 54, 7, 44, 182, 0, 135, 21, 6, 159, 0, 5, 3, 172, 21, 6]
abbrev dktL_law_84 : List UInt8 := dkwL_law_84 ++ dktL_law_85
def dkwL_law_83 : List UInt8 := [45, 184, 0, 230, 54, 6, 44, 42, 21, 5, 4, 96, 46, 42, 21, 5, 5, 96, 46, 153, 0, 7, 4]
abbrev dktL_law_83 : List UInt8 := dkwL_law_83 ++ dktL_law_84
def dkwL_law_82 : List UInt8 := [167, 0, 188, 43, 42, 21, 5, 4, 96, 46, 42, 21, 5, 5, 96, 46, 153, 0, 7, 4, 167, 0, 4, 3]
abbrev dktL_law_82 : List UInt8 := dkwL_law_82 ++ dktL_law_83
def dkwL_law_81 : List UInt8 := [159, 0, 5, 3, 172, 21, 6, 154, 0, 15, 45, 3, 47, 21, 7, 133, 148, 153, 0, 5, 3, 172]
abbrev dktL_law_81 : List UInt8 := dkwL_law_81 ++ dktL_law_82
def dkwL_law_80 : List UInt8 := [167, 0, 232, 43, 45, 184, 0, 227, 54, 6, 44, 182, 0, 229, 54, 7, 44, 182, 0, 135, 21, 6]
abbrev dktL_law_80 : List UInt8 := dkwL_law_80 ++ dktL_law_81
def dkwL_law_79 : List UInt8 := [159, 0, 5, 3, 172, 21, 6, 154, 0, 15, 45, 3, 47, 21, 7, 133, 148, 153, 0, 5, 3, 172]
abbrev dktL_law_79 : List UInt8 := dkwL_law_79 ++ dktL_law_80
def dkwL_law_78 : List UInt8 := [167, 1, 20, 43, 45, 184, 0, 223, 54, 6, 44, 182, 0, 226, 54, 7, 44, 182, 0, 135, 21, 6]
abbrev dktL_law_78 : List UInt8 := dkwL_law_78 ++ dktL_law_79
def dkwL_law_77 : List UInt8 := [159, 0, 5, 3, 172, 21, 6, 154, 0, 15, 45, 3, 47, 21, 7, 133, 148, 153, 0, 5, 3, 172]
abbrev dktL_law_77 : List UInt8 := dkwL_law_77 ++ dktL_law_78
def dkwL_law_76 : List UInt8 := [184, 0, 219, 54, 6, 44, 42, 21, 5, 4, 96, 46, 146, 182, 0, 222, 54, 7, 44, 182, 0, 135, 21, 6]
abbrev dktL_law_76 : List UInt8 := dkwL_law_76 ++ dktL_law_77
def dkwL_law_75 : List UInt8 := [23, 7, 23, 7, 149, 154, 0, 5, 3, 172, 167, 1, 78, 43, 42, 21, 5, 4, 96, 46, 146, 45]
abbrev dktL_law_75 : List UInt8 := dkwL_law_75 ++ dktL_law_76
def dkwL_law_74 : List UInt8 := [25, 4, 3, 49, 23, 7, 141, 151, 153, 0, 25, 25, 4, 3, 49, 25, 4, 3, 49, 151, 153, 0, 11]
abbrev dktL_law_74 : List UInt8 := dkwL_law_74 ++ dktL_law_75
def dkwL_law_73 : List UInt8 := [54, 6, 44, 182, 0, 218, 56, 7, 44, 182, 0, 135, 21, 6, 159, 0, 5, 3, 172, 21, 6, 154, 0, 36]
abbrev dktL_law_73 : List UInt8 := dkwL_law_73 ++ dktL_law_74
def dkwL_law_72 : List UInt8 := [49, 151, 153, 0, 11, 24, 7, 24, 7, 151, 154, 0, 5, 3, 172, 167, 1, 144, 43, 25, 4, 184, 0, 216]
abbrev dktL_law_72 : List UInt8 := dkwL_law_72 ++ dktL_law_73
def dkwL_law_71 : List UInt8 := [3, 172, 21, 6, 154, 0, 35, 25, 4, 3, 49, 24, 7, 151, 153, 0, 25, 25, 4, 3, 49, 25, 4, 3]
abbrev dktL_law_71 : List UInt8 := dkwL_law_71 ++ dktL_law_72
def dkwL_law_70 : List UInt8 := [172, 43, 25, 4, 184, 0, 212, 54, 6, 44, 182, 0, 215, 57, 7, 44, 182, 0, 135, 21, 6, 159, 0, 5]
abbrev dktL_law_70 : List UInt8 := dkwL_law_70 ++ dktL_law_71
def dkwL_law_69 : List UInt8 := [21, 7, 133, 148, 153, 0, 5, 3, 172, 167, 1, 222, 43, 182, 0, 208, 44, 182, 0, 211, 159, 1, 211, 3]
abbrev dktL_law_69 : List UInt8 := dkwL_law_69 ++ dktL_law_70
def dkwL_law_68 : List UInt8 := [182, 0, 207, 54, 7, 44, 182, 0, 135, 21, 6, 159, 0, 5, 3, 172, 21, 6, 154, 0, 15, 45, 3, 47]
abbrev dktL_law_68 : List UInt8 := dkwL_law_68 ++ dktL_law_69
def dkwL_law_67 : List UInt8 := [167, 2, 22, 43, 42, 21, 5, 4, 96, 46, 45, 184, 0, 205, 54, 6, 44, 42, 21, 5, 4, 96, 46]
abbrev dktL_law_67 : List UInt8 := dkwL_law_67 ++ dktL_law_68
def dkwL_law_66 : List UInt8 := [21, 6, 159, 0, 5, 3, 172, 21, 6, 154, 0, 15, 45, 3, 47, 21, 7, 133, 148, 153, 0, 5, 3, 172]
abbrev dktL_law_66 : List UInt8 := dkwL_law_66 ++ dktL_law_67
def dkwL_law_65 : List UInt8 := [46, 45, 184, 0, 202, 54, 6, 44, 42, 21, 5, 4, 96, 46, 182, 0, 204, 54, 7, 44, 182, 0, 135]
abbrev dktL_law_65 : List UInt8 := dkwL_law_65 ++ dktL_law_66
def dkwL_law_64 : List UInt8 := [154, 0, 15, 45, 3, 47, 21, 7, 133, 148, 153, 0, 5, 3, 172, 167, 2, 78, 43, 42, 21, 5, 4, 96]
abbrev dktL_law_64 : List UInt8 := dkwL_law_64 ++ dktL_law_65
def dkwL_law_63 : List UInt8 := [21, 5, 4, 96, 46, 182, 0, 201, 54, 7, 44, 182, 0, 135, 21, 6, 159, 0, 5, 3, 172, 21, 6]
abbrev dktL_law_63 : List UInt8 := dkwL_law_63 ++ dktL_law_64
def dkwL_law_62 : List UInt8 := [153, 0, 5, 3, 172, 167, 2, 134, 43, 42, 21, 5, 4, 96, 46, 45, 184, 0, 199, 54, 6, 44, 42]
abbrev dktL_law_62 : List UInt8 := dkwL_law_62 ++ dktL_law_63
def dkwL_law_61 : List UInt8 := [182, 0, 135, 21, 6, 159, 0, 5, 3, 172, 21, 6, 154, 0, 15, 45, 3, 47, 21, 7, 133, 148]
abbrev dktL_law_61 : List UInt8 := dkwL_law_61 ++ dktL_law_62
def dkwL_law_60 : List UInt8 := [184, 0, 196, 54, 6, 44, 42, 21, 5, 4, 96, 46, 42, 21, 5, 5, 96, 46, 182, 0, 198, 54, 7, 44]
abbrev dktL_law_60 : List UInt8 := dkwL_law_60 ++ dktL_law_61
def dkwL_law_59 : List UInt8 := [148, 153, 0, 5, 3, 172, 167, 2, 202, 43, 42, 21, 5, 4, 96, 46, 42, 21, 5, 5, 96, 46, 45]
abbrev dktL_law_59 : List UInt8 := dkwL_law_59 ++ dktL_law_60
def dkwL_law_58 : List UInt8 := [54, 7, 44, 182, 0, 135, 21, 6, 159, 0, 5, 3, 172, 21, 6, 154, 0, 15, 45, 3, 47, 21, 7, 133]
abbrev dktL_law_58 : List UInt8 := dkwL_law_58 ++ dktL_law_59
def dkwL_law_57 : List UInt8 := [46, 45, 184, 0, 193, 54, 6, 44, 42, 21, 5, 4, 96, 46, 42, 21, 5, 5, 96, 46, 182, 0, 195]
abbrev dktL_law_57 : List UInt8 := dkwL_law_57 ++ dktL_law_58
def dkwL_law_56 : List UInt8 := [21, 7, 133, 148, 153, 0, 5, 3, 172, 167, 3, 14, 43, 42, 21, 5, 4, 96, 46, 42, 21, 5, 5, 96]
abbrev dktL_law_56 : List UInt8 := dkwL_law_56 ++ dktL_law_57
def dkwL_law_55 : List UInt8 := [182, 0, 192, 54, 7, 44, 182, 0, 135, 21, 6, 159, 0, 5, 3, 172, 21, 6, 154, 0, 15, 45, 3, 47]
abbrev dktL_law_55 : List UInt8 := dkwL_law_55 ++ dktL_law_56
def dkwL_law_54 : List UInt8 := [167, 3, 70, 43, 42, 21, 5, 4, 96, 46, 45, 184, 0, 190, 54, 6, 44, 42, 21, 5, 4, 96, 46]
abbrev dktL_law_54 : List UInt8 := dkwL_law_54 ++ dktL_law_55
def dkwL_law_53 : List UInt8 := [21, 6, 159, 0, 5, 3, 172, 21, 6, 154, 0, 15, 45, 3, 47, 21, 7, 133, 148, 153, 0, 5, 3, 172]
abbrev dktL_law_53 : List UInt8 := dkwL_law_53 ++ dktL_law_54
def dkwL_law_52 : List UInt8 := [96, 46, 45, 184, 0, 187, 54, 6, 44, 42, 21, 5, 4, 96, 46, 182, 0, 189, 54, 7, 44, 182, 0, 135]
abbrev dktL_law_52 : List UInt8 := dkwL_law_52 ++ dktL_law_53
def dkwL_law_51 : List UInt8 := [21, 7, 153, 0, 7, 10, 167, 0, 4, 9, 148, 153, 0, 5, 3, 172, 167, 3, 126, 43, 42, 21, 5, 4]
abbrev dktL_law_51 : List UInt8 := dkwL_law_51 ++ dktL_law_52
def dkwL_law_50 : List UInt8 := [182, 0, 186, 54, 7, 44, 182, 0, 135, 21, 6, 159, 0, 5, 3, 172, 21, 6, 154, 0, 22, 45, 3, 47]
abbrev dktL_law_50 : List UInt8 := dkwL_law_50 ++ dktL_law_51
def dkwL_law_49 : List UInt8 := [167, 3, 189, 43, 42, 21, 5, 4, 96, 46, 45, 184, 0, 184, 54, 6, 44, 42, 21, 5, 4, 96, 46]
abbrev dktL_law_49 : List UInt8 := dkwL_law_49 ++ dktL_law_50
def dkwL_law_48 : List UInt8 := [21, 6, 159, 0, 5, 3, 172, 21, 6, 154, 0, 15, 45, 3, 47, 21, 7, 133, 148, 153, 0, 5, 3, 172]
abbrev dktL_law_48 : List UInt8 := dkwL_law_48 ++ dktL_law_49
def dkwL_law_47 : List UInt8 := [46, 45, 184, 0, 181, 54, 6, 44, 42, 21, 5, 4, 96, 46, 182, 0, 183, 54, 7, 44, 182, 0, 135]
abbrev dktL_law_47 : List UInt8 := dkwL_law_47 ++ dktL_law_48
def dkwL_law_46 : List UInt8 := [154, 0, 15, 45, 3, 47, 21, 7, 133, 148, 153, 0, 5, 3, 172, 167, 3, 245, 43, 42, 21, 5, 4, 96]
abbrev dktL_law_46 : List UInt8 := dkwL_law_46 ++ dktL_law_47
def dkwL_law_45 : List UInt8 := [167, 0, 4, 3, 182, 0, 180, 54, 7, 44, 182, 0, 135, 21, 6, 159, 0, 5, 3, 172, 21, 6]
abbrev dktL_law_45 : List UInt8 := dkwL_law_45 ++ dktL_law_46
def dkwL_law_44 : List UInt8 := [42, 21, 5, 4, 96, 46, 42, 21, 5, 5, 96, 46, 42, 21, 5, 6, 96, 46, 153, 0, 7, 4]
abbrev dktL_law_44 : List UInt8 := dkwL_law_44 ++ dktL_law_45
def dkwL_law_43 : List UInt8 := [5, 96, 46, 42, 21, 5, 6, 96, 46, 153, 0, 7, 4, 167, 0, 4, 3, 45, 184, 0, 177, 54, 6, 44]
abbrev dktL_law_43 : List UInt8 := dkwL_law_43 ++ dktL_law_44
def dkwL_law_42 : List UInt8 := [3, 47, 21, 7, 133, 148, 153, 0, 5, 3, 172, 167, 4, 85, 43, 42, 21, 5, 4, 96, 46, 42, 21, 5]
abbrev dktL_law_42 : List UInt8 := dkwL_law_42 ++ dktL_law_43
def dkwL_law_41 : List UInt8 := [96, 46, 182, 0, 176, 54, 7, 44, 182, 0, 135, 21, 6, 159, 0, 5, 3, 172, 21, 6, 154, 0, 15, 45]
abbrev dktL_law_41 : List UInt8 := dkwL_law_41 ++ dktL_law_42
def dkwL_law_40 : List UInt8 := [46, 42, 21, 5, 5, 96, 46, 45, 184, 0, 174, 54, 6, 44, 42, 21, 5, 4, 96, 46, 42, 21, 5, 5]
abbrev dktL_law_40 : List UInt8 := dkwL_law_40 ++ dktL_law_41
def dkwL_law_39 : List UInt8 := [154, 0, 15, 45, 3, 47, 21, 7, 133, 148, 153, 0, 5, 3, 172, 167, 4, 153, 43, 42, 21, 5, 4, 96]
abbrev dktL_law_39 : List UInt8 := dkwL_law_39 ++ dktL_law_40
def dkwL_law_38 : List UInt8 := [21, 5, 6, 96, 46, 182, 0, 173, 54, 7, 44, 182, 0, 135, 21, 6, 159, 0, 5, 3, 172, 21, 6]
abbrev dktL_law_38 : List UInt8 := dkwL_law_38 ++ dktL_law_39
def dkwL_law_37 : List UInt8 := [6, 96, 46, 45, 184, 0, 171, 54, 6, 44, 42, 21, 5, 4, 96, 46, 42, 21, 5, 5, 96, 46, 42]
abbrev dktL_law_37 : List UInt8 := dkwL_law_37 ++ dktL_law_38
def dkwL_law_36 : List UInt8 := [153, 0, 5, 3, 172, 167, 4, 233, 43, 42, 21, 5, 4, 96, 46, 42, 21, 5, 5, 96, 46, 42, 21, 5]
abbrev dktL_law_36 : List UInt8 := dkwL_law_36 ++ dktL_law_37
def dkwL_law_35 : List UInt8 := [182, 0, 135, 21, 6, 159, 0, 5, 3, 172, 21, 6, 154, 0, 15, 45, 3, 47, 21, 7, 133, 148]
abbrev dktL_law_35 : List UInt8 := dkwL_law_35 ++ dktL_law_36
def dkwL_law_34 : List UInt8 := [184, 0, 168, 54, 6, 44, 42, 21, 5, 4, 96, 46, 42, 21, 5, 5, 96, 46, 182, 0, 170, 54, 7, 44]
abbrev dktL_law_34 : List UInt8 := dkwL_law_34 ++ dktL_law_35
def dkwL_law_33 : List UInt8 := [148, 153, 0, 5, 3, 172, 167, 5, 45, 43, 42, 21, 5, 4, 96, 46, 42, 21, 5, 5, 96, 46, 45]
abbrev dktL_law_33 : List UInt8 := dkwL_law_33 ++ dktL_law_34
def dkwL_law_32 : List UInt8 := [54, 7, 44, 182, 0, 135, 21, 6, 159, 0, 5, 3, 172, 21, 6, 154, 0, 15, 45, 3, 47, 21, 7, 133]
abbrev dktL_law_32 : List UInt8 := dkwL_law_32 ++ dktL_law_33
def dkwL_law_31 : List UInt8 := [46, 45, 184, 0, 165, 54, 6, 44, 42, 21, 5, 4, 96, 46, 42, 21, 5, 5, 96, 46, 182, 0, 167]
abbrev dktL_law_31 : List UInt8 := dkwL_law_31 ++ dktL_law_32
def dkwL_law_30 : List UInt8 := [21, 7, 133, 148, 153, 0, 5, 3, 172, 167, 5, 113, 43, 42, 21, 5, 4, 96, 46, 42, 21, 5, 5, 96]
abbrev dktL_law_30 : List UInt8 := dkwL_law_30 ++ dktL_law_31
def dkwL_law_29 : List UInt8 := [182, 0, 164, 54, 7, 44, 182, 0, 135, 21, 6, 159, 0, 5, 3, 172, 21, 6, 154, 0, 15, 45, 3, 47]
abbrev dktL_law_29 : List UInt8 := dkwL_law_29 ++ dktL_law_30
def dkwL_law_28 : List UInt8 := [167, 5, 169, 43, 42, 21, 5, 4, 96, 46, 45, 184, 0, 162, 54, 6, 44, 42, 21, 5, 4, 96, 46]
abbrev dktL_law_28 : List UInt8 := dkwL_law_28 ++ dktL_law_29
def dkwL_law_27 : List UInt8 := [159, 0, 5, 3, 172, 21, 6, 154, 0, 15, 45, 3, 47, 21, 7, 133, 148, 153, 0, 5, 3, 172]
abbrev dktL_law_27 : List UInt8 := dkwL_law_27 ++ dktL_law_28
def dkwL_law_26 : List UInt8 := [21, 5, 4, 96, 46, 42, 21, 5, 5, 96, 46, 182, 0, 161, 54, 7, 44, 182, 0, 135, 21, 6]
abbrev dktL_law_26 : List UInt8 := dkwL_law_26 ++ dktL_law_27
def dkwL_law_25 : List UInt8 := [167, 5, 237, 43, 42, 21, 5, 4, 96, 46, 42, 21, 5, 5, 96, 46, 45, 184, 0, 159, 54, 6, 44, 42]
abbrev dktL_law_25 : List UInt8 := dkwL_law_25 ++ dktL_law_26
def dkwL_law_24 : List UInt8 := [21, 6, 159, 0, 5, 3, 172, 21, 6, 154, 0, 15, 45, 3, 47, 21, 7, 133, 148, 153, 0, 5, 3, 172]
abbrev dktL_law_24 : List UInt8 := dkwL_law_24 ++ dktL_law_25
def dkwL_law_23 : List UInt8 := [96, 46, 42, 21, 5, 5, 96, 46, 42, 21, 5, 6, 96, 46, 182, 0, 158, 54, 7, 44, 182, 0, 135]
abbrev dktL_law_23 : List UInt8 := dkwL_law_23 ++ dktL_law_24
def dkwL_law_22 : List UInt8 := [46, 42, 21, 5, 5, 96, 46, 42, 21, 5, 6, 96, 46, 45, 184, 0, 156, 54, 6, 44, 42, 21, 5, 4]
abbrev dktL_law_22 : List UInt8 := dkwL_law_22 ++ dktL_law_23
def dkwL_law_21 : List UInt8 := [154, 0, 15, 45, 3, 47, 21, 7, 133, 148, 153, 0, 5, 3, 172, 167, 6, 61, 43, 42, 21, 5, 4, 96]
abbrev dktL_law_21 : List UInt8 := dkwL_law_21 ++ dktL_law_22
def dkwL_law_20 : List UInt8 := [42, 21, 5, 6, 96, 46, 182, 0, 155, 54, 7, 44, 182, 0, 135, 21, 6, 159, 0, 5, 3, 172, 21, 6]
abbrev dktL_law_20 : List UInt8 := dkwL_law_20 ++ dktL_law_21
def dkwL_law_19 : List UInt8 := [21, 5, 6, 96, 46, 45, 184, 0, 153, 54, 6, 44, 42, 21, 5, 4, 96, 46, 42, 21, 5, 5, 96, 46]
abbrev dktL_law_19 : List UInt8 := dkwL_law_19 ++ dktL_law_20
def dkwL_law_18 : List UInt8 := [148, 153, 0, 5, 3, 172, 167, 6, 141, 43, 42, 21, 5, 4, 96, 46, 42, 21, 5, 5, 96, 46, 42]
abbrev dktL_law_18 : List UInt8 := dkwL_law_18 ++ dktL_law_19
def dkwL_law_17 : List UInt8 := [54, 7, 44, 182, 0, 135, 21, 6, 159, 0, 5, 3, 172, 21, 6, 154, 0, 15, 45, 3, 47, 21, 7, 133]
abbrev dktL_law_17 : List UInt8 := dkwL_law_17 ++ dktL_law_18
def dkwL_law_16 : List UInt8 := [46, 45, 184, 0, 150, 54, 6, 44, 42, 21, 5, 4, 96, 46, 42, 21, 5, 5, 96, 46, 182, 0, 152]
abbrev dktL_law_16 : List UInt8 := dkwL_law_16 ++ dktL_law_17
def dkwL_law_15 : List UInt8 := [21, 7, 133, 148, 153, 0, 5, 3, 172, 167, 6, 209, 43, 42, 21, 5, 4, 96, 46, 42, 21, 5, 5, 96]
abbrev dktL_law_15 : List UInt8 := dkwL_law_15 ++ dktL_law_16
def dkwL_law_14 : List UInt8 := [182, 0, 149, 54, 7, 44, 182, 0, 135, 21, 6, 159, 0, 5, 3, 172, 21, 6, 154, 0, 15, 45, 3, 47]
abbrev dktL_law_14 : List UInt8 := dkwL_law_14 ++ dktL_law_15
def dkwL_law_13 : List UInt8 := [184, 0, 146, 54, 6, 44, 42, 21, 5, 4, 96, 46, 42, 21, 5, 5, 96, 46, 42, 21, 5, 6, 96, 46]
abbrev dktL_law_13 : List UInt8 := dkwL_law_13 ++ dktL_law_14
def dkwL_law_12 : List UInt8 := [167, 7, 33, 43, 42, 21, 5, 4, 96, 46, 42, 21, 5, 5, 96, 46, 42, 21, 5, 6, 96, 46, 45]
abbrev dktL_law_12 : List UInt8 := dkwL_law_12 ++ dktL_law_13
def dkwL_law_11 : List UInt8 := [159, 0, 5, 3, 172, 21, 6, 154, 0, 15, 45, 3, 47, 21, 7, 133, 148, 153, 0, 5, 3, 172]
abbrev dktL_law_11 : List UInt8 := dkwL_law_11 ++ dktL_law_12
def dkwL_law_10 : List UInt8 := [184, 0, 142, 54, 6, 44, 42, 21, 5, 4, 96, 46, 182, 0, 145, 54, 7, 44, 182, 0, 135, 21, 6]
abbrev dktL_law_10 : List UInt8 := dkwL_law_10 ++ dktL_law_11
def dkwL_law_9 : List UInt8 := [3, 47, 21, 7, 133, 148, 153, 0, 5, 3, 172, 167, 7, 89, 43, 42, 21, 5, 4, 96, 46, 45]
abbrev dktL_law_9 : List UInt8 := dkwL_law_9 ++ dktL_law_10
def dkwL_law_8 : List UInt8 := [96, 46, 182, 0, 141, 54, 7, 44, 182, 0, 135, 21, 6, 159, 0, 5, 3, 172, 21, 6, 154, 0, 15, 45]
abbrev dktL_law_8 : List UInt8 := dkwL_law_8 ++ dktL_law_9
def dkwL_law_7 : List UInt8 := [46, 42, 21, 5, 5, 96, 46, 45, 184, 0, 138, 54, 6, 44, 42, 21, 5, 4, 96, 46, 42, 21, 5, 5]
abbrev dktL_law_7 : List UInt8 := dkwL_law_7 ++ dktL_law_8
def dkwL_law_6 : List UInt8 := [154, 0, 15, 45, 3, 47, 21, 7, 133, 148, 153, 0, 5, 3, 172, 167, 7, 157, 43, 42, 21, 5, 4, 96]
abbrev dktL_law_6 : List UInt8 := dkwL_law_6 ++ dktL_law_7
def dkwL_law_5 : List UInt8 := [167, 0, 4, 3, 182, 0, 134, 54, 7, 44, 182, 0, 135, 21, 6, 159, 0, 5, 3, 172, 21, 6]
abbrev dktL_law_5 : List UInt8 := dkwL_law_5 ++ dktL_law_6
def dkwL_law_4 : List UInt8 := [184, 0, 129, 54, 6, 44, 42, 21, 5, 4, 96, 46, 42, 21, 5, 5, 96, 46, 153, 0, 7, 4]
abbrev dktL_law_4 : List UInt8 := dkwL_law_4 ++ dktL_law_5
def dkwL_law_3 : List UInt8 := [43, 42, 21, 5, 4, 96, 46, 42, 21, 5, 5, 96, 46, 153, 0, 7, 4, 167, 0, 4, 3, 45]
abbrev dktL_law_3 : List UInt8 := dkwL_law_3 ++ dktL_law_4
def dkwL_law_2 : List UInt8 := [170, 0, 0, 0, 0, 0, 8, 130, 0, 0, 0, 0, 0, 0, 0, 32, 0, 0, 0, 148, 0, 0, 0, 232, 0, 0, 1, 44, 0, 0, 1, 100, 0, 0, 1, 180, 0, 0, 1, 248, 0, 0, 2, 72, 0, 0, 2, 152, 0, 0, 2, 220, 0, 0, 3, 20, 0, 0, 3, 88, 0, 0, 3, 156, 0, 0, 3, 236, 0, 0, 4, 48, 0, 0, 4, 144, 0, 0, 4, 200, 0, 0, 5, 7, 0, 0, 5, 63, 0, 0, 5, 119, 0, 0, 5, 187, 0, 0, 5, 255, 0, 0, 6, 55, 0, 0, 6, 111, 0, 0, 6, 167, 0, 0, 6, 180, 0, 0, 6, 245, 0, 0, 7, 55, 0, 0, 7, 113, 0, 0, 7, 157, 0, 0, 7, 201, 0, 0, 8, 29, 0, 0, 8, 73, 0, 0, 8, 86]
abbrev dktL_law_2 : List UInt8 := dkwL_law_2 ++ dktL_law_3
def dkwL_law_1 : List UInt8 := [58, 4, 3, 54, 5, 21, 5, 42, 190, 7, 100, 163, 8, 146, 42, 21, 5, 46, 16, 63, 126]
abbrev dktL_law_1 : List UInt8 := dkwL_law_1 ++ dktL_law_2
def dkwL_law_0 : List UInt8 := [187, 0, 8, 89, 183, 0, 125, 76, 187, 0, 126, 89, 183, 0, 128, 77, 4, 188, 11, 78, 4, 188, 7]
abbrev dktL_law_0 : List UInt8 := dkwL_law_0 ++ dktL_law_1
theorem dksL_law_0 : cL_law.data.toList.drop 0 = dktL_law_0 := by decide +kernel
theorem dksL_law_1 : cL_law.data.toList.drop 23 = dktL_law_1 := dk_seg dksL_law_0 23 rfl rfl
theorem dksL_law_2 : cL_law.data.toList.drop 44 = dktL_law_2 := dk_seg dksL_law_1 21 rfl rfl
theorem dksL_law_3 : cL_law.data.toList.drop 192 = dktL_law_3 := dk_seg dksL_law_2 148 rfl rfl
theorem dksL_law_4 : cL_law.data.toList.drop 214 = dktL_law_4 := dk_seg dksL_law_3 22 rfl rfl
theorem dksL_law_5 : cL_law.data.toList.drop 236 = dktL_law_5 := dk_seg dksL_law_4 22 rfl rfl
theorem dksL_law_6 : cL_law.data.toList.drop 258 = dktL_law_6 := dk_seg dksL_law_5 22 rfl rfl
theorem dksL_law_7 : cL_law.data.toList.drop 282 = dktL_law_7 := dk_seg dksL_law_6 24 rfl rfl
theorem dksL_law_8 : cL_law.data.toList.drop 306 = dktL_law_8 := dk_seg dksL_law_7 24 rfl rfl
theorem dksL_law_9 : cL_law.data.toList.drop 330 = dktL_law_9 := dk_seg dksL_law_8 24 rfl rfl
theorem dksL_law_10 : cL_law.data.toList.drop 352 = dktL_law_10 := dk_seg dksL_law_9 22 rfl rfl
theorem dksL_law_11 : cL_law.data.toList.drop 375 = dktL_law_11 := dk_seg dksL_law_10 23 rfl rfl
theorem dksL_law_12 : cL_law.data.toList.drop 397 = dktL_law_12 := dk_seg dksL_law_11 22 rfl rfl
theorem dksL_law_13 : cL_law.data.toList.drop 420 = dktL_law_13 := dk_seg dksL_law_12 23 rfl rfl
theorem dksL_law_14 : cL_law.data.toList.drop 444 = dktL_law_14 := dk_seg dksL_law_13 24 rfl rfl
theorem dksL_law_15 : cL_law.data.toList.drop 468 = dktL_law_15 := dk_seg dksL_law_14 24 rfl rfl
theorem dksL_law_16 : cL_law.data.toList.drop 492 = dktL_law_16 := dk_seg dksL_law_15 24 rfl rfl
theorem dksL_law_17 : cL_law.data.toList.drop 515 = dktL_law_17 := dk_seg dksL_law_16 23 rfl rfl
theorem dksL_law_18 : cL_law.data.toList.drop 539 = dktL_law_18 := dk_seg dksL_law_17 24 rfl rfl
theorem dksL_law_19 : cL_law.data.toList.drop 562 = dktL_law_19 := dk_seg dksL_law_18 23 rfl rfl
theorem dksL_law_20 : cL_law.data.toList.drop 586 = dktL_law_20 := dk_seg dksL_law_19 24 rfl rfl
theorem dksL_law_21 : cL_law.data.toList.drop 610 = dktL_law_21 := dk_seg dksL_law_20 24 rfl rfl
theorem dksL_law_22 : cL_law.data.toList.drop 634 = dktL_law_22 := dk_seg dksL_law_21 24 rfl rfl
theorem dksL_law_23 : cL_law.data.toList.drop 658 = dktL_law_23 := dk_seg dksL_law_22 24 rfl rfl
theorem dksL_law_24 : cL_law.data.toList.drop 681 = dktL_law_24 := dk_seg dksL_law_23 23 rfl rfl
theorem dksL_law_25 : cL_law.data.toList.drop 705 = dktL_law_25 := dk_seg dksL_law_24 24 rfl rfl
theorem dksL_law_26 : cL_law.data.toList.drop 729 = dktL_law_26 := dk_seg dksL_law_25 24 rfl rfl
theorem dksL_law_27 : cL_law.data.toList.drop 751 = dktL_law_27 := dk_seg dksL_law_26 22 rfl rfl
theorem dksL_law_28 : cL_law.data.toList.drop 773 = dktL_law_28 := dk_seg dksL_law_27 22 rfl rfl
theorem dksL_law_29 : cL_law.data.toList.drop 796 = dktL_law_29 := dk_seg dksL_law_28 23 rfl rfl
theorem dksL_law_30 : cL_law.data.toList.drop 820 = dktL_law_30 := dk_seg dksL_law_29 24 rfl rfl
theorem dksL_law_31 : cL_law.data.toList.drop 844 = dktL_law_31 := dk_seg dksL_law_30 24 rfl rfl
theorem dksL_law_32 : cL_law.data.toList.drop 867 = dktL_law_32 := dk_seg dksL_law_31 23 rfl rfl
theorem dksL_law_33 : cL_law.data.toList.drop 891 = dktL_law_33 := dk_seg dksL_law_32 24 rfl rfl
theorem dksL_law_34 : cL_law.data.toList.drop 914 = dktL_law_34 := dk_seg dksL_law_33 23 rfl rfl
theorem dksL_law_35 : cL_law.data.toList.drop 938 = dktL_law_35 := dk_seg dksL_law_34 24 rfl rfl
theorem dksL_law_36 : cL_law.data.toList.drop 960 = dktL_law_36 := dk_seg dksL_law_35 22 rfl rfl
theorem dksL_law_37 : cL_law.data.toList.drop 984 = dktL_law_37 := dk_seg dksL_law_36 24 rfl rfl
theorem dksL_law_38 : cL_law.data.toList.drop 1007 = dktL_law_38 := dk_seg dksL_law_37 23 rfl rfl
theorem dksL_law_39 : cL_law.data.toList.drop 1030 = dktL_law_39 := dk_seg dksL_law_38 23 rfl rfl
theorem dksL_law_40 : cL_law.data.toList.drop 1054 = dktL_law_40 := dk_seg dksL_law_39 24 rfl rfl
theorem dksL_law_41 : cL_law.data.toList.drop 1078 = dktL_law_41 := dk_seg dksL_law_40 24 rfl rfl
theorem dksL_law_42 : cL_law.data.toList.drop 1102 = dktL_law_42 := dk_seg dksL_law_41 24 rfl rfl
theorem dksL_law_43 : cL_law.data.toList.drop 1126 = dktL_law_43 := dk_seg dksL_law_42 24 rfl rfl
theorem dksL_law_44 : cL_law.data.toList.drop 1150 = dktL_law_44 := dk_seg dksL_law_43 24 rfl rfl
theorem dksL_law_45 : cL_law.data.toList.drop 1172 = dktL_law_45 := dk_seg dksL_law_44 22 rfl rfl
theorem dksL_law_46 : cL_law.data.toList.drop 1194 = dktL_law_46 := dk_seg dksL_law_45 22 rfl rfl
theorem dksL_law_47 : cL_law.data.toList.drop 1218 = dktL_law_47 := dk_seg dksL_law_46 24 rfl rfl
theorem dksL_law_48 : cL_law.data.toList.drop 1241 = dktL_law_48 := dk_seg dksL_law_47 23 rfl rfl
theorem dksL_law_49 : cL_law.data.toList.drop 1265 = dktL_law_49 := dk_seg dksL_law_48 24 rfl rfl
theorem dksL_law_50 : cL_law.data.toList.drop 1288 = dktL_law_50 := dk_seg dksL_law_49 23 rfl rfl
theorem dksL_law_51 : cL_law.data.toList.drop 1312 = dktL_law_51 := dk_seg dksL_law_50 24 rfl rfl
theorem dksL_law_52 : cL_law.data.toList.drop 1336 = dktL_law_52 := dk_seg dksL_law_51 24 rfl rfl
theorem dksL_law_53 : cL_law.data.toList.drop 1360 = dktL_law_53 := dk_seg dksL_law_52 24 rfl rfl
theorem dksL_law_54 : cL_law.data.toList.drop 1384 = dktL_law_54 := dk_seg dksL_law_53 24 rfl rfl
theorem dksL_law_55 : cL_law.data.toList.drop 1407 = dktL_law_55 := dk_seg dksL_law_54 23 rfl rfl
theorem dksL_law_56 : cL_law.data.toList.drop 1431 = dktL_law_56 := dk_seg dksL_law_55 24 rfl rfl
theorem dksL_law_57 : cL_law.data.toList.drop 1455 = dktL_law_57 := dk_seg dksL_law_56 24 rfl rfl
theorem dksL_law_58 : cL_law.data.toList.drop 1478 = dktL_law_58 := dk_seg dksL_law_57 23 rfl rfl
theorem dksL_law_59 : cL_law.data.toList.drop 1502 = dktL_law_59 := dk_seg dksL_law_58 24 rfl rfl
theorem dksL_law_60 : cL_law.data.toList.drop 1525 = dktL_law_60 := dk_seg dksL_law_59 23 rfl rfl
theorem dksL_law_61 : cL_law.data.toList.drop 1549 = dktL_law_61 := dk_seg dksL_law_60 24 rfl rfl
theorem dksL_law_62 : cL_law.data.toList.drop 1571 = dktL_law_62 := dk_seg dksL_law_61 22 rfl rfl
theorem dksL_law_63 : cL_law.data.toList.drop 1594 = dktL_law_63 := dk_seg dksL_law_62 23 rfl rfl
theorem dksL_law_64 : cL_law.data.toList.drop 1617 = dktL_law_64 := dk_seg dksL_law_63 23 rfl rfl
theorem dksL_law_65 : cL_law.data.toList.drop 1641 = dktL_law_65 := dk_seg dksL_law_64 24 rfl rfl
theorem dksL_law_66 : cL_law.data.toList.drop 1664 = dktL_law_66 := dk_seg dksL_law_65 23 rfl rfl
theorem dksL_law_67 : cL_law.data.toList.drop 1688 = dktL_law_67 := dk_seg dksL_law_66 24 rfl rfl
theorem dksL_law_68 : cL_law.data.toList.drop 1711 = dktL_law_68 := dk_seg dksL_law_67 23 rfl rfl
theorem dksL_law_69 : cL_law.data.toList.drop 1735 = dktL_law_69 := dk_seg dksL_law_68 24 rfl rfl
theorem dksL_law_70 : cL_law.data.toList.drop 1759 = dktL_law_70 := dk_seg dksL_law_69 24 rfl rfl
theorem dksL_law_71 : cL_law.data.toList.drop 1783 = dktL_law_71 := dk_seg dksL_law_70 24 rfl rfl
theorem dksL_law_72 : cL_law.data.toList.drop 1807 = dktL_law_72 := dk_seg dksL_law_71 24 rfl rfl
theorem dksL_law_73 : cL_law.data.toList.drop 1831 = dktL_law_73 := dk_seg dksL_law_72 24 rfl rfl
theorem dksL_law_74 : cL_law.data.toList.drop 1855 = dktL_law_74 := dk_seg dksL_law_73 24 rfl rfl
theorem dksL_law_75 : cL_law.data.toList.drop 1878 = dktL_law_75 := dk_seg dksL_law_74 23 rfl rfl
theorem dksL_law_76 : cL_law.data.toList.drop 1900 = dktL_law_76 := dk_seg dksL_law_75 22 rfl rfl
theorem dksL_law_77 : cL_law.data.toList.drop 1924 = dktL_law_77 := dk_seg dksL_law_76 24 rfl rfl
theorem dksL_law_78 : cL_law.data.toList.drop 1946 = dktL_law_78 := dk_seg dksL_law_77 22 rfl rfl
theorem dksL_law_79 : cL_law.data.toList.drop 1968 = dktL_law_79 := dk_seg dksL_law_78 22 rfl rfl
theorem dksL_law_80 : cL_law.data.toList.drop 1990 = dktL_law_80 := dk_seg dksL_law_79 22 rfl rfl
theorem dksL_law_81 : cL_law.data.toList.drop 2012 = dktL_law_81 := dk_seg dksL_law_80 22 rfl rfl
theorem dksL_law_82 : cL_law.data.toList.drop 2034 = dktL_law_82 := dk_seg dksL_law_81 22 rfl rfl
theorem dksL_law_83 : cL_law.data.toList.drop 2058 = dktL_law_83 := dk_seg dksL_law_82 24 rfl rfl
theorem dksL_law_84 : cL_law.data.toList.drop 2081 = dktL_law_84 := dk_seg dksL_law_83 23 rfl rfl
theorem dksL_law_85 : cL_law.data.toList.drop 2103 = dktL_law_85 := dk_seg dksL_law_84 22 rfl rfl
theorem dksL_law_86 : cL_law.data.toList.drop 2126 = dktL_law_86 := dk_seg dksL_law_85 23 rfl rfl
theorem dksL_law_87 : cL_law.data.toList.drop 2150 = dktL_law_87 := dk_seg dksL_law_86 24 rfl rfl
theorem dksL_law_88 : cL_law.data.toList.drop 2173 = dktL_law_88 := dk_seg dksL_law_87 23 rfl rfl
theorem dksL_law_89 : cL_law.data.toList.drop 2197 = dktL_law_89 := dk_seg dksL_law_88 24 rfl rfl
theorem dksL_law_90 : cL_law.data.toList.drop 2219 = dktL_law_90 := dk_seg dksL_law_89 22 rfl rfl
theorem dL_law_0 : decode cL_law 0 = .ok (.new 8, 3) := dk_187 0 8 (dk_at dksL_law_0 0 rfl rfl)
theorem dL_law_3 : decode cL_law 3 = .ok (.dup, 1) := dk_89 (dk_at dksL_law_0 3 rfl rfl)
theorem dL_law_4 : decode cL_law 4 = .ok (.invokespecial 125, 3) := dk_183 0 125 (dk_at dksL_law_0 4 rfl rfl)
theorem dL_law_7 : decode cL_law 7 = .ok (.astore_n 1, 1) := dk_76 (dk_at dksL_law_0 7 rfl rfl)
theorem dL_law_8 : decode cL_law 8 = .ok (.new 126, 3) := dk_187 0 126 (dk_at dksL_law_0 8 rfl rfl)
theorem dL_law_11 : decode cL_law 11 = .ok (.dup, 1) := dk_89 (dk_at dksL_law_0 11 rfl rfl)
theorem dL_law_12 : decode cL_law 12 = .ok (.invokespecial 128, 3) := dk_183 0 128 (dk_at dksL_law_0 12 rfl rfl)
theorem dL_law_15 : decode cL_law 15 = .ok (.astore_n 2, 1) := dk_77 (dk_at dksL_law_0 15 rfl rfl)
theorem dL_law_16 : decode cL_law 16 = .ok (.iconst 1, 1) := dk_4 (dk_at dksL_law_0 16 rfl rfl)
theorem dL_law_17 : decode cL_law 17 = .ok (.newarray .long, 2) := dk_188_11 (dk_at dksL_law_0 17 rfl rfl)
theorem dL_law_19 : decode cL_law 19 = .ok (.astore_n 3, 1) := dk_78 (dk_at dksL_law_0 19 rfl rfl)
theorem dL_law_20 : decode cL_law 20 = .ok (.iconst 1, 1) := dk_4 (dk_at dksL_law_0 20 rfl rfl)
theorem dL_law_21 : decode cL_law 21 = .ok (.newarray .double, 2) := dk_188_7 (dk_at dksL_law_0 21 rfl rfl)
theorem dL_law_23 : decode cL_law 23 = .ok (.astore 4, 2) := dk_58 4 (dk_at dksL_law_1 0 rfl rfl)
theorem dL_law_25 : decode cL_law 25 = .ok (.iconst 0, 1) := dk_3 (dk_at dksL_law_1 2 rfl rfl)
theorem dL_law_26 : decode cL_law 26 = .ok (.istore 5, 2) := dk_54 5 (dk_at dksL_law_1 3 rfl rfl)
theorem dL_law_28 : decode cL_law 28 = .ok (.iload 5, 2) := dk_21 5 (dk_at dksL_law_1 5 rfl rfl)
theorem dL_law_30 : decode cL_law 30 = .ok (.aload_n 0, 1) := dk_42 (dk_at dksL_law_1 7 rfl rfl)
theorem dL_law_31 : decode cL_law 31 = .ok (.arraylength, 1) := dk_190 (dk_at dksL_law_1 8 rfl rfl)
theorem dL_law_32 : decode cL_law 32 = .ok (.iconst 4, 1) := dk_7 (dk_at dksL_law_1 9 rfl rfl)
theorem dL_law_33 : decode cL_law 33 = .ok (.isub, 1) := dk_100 (dk_at dksL_law_1 10 rfl rfl)
theorem dL_law_34 : decode cL_law 34 = .ok (.if_icmp .gt 2194, 3) := dk_163 8 146 (dk_at dksL_law_1 11 rfl rfl)
theorem dL_law_37 : decode cL_law 37 = .ok (.aload_n 0, 1) := dk_42 (dk_at dksL_law_1 14 rfl rfl)
theorem dL_law_38 : decode cL_law 38 = .ok (.iload 5, 2) := dk_21 5 (dk_at dksL_law_1 15 rfl rfl)
theorem dL_law_40 : decode cL_law 40 = .ok (.iaload, 1) := dk_46 (dk_at dksL_law_1 17 rfl rfl)
theorem dL_law_41 : decode cL_law 41 = .ok (.bipush 63, 2) := dk_16 63 (dk_at dksL_law_1 18 rfl rfl)
theorem dL_law_43 : decode cL_law 43 = .ok (.iand, 1) := dk_126 (dk_at dksL_law_1 20 rfl rfl)
theorem dL_law_44 : decode cL_law 44 = .ok (.tableswitch 2178 0 32 #[148, 232, 300, 356, 436, 504, 584, 664, 732, 788, 856, 924, 1004, 1072, 1168, 1224, 1287, 1343, 1399, 1467, 1535, 1591, 1647, 1703, 1716, 1781, 1847, 1905, 1949, 1993, 2077, 2121, 2134], 148) := by decide +kernel
theorem dL_law_192 : decode cL_law 192 = .ok (.aload_n 1, 1) := dk_43 (dk_at dksL_law_3 0 rfl rfl)
theorem dL_law_193 : decode cL_law 193 = .ok (.aload_n 0, 1) := dk_42 (dk_at dksL_law_3 1 rfl rfl)
theorem dL_law_194 : decode cL_law 194 = .ok (.iload 5, 2) := dk_21 5 (dk_at dksL_law_3 2 rfl rfl)
theorem dL_law_196 : decode cL_law 196 = .ok (.iconst 1, 1) := dk_4 (dk_at dksL_law_3 4 rfl rfl)
theorem dL_law_197 : decode cL_law 197 = .ok (.iadd, 1) := dk_96 (dk_at dksL_law_3 5 rfl rfl)
theorem dL_law_198 : decode cL_law 198 = .ok (.iaload, 1) := dk_46 (dk_at dksL_law_3 6 rfl rfl)
theorem dL_law_199 : decode cL_law 199 = .ok (.aload_n 0, 1) := dk_42 (dk_at dksL_law_3 7 rfl rfl)
theorem dL_law_200 : decode cL_law 200 = .ok (.iload 5, 2) := dk_21 5 (dk_at dksL_law_3 8 rfl rfl)
theorem dL_law_202 : decode cL_law 202 = .ok (.iconst 2, 1) := dk_5 (dk_at dksL_law_3 10 rfl rfl)
theorem dL_law_203 : decode cL_law 203 = .ok (.iadd, 1) := dk_96 (dk_at dksL_law_3 11 rfl rfl)
theorem dL_law_204 : decode cL_law 204 = .ok (.iaload, 1) := dk_46 (dk_at dksL_law_3 12 rfl rfl)
theorem dL_law_205 : decode cL_law 205 = .ok (.ifCond .eq 7, 3) := dk_153 0 7 (dk_at dksL_law_3 13 rfl rfl)
theorem dL_law_208 : decode cL_law 208 = .ok (.iconst 1, 1) := dk_4 (dk_at dksL_law_3 16 rfl rfl)
theorem dL_law_209 : decode cL_law 209 = .ok (.goto 4, 3) := dk_167 0 4 (dk_at dksL_law_3 17 rfl rfl)
theorem dL_law_212 : decode cL_law 212 = .ok (.iconst 0, 1) := dk_3 (dk_at dksL_law_3 20 rfl rfl)
theorem dL_law_213 : decode cL_law 213 = .ok (.aload_n 3, 1) := dk_45 (dk_at dksL_law_3 21 rfl rfl)
theorem dL_law_214 : decode cL_law 214 = .ok (.invokestatic 129, 3) := dk_184 0 129 (dk_at dksL_law_4 0 rfl rfl)
theorem dL_law_217 : decode cL_law 217 = .ok (.istore 6, 2) := dk_54 6 (dk_at dksL_law_4 3 rfl rfl)
theorem dL_law_219 : decode cL_law 219 = .ok (.aload_n 2, 1) := dk_44 (dk_at dksL_law_4 5 rfl rfl)
theorem dL_law_220 : decode cL_law 220 = .ok (.aload_n 0, 1) := dk_42 (dk_at dksL_law_4 6 rfl rfl)
theorem dL_law_221 : decode cL_law 221 = .ok (.iload 5, 2) := dk_21 5 (dk_at dksL_law_4 7 rfl rfl)
theorem dL_law_223 : decode cL_law 223 = .ok (.iconst 1, 1) := dk_4 (dk_at dksL_law_4 9 rfl rfl)
theorem dL_law_224 : decode cL_law 224 = .ok (.iadd, 1) := dk_96 (dk_at dksL_law_4 10 rfl rfl)
theorem dL_law_225 : decode cL_law 225 = .ok (.iaload, 1) := dk_46 (dk_at dksL_law_4 11 rfl rfl)
theorem dL_law_226 : decode cL_law 226 = .ok (.aload_n 0, 1) := dk_42 (dk_at dksL_law_4 12 rfl rfl)
theorem dL_law_227 : decode cL_law 227 = .ok (.iload 5, 2) := dk_21 5 (dk_at dksL_law_4 13 rfl rfl)
theorem dL_law_229 : decode cL_law 229 = .ok (.iconst 2, 1) := dk_5 (dk_at dksL_law_4 15 rfl rfl)
theorem dL_law_230 : decode cL_law 230 = .ok (.iadd, 1) := dk_96 (dk_at dksL_law_4 16 rfl rfl)
theorem dL_law_231 : decode cL_law 231 = .ok (.iaload, 1) := dk_46 (dk_at dksL_law_4 17 rfl rfl)
theorem dL_law_232 : decode cL_law 232 = .ok (.ifCond .eq 7, 3) := dk_153 0 7 (dk_at dksL_law_4 18 rfl rfl)
theorem dL_law_235 : decode cL_law 235 = .ok (.iconst 1, 1) := dk_4 (dk_at dksL_law_4 21 rfl rfl)
theorem dL_law_236 : decode cL_law 236 = .ok (.goto 4, 3) := dk_167 0 4 (dk_at dksL_law_5 0 rfl rfl)
theorem dL_law_239 : decode cL_law 239 = .ok (.iconst 0, 1) := dk_3 (dk_at dksL_law_5 3 rfl rfl)
theorem dL_law_240 : decode cL_law 240 = .ok (.invokevirtual 134, 3) := dk_182 0 134 (dk_at dksL_law_5 4 rfl rfl)
theorem dL_law_243 : decode cL_law 243 = .ok (.istore 7, 2) := dk_54 7 (dk_at dksL_law_5 7 rfl rfl)
theorem dL_law_245 : decode cL_law 245 = .ok (.aload_n 2, 1) := dk_44 (dk_at dksL_law_5 9 rfl rfl)
theorem dL_law_246 : decode cL_law 246 = .ok (.invokevirtual 135, 3) := dk_182 0 135 (dk_at dksL_law_5 10 rfl rfl)
theorem dL_law_249 : decode cL_law 249 = .ok (.iload 6, 2) := dk_21 6 (dk_at dksL_law_5 13 rfl rfl)
theorem dL_law_251 : decode cL_law 251 = .ok (.if_icmp .eq 5, 3) := dk_159 0 5 (dk_at dksL_law_5 15 rfl rfl)
theorem dL_law_254 : decode cL_law 254 = .ok (.iconst 0, 1) := dk_3 (dk_at dksL_law_5 18 rfl rfl)
theorem dL_law_255 : decode cL_law 255 = .ok (.ireturn, 1) := dk_172 (dk_at dksL_law_5 19 rfl rfl)
theorem dL_law_256 : decode cL_law 256 = .ok (.iload 6, 2) := dk_21 6 (dk_at dksL_law_5 20 rfl rfl)
theorem dL_law_258 : decode cL_law 258 = .ok (.ifCond .ne 15, 3) := dk_154 0 15 (dk_at dksL_law_6 0 rfl rfl)
theorem dL_law_261 : decode cL_law 261 = .ok (.aload_n 3, 1) := dk_45 (dk_at dksL_law_6 3 rfl rfl)
theorem dL_law_262 : decode cL_law 262 = .ok (.iconst 0, 1) := dk_3 (dk_at dksL_law_6 4 rfl rfl)
theorem dL_law_263 : decode cL_law 263 = .ok (.laload, 1) := dk_47 (dk_at dksL_law_6 5 rfl rfl)
theorem dL_law_264 : decode cL_law 264 = .ok (.iload 7, 2) := dk_21 7 (dk_at dksL_law_6 6 rfl rfl)
theorem dL_law_266 : decode cL_law 266 = .ok (.i2l, 1) := dk_133 (dk_at dksL_law_6 8 rfl rfl)
theorem dL_law_267 : decode cL_law 267 = .ok (.lcmp, 1) := dk_148 (dk_at dksL_law_6 9 rfl rfl)
theorem dL_law_268 : decode cL_law 268 = .ok (.ifCond .eq 5, 3) := dk_153 0 5 (dk_at dksL_law_6 10 rfl rfl)
theorem dL_law_271 : decode cL_law 271 = .ok (.iconst 0, 1) := dk_3 (dk_at dksL_law_6 13 rfl rfl)
theorem dL_law_272 : decode cL_law 272 = .ok (.ireturn, 1) := dk_172 (dk_at dksL_law_6 14 rfl rfl)
theorem dL_law_273 : decode cL_law 273 = .ok (.goto 1949, 3) := dk_167 7 157 (dk_at dksL_law_6 15 rfl rfl)
theorem dL_law_276 : decode cL_law 276 = .ok (.aload_n 1, 1) := dk_43 (dk_at dksL_law_6 18 rfl rfl)
theorem dL_law_277 : decode cL_law 277 = .ok (.aload_n 0, 1) := dk_42 (dk_at dksL_law_6 19 rfl rfl)
theorem dL_law_278 : decode cL_law 278 = .ok (.iload 5, 2) := dk_21 5 (dk_at dksL_law_6 20 rfl rfl)
theorem dL_law_280 : decode cL_law 280 = .ok (.iconst 1, 1) := dk_4 (dk_at dksL_law_6 22 rfl rfl)
theorem dL_law_281 : decode cL_law 281 = .ok (.iadd, 1) := dk_96 (dk_at dksL_law_6 23 rfl rfl)
theorem dL_law_282 : decode cL_law 282 = .ok (.iaload, 1) := dk_46 (dk_at dksL_law_7 0 rfl rfl)
theorem dL_law_283 : decode cL_law 283 = .ok (.aload_n 0, 1) := dk_42 (dk_at dksL_law_7 1 rfl rfl)
theorem dL_law_284 : decode cL_law 284 = .ok (.iload 5, 2) := dk_21 5 (dk_at dksL_law_7 2 rfl rfl)
theorem dL_law_286 : decode cL_law 286 = .ok (.iconst 2, 1) := dk_5 (dk_at dksL_law_7 4 rfl rfl)
theorem dL_law_287 : decode cL_law 287 = .ok (.iadd, 1) := dk_96 (dk_at dksL_law_7 5 rfl rfl)
theorem dL_law_288 : decode cL_law 288 = .ok (.iaload, 1) := dk_46 (dk_at dksL_law_7 6 rfl rfl)
theorem dL_law_289 : decode cL_law 289 = .ok (.aload_n 3, 1) := dk_45 (dk_at dksL_law_7 7 rfl rfl)
theorem dL_law_290 : decode cL_law 290 = .ok (.invokestatic 138, 3) := dk_184 0 138 (dk_at dksL_law_7 8 rfl rfl)
theorem dL_law_293 : decode cL_law 293 = .ok (.istore 6, 2) := dk_54 6 (dk_at dksL_law_7 11 rfl rfl)
theorem dL_law_295 : decode cL_law 295 = .ok (.aload_n 2, 1) := dk_44 (dk_at dksL_law_7 13 rfl rfl)
theorem dL_law_296 : decode cL_law 296 = .ok (.aload_n 0, 1) := dk_42 (dk_at dksL_law_7 14 rfl rfl)
theorem dL_law_297 : decode cL_law 297 = .ok (.iload 5, 2) := dk_21 5 (dk_at dksL_law_7 15 rfl rfl)
theorem dL_law_299 : decode cL_law 299 = .ok (.iconst 1, 1) := dk_4 (dk_at dksL_law_7 17 rfl rfl)
theorem dL_law_300 : decode cL_law 300 = .ok (.iadd, 1) := dk_96 (dk_at dksL_law_7 18 rfl rfl)
theorem dL_law_301 : decode cL_law 301 = .ok (.iaload, 1) := dk_46 (dk_at dksL_law_7 19 rfl rfl)
theorem dL_law_302 : decode cL_law 302 = .ok (.aload_n 0, 1) := dk_42 (dk_at dksL_law_7 20 rfl rfl)
theorem dL_law_303 : decode cL_law 303 = .ok (.iload 5, 2) := dk_21 5 (dk_at dksL_law_7 21 rfl rfl)
theorem dL_law_305 : decode cL_law 305 = .ok (.iconst 2, 1) := dk_5 (dk_at dksL_law_7 23 rfl rfl)
theorem dL_law_306 : decode cL_law 306 = .ok (.iadd, 1) := dk_96 (dk_at dksL_law_8 0 rfl rfl)
theorem dL_law_307 : decode cL_law 307 = .ok (.iaload, 1) := dk_46 (dk_at dksL_law_8 1 rfl rfl)
theorem dL_law_308 : decode cL_law 308 = .ok (.invokevirtual 141, 3) := dk_182 0 141 (dk_at dksL_law_8 2 rfl rfl)
theorem dL_law_311 : decode cL_law 311 = .ok (.istore 7, 2) := dk_54 7 (dk_at dksL_law_8 5 rfl rfl)
theorem dL_law_313 : decode cL_law 313 = .ok (.aload_n 2, 1) := dk_44 (dk_at dksL_law_8 7 rfl rfl)
theorem dL_law_314 : decode cL_law 314 = .ok (.invokevirtual 135, 3) := dk_182 0 135 (dk_at dksL_law_8 8 rfl rfl)
theorem dL_law_317 : decode cL_law 317 = .ok (.iload 6, 2) := dk_21 6 (dk_at dksL_law_8 11 rfl rfl)
theorem dL_law_319 : decode cL_law 319 = .ok (.if_icmp .eq 5, 3) := dk_159 0 5 (dk_at dksL_law_8 13 rfl rfl)
theorem dL_law_322 : decode cL_law 322 = .ok (.iconst 0, 1) := dk_3 (dk_at dksL_law_8 16 rfl rfl)
theorem dL_law_323 : decode cL_law 323 = .ok (.ireturn, 1) := dk_172 (dk_at dksL_law_8 17 rfl rfl)
theorem dL_law_324 : decode cL_law 324 = .ok (.iload 6, 2) := dk_21 6 (dk_at dksL_law_8 18 rfl rfl)
theorem dL_law_326 : decode cL_law 326 = .ok (.ifCond .ne 15, 3) := dk_154 0 15 (dk_at dksL_law_8 20 rfl rfl)
theorem dL_law_329 : decode cL_law 329 = .ok (.aload_n 3, 1) := dk_45 (dk_at dksL_law_8 23 rfl rfl)
theorem dL_law_330 : decode cL_law 330 = .ok (.iconst 0, 1) := dk_3 (dk_at dksL_law_9 0 rfl rfl)
theorem dL_law_331 : decode cL_law 331 = .ok (.laload, 1) := dk_47 (dk_at dksL_law_9 1 rfl rfl)
theorem dL_law_332 : decode cL_law 332 = .ok (.iload 7, 2) := dk_21 7 (dk_at dksL_law_9 2 rfl rfl)
theorem dL_law_334 : decode cL_law 334 = .ok (.i2l, 1) := dk_133 (dk_at dksL_law_9 4 rfl rfl)
theorem dL_law_335 : decode cL_law 335 = .ok (.lcmp, 1) := dk_148 (dk_at dksL_law_9 5 rfl rfl)
theorem dL_law_336 : decode cL_law 336 = .ok (.ifCond .eq 5, 3) := dk_153 0 5 (dk_at dksL_law_9 6 rfl rfl)
theorem dL_law_339 : decode cL_law 339 = .ok (.iconst 0, 1) := dk_3 (dk_at dksL_law_9 9 rfl rfl)
theorem dL_law_340 : decode cL_law 340 = .ok (.ireturn, 1) := dk_172 (dk_at dksL_law_9 10 rfl rfl)
theorem dL_law_341 : decode cL_law 341 = .ok (.goto 1881, 3) := dk_167 7 89 (dk_at dksL_law_9 11 rfl rfl)
theorem dL_law_344 : decode cL_law 344 = .ok (.aload_n 1, 1) := dk_43 (dk_at dksL_law_9 14 rfl rfl)
theorem dL_law_345 : decode cL_law 345 = .ok (.aload_n 0, 1) := dk_42 (dk_at dksL_law_9 15 rfl rfl)
theorem dL_law_346 : decode cL_law 346 = .ok (.iload 5, 2) := dk_21 5 (dk_at dksL_law_9 16 rfl rfl)
theorem dL_law_348 : decode cL_law 348 = .ok (.iconst 1, 1) := dk_4 (dk_at dksL_law_9 18 rfl rfl)
theorem dL_law_349 : decode cL_law 349 = .ok (.iadd, 1) := dk_96 (dk_at dksL_law_9 19 rfl rfl)
theorem dL_law_350 : decode cL_law 350 = .ok (.iaload, 1) := dk_46 (dk_at dksL_law_9 20 rfl rfl)
theorem dL_law_351 : decode cL_law 351 = .ok (.aload_n 3, 1) := dk_45 (dk_at dksL_law_9 21 rfl rfl)
theorem dL_law_352 : decode cL_law 352 = .ok (.invokestatic 142, 3) := dk_184 0 142 (dk_at dksL_law_10 0 rfl rfl)
theorem dL_law_355 : decode cL_law 355 = .ok (.istore 6, 2) := dk_54 6 (dk_at dksL_law_10 3 rfl rfl)
theorem dL_law_357 : decode cL_law 357 = .ok (.aload_n 2, 1) := dk_44 (dk_at dksL_law_10 5 rfl rfl)
theorem dL_law_358 : decode cL_law 358 = .ok (.aload_n 0, 1) := dk_42 (dk_at dksL_law_10 6 rfl rfl)
theorem dL_law_359 : decode cL_law 359 = .ok (.iload 5, 2) := dk_21 5 (dk_at dksL_law_10 7 rfl rfl)
theorem dL_law_361 : decode cL_law 361 = .ok (.iconst 1, 1) := dk_4 (dk_at dksL_law_10 9 rfl rfl)
theorem dL_law_362 : decode cL_law 362 = .ok (.iadd, 1) := dk_96 (dk_at dksL_law_10 10 rfl rfl)
theorem dL_law_363 : decode cL_law 363 = .ok (.iaload, 1) := dk_46 (dk_at dksL_law_10 11 rfl rfl)
theorem dL_law_364 : decode cL_law 364 = .ok (.invokevirtual 145, 3) := dk_182 0 145 (dk_at dksL_law_10 12 rfl rfl)
theorem dL_law_367 : decode cL_law 367 = .ok (.istore 7, 2) := dk_54 7 (dk_at dksL_law_10 15 rfl rfl)
theorem dL_law_369 : decode cL_law 369 = .ok (.aload_n 2, 1) := dk_44 (dk_at dksL_law_10 17 rfl rfl)
theorem dL_law_370 : decode cL_law 370 = .ok (.invokevirtual 135, 3) := dk_182 0 135 (dk_at dksL_law_10 18 rfl rfl)
theorem dL_law_373 : decode cL_law 373 = .ok (.iload 6, 2) := dk_21 6 (dk_at dksL_law_10 21 rfl rfl)
theorem dL_law_375 : decode cL_law 375 = .ok (.if_icmp .eq 5, 3) := dk_159 0 5 (dk_at dksL_law_11 0 rfl rfl)
theorem dL_law_378 : decode cL_law 378 = .ok (.iconst 0, 1) := dk_3 (dk_at dksL_law_11 3 rfl rfl)
theorem dL_law_379 : decode cL_law 379 = .ok (.ireturn, 1) := dk_172 (dk_at dksL_law_11 4 rfl rfl)
theorem dL_law_380 : decode cL_law 380 = .ok (.iload 6, 2) := dk_21 6 (dk_at dksL_law_11 5 rfl rfl)
theorem dL_law_382 : decode cL_law 382 = .ok (.ifCond .ne 15, 3) := dk_154 0 15 (dk_at dksL_law_11 7 rfl rfl)
theorem dL_law_385 : decode cL_law 385 = .ok (.aload_n 3, 1) := dk_45 (dk_at dksL_law_11 10 rfl rfl)
theorem dL_law_386 : decode cL_law 386 = .ok (.iconst 0, 1) := dk_3 (dk_at dksL_law_11 11 rfl rfl)
theorem dL_law_387 : decode cL_law 387 = .ok (.laload, 1) := dk_47 (dk_at dksL_law_11 12 rfl rfl)
theorem dL_law_388 : decode cL_law 388 = .ok (.iload 7, 2) := dk_21 7 (dk_at dksL_law_11 13 rfl rfl)
theorem dL_law_390 : decode cL_law 390 = .ok (.i2l, 1) := dk_133 (dk_at dksL_law_11 15 rfl rfl)
theorem dL_law_391 : decode cL_law 391 = .ok (.lcmp, 1) := dk_148 (dk_at dksL_law_11 16 rfl rfl)
theorem dL_law_392 : decode cL_law 392 = .ok (.ifCond .eq 5, 3) := dk_153 0 5 (dk_at dksL_law_11 17 rfl rfl)
theorem dL_law_395 : decode cL_law 395 = .ok (.iconst 0, 1) := dk_3 (dk_at dksL_law_11 20 rfl rfl)
theorem dL_law_396 : decode cL_law 396 = .ok (.ireturn, 1) := dk_172 (dk_at dksL_law_11 21 rfl rfl)
theorem dL_law_397 : decode cL_law 397 = .ok (.goto 1825, 3) := dk_167 7 33 (dk_at dksL_law_12 0 rfl rfl)
theorem dL_law_400 : decode cL_law 400 = .ok (.aload_n 1, 1) := dk_43 (dk_at dksL_law_12 3 rfl rfl)
theorem dL_law_401 : decode cL_law 401 = .ok (.aload_n 0, 1) := dk_42 (dk_at dksL_law_12 4 rfl rfl)
theorem dL_law_402 : decode cL_law 402 = .ok (.iload 5, 2) := dk_21 5 (dk_at dksL_law_12 5 rfl rfl)
theorem dL_law_404 : decode cL_law 404 = .ok (.iconst 1, 1) := dk_4 (dk_at dksL_law_12 7 rfl rfl)
theorem dL_law_405 : decode cL_law 405 = .ok (.iadd, 1) := dk_96 (dk_at dksL_law_12 8 rfl rfl)
theorem dL_law_406 : decode cL_law 406 = .ok (.iaload, 1) := dk_46 (dk_at dksL_law_12 9 rfl rfl)
theorem dL_law_407 : decode cL_law 407 = .ok (.aload_n 0, 1) := dk_42 (dk_at dksL_law_12 10 rfl rfl)
theorem dL_law_408 : decode cL_law 408 = .ok (.iload 5, 2) := dk_21 5 (dk_at dksL_law_12 11 rfl rfl)
theorem dL_law_410 : decode cL_law 410 = .ok (.iconst 2, 1) := dk_5 (dk_at dksL_law_12 13 rfl rfl)
theorem dL_law_411 : decode cL_law 411 = .ok (.iadd, 1) := dk_96 (dk_at dksL_law_12 14 rfl rfl)
theorem dL_law_412 : decode cL_law 412 = .ok (.iaload, 1) := dk_46 (dk_at dksL_law_12 15 rfl rfl)
theorem dL_law_413 : decode cL_law 413 = .ok (.aload_n 0, 1) := dk_42 (dk_at dksL_law_12 16 rfl rfl)
theorem dL_law_414 : decode cL_law 414 = .ok (.iload 5, 2) := dk_21 5 (dk_at dksL_law_12 17 rfl rfl)
theorem dL_law_416 : decode cL_law 416 = .ok (.iconst 3, 1) := dk_6 (dk_at dksL_law_12 19 rfl rfl)
theorem dL_law_417 : decode cL_law 417 = .ok (.iadd, 1) := dk_96 (dk_at dksL_law_12 20 rfl rfl)
theorem dL_law_418 : decode cL_law 418 = .ok (.iaload, 1) := dk_46 (dk_at dksL_law_12 21 rfl rfl)
theorem dL_law_419 : decode cL_law 419 = .ok (.aload_n 3, 1) := dk_45 (dk_at dksL_law_12 22 rfl rfl)
theorem dL_law_420 : decode cL_law 420 = .ok (.invokestatic 146, 3) := dk_184 0 146 (dk_at dksL_law_13 0 rfl rfl)
theorem dL_law_423 : decode cL_law 423 = .ok (.istore 6, 2) := dk_54 6 (dk_at dksL_law_13 3 rfl rfl)
theorem dL_law_425 : decode cL_law 425 = .ok (.aload_n 2, 1) := dk_44 (dk_at dksL_law_13 5 rfl rfl)
theorem dL_law_426 : decode cL_law 426 = .ok (.aload_n 0, 1) := dk_42 (dk_at dksL_law_13 6 rfl rfl)
theorem dL_law_427 : decode cL_law 427 = .ok (.iload 5, 2) := dk_21 5 (dk_at dksL_law_13 7 rfl rfl)
theorem dL_law_429 : decode cL_law 429 = .ok (.iconst 1, 1) := dk_4 (dk_at dksL_law_13 9 rfl rfl)
theorem dL_law_430 : decode cL_law 430 = .ok (.iadd, 1) := dk_96 (dk_at dksL_law_13 10 rfl rfl)
theorem dL_law_431 : decode cL_law 431 = .ok (.iaload, 1) := dk_46 (dk_at dksL_law_13 11 rfl rfl)
theorem dL_law_432 : decode cL_law 432 = .ok (.aload_n 0, 1) := dk_42 (dk_at dksL_law_13 12 rfl rfl)
theorem dL_law_433 : decode cL_law 433 = .ok (.iload 5, 2) := dk_21 5 (dk_at dksL_law_13 13 rfl rfl)
theorem dL_law_435 : decode cL_law 435 = .ok (.iconst 2, 1) := dk_5 (dk_at dksL_law_13 15 rfl rfl)
theorem dL_law_436 : decode cL_law 436 = .ok (.iadd, 1) := dk_96 (dk_at dksL_law_13 16 rfl rfl)
theorem dL_law_437 : decode cL_law 437 = .ok (.iaload, 1) := dk_46 (dk_at dksL_law_13 17 rfl rfl)
theorem dL_law_438 : decode cL_law 438 = .ok (.aload_n 0, 1) := dk_42 (dk_at dksL_law_13 18 rfl rfl)
theorem dL_law_439 : decode cL_law 439 = .ok (.iload 5, 2) := dk_21 5 (dk_at dksL_law_13 19 rfl rfl)
theorem dL_law_441 : decode cL_law 441 = .ok (.iconst 3, 1) := dk_6 (dk_at dksL_law_13 21 rfl rfl)
theorem dL_law_442 : decode cL_law 442 = .ok (.iadd, 1) := dk_96 (dk_at dksL_law_13 22 rfl rfl)
theorem dL_law_443 : decode cL_law 443 = .ok (.iaload, 1) := dk_46 (dk_at dksL_law_13 23 rfl rfl)
theorem dL_law_444 : decode cL_law 444 = .ok (.invokevirtual 149, 3) := dk_182 0 149 (dk_at dksL_law_14 0 rfl rfl)
theorem dL_law_447 : decode cL_law 447 = .ok (.istore 7, 2) := dk_54 7 (dk_at dksL_law_14 3 rfl rfl)
theorem dL_law_449 : decode cL_law 449 = .ok (.aload_n 2, 1) := dk_44 (dk_at dksL_law_14 5 rfl rfl)
theorem dL_law_450 : decode cL_law 450 = .ok (.invokevirtual 135, 3) := dk_182 0 135 (dk_at dksL_law_14 6 rfl rfl)
theorem dL_law_453 : decode cL_law 453 = .ok (.iload 6, 2) := dk_21 6 (dk_at dksL_law_14 9 rfl rfl)
theorem dL_law_455 : decode cL_law 455 = .ok (.if_icmp .eq 5, 3) := dk_159 0 5 (dk_at dksL_law_14 11 rfl rfl)
theorem dL_law_458 : decode cL_law 458 = .ok (.iconst 0, 1) := dk_3 (dk_at dksL_law_14 14 rfl rfl)
theorem dL_law_459 : decode cL_law 459 = .ok (.ireturn, 1) := dk_172 (dk_at dksL_law_14 15 rfl rfl)
theorem dL_law_460 : decode cL_law 460 = .ok (.iload 6, 2) := dk_21 6 (dk_at dksL_law_14 16 rfl rfl)
theorem dL_law_462 : decode cL_law 462 = .ok (.ifCond .ne 15, 3) := dk_154 0 15 (dk_at dksL_law_14 18 rfl rfl)
theorem dL_law_465 : decode cL_law 465 = .ok (.aload_n 3, 1) := dk_45 (dk_at dksL_law_14 21 rfl rfl)
theorem dL_law_466 : decode cL_law 466 = .ok (.iconst 0, 1) := dk_3 (dk_at dksL_law_14 22 rfl rfl)
theorem dL_law_467 : decode cL_law 467 = .ok (.laload, 1) := dk_47 (dk_at dksL_law_14 23 rfl rfl)
theorem dL_law_468 : decode cL_law 468 = .ok (.iload 7, 2) := dk_21 7 (dk_at dksL_law_15 0 rfl rfl)
theorem dL_law_470 : decode cL_law 470 = .ok (.i2l, 1) := dk_133 (dk_at dksL_law_15 2 rfl rfl)
theorem dL_law_471 : decode cL_law 471 = .ok (.lcmp, 1) := dk_148 (dk_at dksL_law_15 3 rfl rfl)
theorem dL_law_472 : decode cL_law 472 = .ok (.ifCond .eq 5, 3) := dk_153 0 5 (dk_at dksL_law_15 4 rfl rfl)
theorem dL_law_475 : decode cL_law 475 = .ok (.iconst 0, 1) := dk_3 (dk_at dksL_law_15 7 rfl rfl)
theorem dL_law_476 : decode cL_law 476 = .ok (.ireturn, 1) := dk_172 (dk_at dksL_law_15 8 rfl rfl)
theorem dL_law_477 : decode cL_law 477 = .ok (.goto 1745, 3) := dk_167 6 209 (dk_at dksL_law_15 9 rfl rfl)
theorem dL_law_480 : decode cL_law 480 = .ok (.aload_n 1, 1) := dk_43 (dk_at dksL_law_15 12 rfl rfl)
theorem dL_law_481 : decode cL_law 481 = .ok (.aload_n 0, 1) := dk_42 (dk_at dksL_law_15 13 rfl rfl)
theorem dL_law_482 : decode cL_law 482 = .ok (.iload 5, 2) := dk_21 5 (dk_at dksL_law_15 14 rfl rfl)
theorem dL_law_484 : decode cL_law 484 = .ok (.iconst 1, 1) := dk_4 (dk_at dksL_law_15 16 rfl rfl)
theorem dL_law_485 : decode cL_law 485 = .ok (.iadd, 1) := dk_96 (dk_at dksL_law_15 17 rfl rfl)
theorem dL_law_486 : decode cL_law 486 = .ok (.iaload, 1) := dk_46 (dk_at dksL_law_15 18 rfl rfl)
theorem dL_law_487 : decode cL_law 487 = .ok (.aload_n 0, 1) := dk_42 (dk_at dksL_law_15 19 rfl rfl)
theorem dL_law_488 : decode cL_law 488 = .ok (.iload 5, 2) := dk_21 5 (dk_at dksL_law_15 20 rfl rfl)
theorem dL_law_490 : decode cL_law 490 = .ok (.iconst 2, 1) := dk_5 (dk_at dksL_law_15 22 rfl rfl)
theorem dL_law_491 : decode cL_law 491 = .ok (.iadd, 1) := dk_96 (dk_at dksL_law_15 23 rfl rfl)
theorem dL_law_492 : decode cL_law 492 = .ok (.iaload, 1) := dk_46 (dk_at dksL_law_16 0 rfl rfl)
theorem dL_law_493 : decode cL_law 493 = .ok (.aload_n 3, 1) := dk_45 (dk_at dksL_law_16 1 rfl rfl)
theorem dL_law_494 : decode cL_law 494 = .ok (.invokestatic 150, 3) := dk_184 0 150 (dk_at dksL_law_16 2 rfl rfl)
theorem dL_law_497 : decode cL_law 497 = .ok (.istore 6, 2) := dk_54 6 (dk_at dksL_law_16 5 rfl rfl)
theorem dL_law_499 : decode cL_law 499 = .ok (.aload_n 2, 1) := dk_44 (dk_at dksL_law_16 7 rfl rfl)
theorem dL_law_500 : decode cL_law 500 = .ok (.aload_n 0, 1) := dk_42 (dk_at dksL_law_16 8 rfl rfl)
theorem dL_law_501 : decode cL_law 501 = .ok (.iload 5, 2) := dk_21 5 (dk_at dksL_law_16 9 rfl rfl)
theorem dL_law_503 : decode cL_law 503 = .ok (.iconst 1, 1) := dk_4 (dk_at dksL_law_16 11 rfl rfl)
theorem dL_law_504 : decode cL_law 504 = .ok (.iadd, 1) := dk_96 (dk_at dksL_law_16 12 rfl rfl)
theorem dL_law_505 : decode cL_law 505 = .ok (.iaload, 1) := dk_46 (dk_at dksL_law_16 13 rfl rfl)
theorem dL_law_506 : decode cL_law 506 = .ok (.aload_n 0, 1) := dk_42 (dk_at dksL_law_16 14 rfl rfl)
theorem dL_law_507 : decode cL_law 507 = .ok (.iload 5, 2) := dk_21 5 (dk_at dksL_law_16 15 rfl rfl)
theorem dL_law_509 : decode cL_law 509 = .ok (.iconst 2, 1) := dk_5 (dk_at dksL_law_16 17 rfl rfl)
theorem dL_law_510 : decode cL_law 510 = .ok (.iadd, 1) := dk_96 (dk_at dksL_law_16 18 rfl rfl)
theorem dL_law_511 : decode cL_law 511 = .ok (.iaload, 1) := dk_46 (dk_at dksL_law_16 19 rfl rfl)
theorem dL_law_512 : decode cL_law 512 = .ok (.invokevirtual 152, 3) := dk_182 0 152 (dk_at dksL_law_16 20 rfl rfl)
theorem dL_law_515 : decode cL_law 515 = .ok (.istore 7, 2) := dk_54 7 (dk_at dksL_law_17 0 rfl rfl)
theorem dL_law_517 : decode cL_law 517 = .ok (.aload_n 2, 1) := dk_44 (dk_at dksL_law_17 2 rfl rfl)
theorem dL_law_518 : decode cL_law 518 = .ok (.invokevirtual 135, 3) := dk_182 0 135 (dk_at dksL_law_17 3 rfl rfl)
theorem dL_law_521 : decode cL_law 521 = .ok (.iload 6, 2) := dk_21 6 (dk_at dksL_law_17 6 rfl rfl)
theorem dL_law_523 : decode cL_law 523 = .ok (.if_icmp .eq 5, 3) := dk_159 0 5 (dk_at dksL_law_17 8 rfl rfl)
theorem dL_law_526 : decode cL_law 526 = .ok (.iconst 0, 1) := dk_3 (dk_at dksL_law_17 11 rfl rfl)
theorem dL_law_527 : decode cL_law 527 = .ok (.ireturn, 1) := dk_172 (dk_at dksL_law_17 12 rfl rfl)
theorem dL_law_528 : decode cL_law 528 = .ok (.iload 6, 2) := dk_21 6 (dk_at dksL_law_17 13 rfl rfl)
theorem dL_law_530 : decode cL_law 530 = .ok (.ifCond .ne 15, 3) := dk_154 0 15 (dk_at dksL_law_17 15 rfl rfl)
theorem dL_law_533 : decode cL_law 533 = .ok (.aload_n 3, 1) := dk_45 (dk_at dksL_law_17 18 rfl rfl)
theorem dL_law_534 : decode cL_law 534 = .ok (.iconst 0, 1) := dk_3 (dk_at dksL_law_17 19 rfl rfl)
theorem dL_law_535 : decode cL_law 535 = .ok (.laload, 1) := dk_47 (dk_at dksL_law_17 20 rfl rfl)
theorem dL_law_536 : decode cL_law 536 = .ok (.iload 7, 2) := dk_21 7 (dk_at dksL_law_17 21 rfl rfl)
theorem dL_law_538 : decode cL_law 538 = .ok (.i2l, 1) := dk_133 (dk_at dksL_law_17 23 rfl rfl)
theorem dL_law_539 : decode cL_law 539 = .ok (.lcmp, 1) := dk_148 (dk_at dksL_law_18 0 rfl rfl)
theorem dL_law_540 : decode cL_law 540 = .ok (.ifCond .eq 5, 3) := dk_153 0 5 (dk_at dksL_law_18 1 rfl rfl)
theorem dL_law_543 : decode cL_law 543 = .ok (.iconst 0, 1) := dk_3 (dk_at dksL_law_18 4 rfl rfl)
theorem dL_law_544 : decode cL_law 544 = .ok (.ireturn, 1) := dk_172 (dk_at dksL_law_18 5 rfl rfl)
theorem dL_law_545 : decode cL_law 545 = .ok (.goto 1677, 3) := dk_167 6 141 (dk_at dksL_law_18 6 rfl rfl)
theorem dL_law_548 : decode cL_law 548 = .ok (.aload_n 1, 1) := dk_43 (dk_at dksL_law_18 9 rfl rfl)
theorem dL_law_549 : decode cL_law 549 = .ok (.aload_n 0, 1) := dk_42 (dk_at dksL_law_18 10 rfl rfl)
theorem dL_law_550 : decode cL_law 550 = .ok (.iload 5, 2) := dk_21 5 (dk_at dksL_law_18 11 rfl rfl)
theorem dL_law_552 : decode cL_law 552 = .ok (.iconst 1, 1) := dk_4 (dk_at dksL_law_18 13 rfl rfl)
theorem dL_law_553 : decode cL_law 553 = .ok (.iadd, 1) := dk_96 (dk_at dksL_law_18 14 rfl rfl)
theorem dL_law_554 : decode cL_law 554 = .ok (.iaload, 1) := dk_46 (dk_at dksL_law_18 15 rfl rfl)
theorem dL_law_555 : decode cL_law 555 = .ok (.aload_n 0, 1) := dk_42 (dk_at dksL_law_18 16 rfl rfl)
theorem dL_law_556 : decode cL_law 556 = .ok (.iload 5, 2) := dk_21 5 (dk_at dksL_law_18 17 rfl rfl)
theorem dL_law_558 : decode cL_law 558 = .ok (.iconst 2, 1) := dk_5 (dk_at dksL_law_18 19 rfl rfl)
theorem dL_law_559 : decode cL_law 559 = .ok (.iadd, 1) := dk_96 (dk_at dksL_law_18 20 rfl rfl)
theorem dL_law_560 : decode cL_law 560 = .ok (.iaload, 1) := dk_46 (dk_at dksL_law_18 21 rfl rfl)
theorem dL_law_561 : decode cL_law 561 = .ok (.aload_n 0, 1) := dk_42 (dk_at dksL_law_18 22 rfl rfl)
theorem dL_law_562 : decode cL_law 562 = .ok (.iload 5, 2) := dk_21 5 (dk_at dksL_law_19 0 rfl rfl)
theorem dL_law_564 : decode cL_law 564 = .ok (.iconst 3, 1) := dk_6 (dk_at dksL_law_19 2 rfl rfl)
theorem dL_law_565 : decode cL_law 565 = .ok (.iadd, 1) := dk_96 (dk_at dksL_law_19 3 rfl rfl)
theorem dL_law_566 : decode cL_law 566 = .ok (.iaload, 1) := dk_46 (dk_at dksL_law_19 4 rfl rfl)
theorem dL_law_567 : decode cL_law 567 = .ok (.aload_n 3, 1) := dk_45 (dk_at dksL_law_19 5 rfl rfl)
theorem dL_law_568 : decode cL_law 568 = .ok (.invokestatic 153, 3) := dk_184 0 153 (dk_at dksL_law_19 6 rfl rfl)
theorem dL_law_571 : decode cL_law 571 = .ok (.istore 6, 2) := dk_54 6 (dk_at dksL_law_19 9 rfl rfl)
theorem dL_law_573 : decode cL_law 573 = .ok (.aload_n 2, 1) := dk_44 (dk_at dksL_law_19 11 rfl rfl)
theorem dL_law_574 : decode cL_law 574 = .ok (.aload_n 0, 1) := dk_42 (dk_at dksL_law_19 12 rfl rfl)
theorem dL_law_575 : decode cL_law 575 = .ok (.iload 5, 2) := dk_21 5 (dk_at dksL_law_19 13 rfl rfl)
theorem dL_law_577 : decode cL_law 577 = .ok (.iconst 1, 1) := dk_4 (dk_at dksL_law_19 15 rfl rfl)
theorem dL_law_578 : decode cL_law 578 = .ok (.iadd, 1) := dk_96 (dk_at dksL_law_19 16 rfl rfl)
theorem dL_law_579 : decode cL_law 579 = .ok (.iaload, 1) := dk_46 (dk_at dksL_law_19 17 rfl rfl)
theorem dL_law_580 : decode cL_law 580 = .ok (.aload_n 0, 1) := dk_42 (dk_at dksL_law_19 18 rfl rfl)
theorem dL_law_581 : decode cL_law 581 = .ok (.iload 5, 2) := dk_21 5 (dk_at dksL_law_19 19 rfl rfl)
theorem dL_law_583 : decode cL_law 583 = .ok (.iconst 2, 1) := dk_5 (dk_at dksL_law_19 21 rfl rfl)
theorem dL_law_584 : decode cL_law 584 = .ok (.iadd, 1) := dk_96 (dk_at dksL_law_19 22 rfl rfl)
theorem dL_law_585 : decode cL_law 585 = .ok (.iaload, 1) := dk_46 (dk_at dksL_law_19 23 rfl rfl)
theorem dL_law_586 : decode cL_law 586 = .ok (.aload_n 0, 1) := dk_42 (dk_at dksL_law_20 0 rfl rfl)
theorem dL_law_587 : decode cL_law 587 = .ok (.iload 5, 2) := dk_21 5 (dk_at dksL_law_20 1 rfl rfl)
theorem dL_law_589 : decode cL_law 589 = .ok (.iconst 3, 1) := dk_6 (dk_at dksL_law_20 3 rfl rfl)
theorem dL_law_590 : decode cL_law 590 = .ok (.iadd, 1) := dk_96 (dk_at dksL_law_20 4 rfl rfl)
theorem dL_law_591 : decode cL_law 591 = .ok (.iaload, 1) := dk_46 (dk_at dksL_law_20 5 rfl rfl)
theorem dL_law_592 : decode cL_law 592 = .ok (.invokevirtual 155, 3) := dk_182 0 155 (dk_at dksL_law_20 6 rfl rfl)
theorem dL_law_595 : decode cL_law 595 = .ok (.istore 7, 2) := dk_54 7 (dk_at dksL_law_20 9 rfl rfl)
theorem dL_law_597 : decode cL_law 597 = .ok (.aload_n 2, 1) := dk_44 (dk_at dksL_law_20 11 rfl rfl)
theorem dL_law_598 : decode cL_law 598 = .ok (.invokevirtual 135, 3) := dk_182 0 135 (dk_at dksL_law_20 12 rfl rfl)
theorem dL_law_601 : decode cL_law 601 = .ok (.iload 6, 2) := dk_21 6 (dk_at dksL_law_20 15 rfl rfl)
theorem dL_law_603 : decode cL_law 603 = .ok (.if_icmp .eq 5, 3) := dk_159 0 5 (dk_at dksL_law_20 17 rfl rfl)
theorem dL_law_606 : decode cL_law 606 = .ok (.iconst 0, 1) := dk_3 (dk_at dksL_law_20 20 rfl rfl)
theorem dL_law_607 : decode cL_law 607 = .ok (.ireturn, 1) := dk_172 (dk_at dksL_law_20 21 rfl rfl)
theorem dL_law_608 : decode cL_law 608 = .ok (.iload 6, 2) := dk_21 6 (dk_at dksL_law_20 22 rfl rfl)
theorem dL_law_610 : decode cL_law 610 = .ok (.ifCond .ne 15, 3) := dk_154 0 15 (dk_at dksL_law_21 0 rfl rfl)
theorem dL_law_613 : decode cL_law 613 = .ok (.aload_n 3, 1) := dk_45 (dk_at dksL_law_21 3 rfl rfl)
theorem dL_law_614 : decode cL_law 614 = .ok (.iconst 0, 1) := dk_3 (dk_at dksL_law_21 4 rfl rfl)
theorem dL_law_615 : decode cL_law 615 = .ok (.laload, 1) := dk_47 (dk_at dksL_law_21 5 rfl rfl)
theorem dL_law_616 : decode cL_law 616 = .ok (.iload 7, 2) := dk_21 7 (dk_at dksL_law_21 6 rfl rfl)
theorem dL_law_618 : decode cL_law 618 = .ok (.i2l, 1) := dk_133 (dk_at dksL_law_21 8 rfl rfl)
theorem dL_law_619 : decode cL_law 619 = .ok (.lcmp, 1) := dk_148 (dk_at dksL_law_21 9 rfl rfl)
theorem dL_law_620 : decode cL_law 620 = .ok (.ifCond .eq 5, 3) := dk_153 0 5 (dk_at dksL_law_21 10 rfl rfl)
theorem dL_law_623 : decode cL_law 623 = .ok (.iconst 0, 1) := dk_3 (dk_at dksL_law_21 13 rfl rfl)
theorem dL_law_624 : decode cL_law 624 = .ok (.ireturn, 1) := dk_172 (dk_at dksL_law_21 14 rfl rfl)
theorem dL_law_625 : decode cL_law 625 = .ok (.goto 1597, 3) := dk_167 6 61 (dk_at dksL_law_21 15 rfl rfl)
theorem dL_law_628 : decode cL_law 628 = .ok (.aload_n 1, 1) := dk_43 (dk_at dksL_law_21 18 rfl rfl)
theorem dL_law_629 : decode cL_law 629 = .ok (.aload_n 0, 1) := dk_42 (dk_at dksL_law_21 19 rfl rfl)
theorem dL_law_630 : decode cL_law 630 = .ok (.iload 5, 2) := dk_21 5 (dk_at dksL_law_21 20 rfl rfl)
theorem dL_law_632 : decode cL_law 632 = .ok (.iconst 1, 1) := dk_4 (dk_at dksL_law_21 22 rfl rfl)
theorem dL_law_633 : decode cL_law 633 = .ok (.iadd, 1) := dk_96 (dk_at dksL_law_21 23 rfl rfl)
theorem dL_law_634 : decode cL_law 634 = .ok (.iaload, 1) := dk_46 (dk_at dksL_law_22 0 rfl rfl)
theorem dL_law_635 : decode cL_law 635 = .ok (.aload_n 0, 1) := dk_42 (dk_at dksL_law_22 1 rfl rfl)
theorem dL_law_636 : decode cL_law 636 = .ok (.iload 5, 2) := dk_21 5 (dk_at dksL_law_22 2 rfl rfl)
theorem dL_law_638 : decode cL_law 638 = .ok (.iconst 2, 1) := dk_5 (dk_at dksL_law_22 4 rfl rfl)
theorem dL_law_639 : decode cL_law 639 = .ok (.iadd, 1) := dk_96 (dk_at dksL_law_22 5 rfl rfl)
theorem dL_law_640 : decode cL_law 640 = .ok (.iaload, 1) := dk_46 (dk_at dksL_law_22 6 rfl rfl)
theorem dL_law_641 : decode cL_law 641 = .ok (.aload_n 0, 1) := dk_42 (dk_at dksL_law_22 7 rfl rfl)
theorem dL_law_642 : decode cL_law 642 = .ok (.iload 5, 2) := dk_21 5 (dk_at dksL_law_22 8 rfl rfl)
theorem dL_law_644 : decode cL_law 644 = .ok (.iconst 3, 1) := dk_6 (dk_at dksL_law_22 10 rfl rfl)
theorem dL_law_645 : decode cL_law 645 = .ok (.iadd, 1) := dk_96 (dk_at dksL_law_22 11 rfl rfl)
theorem dL_law_646 : decode cL_law 646 = .ok (.iaload, 1) := dk_46 (dk_at dksL_law_22 12 rfl rfl)
theorem dL_law_647 : decode cL_law 647 = .ok (.aload_n 3, 1) := dk_45 (dk_at dksL_law_22 13 rfl rfl)
theorem dL_law_648 : decode cL_law 648 = .ok (.invokestatic 156, 3) := dk_184 0 156 (dk_at dksL_law_22 14 rfl rfl)
theorem dL_law_651 : decode cL_law 651 = .ok (.istore 6, 2) := dk_54 6 (dk_at dksL_law_22 17 rfl rfl)
theorem dL_law_653 : decode cL_law 653 = .ok (.aload_n 2, 1) := dk_44 (dk_at dksL_law_22 19 rfl rfl)
theorem dL_law_654 : decode cL_law 654 = .ok (.aload_n 0, 1) := dk_42 (dk_at dksL_law_22 20 rfl rfl)
theorem dL_law_655 : decode cL_law 655 = .ok (.iload 5, 2) := dk_21 5 (dk_at dksL_law_22 21 rfl rfl)
theorem dL_law_657 : decode cL_law 657 = .ok (.iconst 1, 1) := dk_4 (dk_at dksL_law_22 23 rfl rfl)
theorem dL_law_658 : decode cL_law 658 = .ok (.iadd, 1) := dk_96 (dk_at dksL_law_23 0 rfl rfl)
theorem dL_law_659 : decode cL_law 659 = .ok (.iaload, 1) := dk_46 (dk_at dksL_law_23 1 rfl rfl)
theorem dL_law_660 : decode cL_law 660 = .ok (.aload_n 0, 1) := dk_42 (dk_at dksL_law_23 2 rfl rfl)
theorem dL_law_661 : decode cL_law 661 = .ok (.iload 5, 2) := dk_21 5 (dk_at dksL_law_23 3 rfl rfl)
theorem dL_law_663 : decode cL_law 663 = .ok (.iconst 2, 1) := dk_5 (dk_at dksL_law_23 5 rfl rfl)
theorem dL_law_664 : decode cL_law 664 = .ok (.iadd, 1) := dk_96 (dk_at dksL_law_23 6 rfl rfl)
theorem dL_law_665 : decode cL_law 665 = .ok (.iaload, 1) := dk_46 (dk_at dksL_law_23 7 rfl rfl)
theorem dL_law_666 : decode cL_law 666 = .ok (.aload_n 0, 1) := dk_42 (dk_at dksL_law_23 8 rfl rfl)
theorem dL_law_667 : decode cL_law 667 = .ok (.iload 5, 2) := dk_21 5 (dk_at dksL_law_23 9 rfl rfl)
theorem dL_law_669 : decode cL_law 669 = .ok (.iconst 3, 1) := dk_6 (dk_at dksL_law_23 11 rfl rfl)
theorem dL_law_670 : decode cL_law 670 = .ok (.iadd, 1) := dk_96 (dk_at dksL_law_23 12 rfl rfl)
theorem dL_law_671 : decode cL_law 671 = .ok (.iaload, 1) := dk_46 (dk_at dksL_law_23 13 rfl rfl)
theorem dL_law_672 : decode cL_law 672 = .ok (.invokevirtual 158, 3) := dk_182 0 158 (dk_at dksL_law_23 14 rfl rfl)
theorem dL_law_675 : decode cL_law 675 = .ok (.istore 7, 2) := dk_54 7 (dk_at dksL_law_23 17 rfl rfl)
theorem dL_law_677 : decode cL_law 677 = .ok (.aload_n 2, 1) := dk_44 (dk_at dksL_law_23 19 rfl rfl)
theorem dL_law_678 : decode cL_law 678 = .ok (.invokevirtual 135, 3) := dk_182 0 135 (dk_at dksL_law_23 20 rfl rfl)
theorem dL_law_681 : decode cL_law 681 = .ok (.iload 6, 2) := dk_21 6 (dk_at dksL_law_24 0 rfl rfl)
theorem dL_law_683 : decode cL_law 683 = .ok (.if_icmp .eq 5, 3) := dk_159 0 5 (dk_at dksL_law_24 2 rfl rfl)
theorem dL_law_686 : decode cL_law 686 = .ok (.iconst 0, 1) := dk_3 (dk_at dksL_law_24 5 rfl rfl)
theorem dL_law_687 : decode cL_law 687 = .ok (.ireturn, 1) := dk_172 (dk_at dksL_law_24 6 rfl rfl)
theorem dL_law_688 : decode cL_law 688 = .ok (.iload 6, 2) := dk_21 6 (dk_at dksL_law_24 7 rfl rfl)
theorem dL_law_690 : decode cL_law 690 = .ok (.ifCond .ne 15, 3) := dk_154 0 15 (dk_at dksL_law_24 9 rfl rfl)
theorem dL_law_693 : decode cL_law 693 = .ok (.aload_n 3, 1) := dk_45 (dk_at dksL_law_24 12 rfl rfl)
theorem dL_law_694 : decode cL_law 694 = .ok (.iconst 0, 1) := dk_3 (dk_at dksL_law_24 13 rfl rfl)
theorem dL_law_695 : decode cL_law 695 = .ok (.laload, 1) := dk_47 (dk_at dksL_law_24 14 rfl rfl)
theorem dL_law_696 : decode cL_law 696 = .ok (.iload 7, 2) := dk_21 7 (dk_at dksL_law_24 15 rfl rfl)
theorem dL_law_698 : decode cL_law 698 = .ok (.i2l, 1) := dk_133 (dk_at dksL_law_24 17 rfl rfl)
theorem dL_law_699 : decode cL_law 699 = .ok (.lcmp, 1) := dk_148 (dk_at dksL_law_24 18 rfl rfl)
theorem dL_law_700 : decode cL_law 700 = .ok (.ifCond .eq 5, 3) := dk_153 0 5 (dk_at dksL_law_24 19 rfl rfl)
theorem dL_law_703 : decode cL_law 703 = .ok (.iconst 0, 1) := dk_3 (dk_at dksL_law_24 22 rfl rfl)
theorem dL_law_704 : decode cL_law 704 = .ok (.ireturn, 1) := dk_172 (dk_at dksL_law_24 23 rfl rfl)
theorem dL_law_705 : decode cL_law 705 = .ok (.goto 1517, 3) := dk_167 5 237 (dk_at dksL_law_25 0 rfl rfl)
theorem dL_law_708 : decode cL_law 708 = .ok (.aload_n 1, 1) := dk_43 (dk_at dksL_law_25 3 rfl rfl)
theorem dL_law_709 : decode cL_law 709 = .ok (.aload_n 0, 1) := dk_42 (dk_at dksL_law_25 4 rfl rfl)
theorem dL_law_710 : decode cL_law 710 = .ok (.iload 5, 2) := dk_21 5 (dk_at dksL_law_25 5 rfl rfl)
theorem dL_law_712 : decode cL_law 712 = .ok (.iconst 1, 1) := dk_4 (dk_at dksL_law_25 7 rfl rfl)
theorem dL_law_713 : decode cL_law 713 = .ok (.iadd, 1) := dk_96 (dk_at dksL_law_25 8 rfl rfl)
theorem dL_law_714 : decode cL_law 714 = .ok (.iaload, 1) := dk_46 (dk_at dksL_law_25 9 rfl rfl)
theorem dL_law_715 : decode cL_law 715 = .ok (.aload_n 0, 1) := dk_42 (dk_at dksL_law_25 10 rfl rfl)
theorem dL_law_716 : decode cL_law 716 = .ok (.iload 5, 2) := dk_21 5 (dk_at dksL_law_25 11 rfl rfl)
theorem dL_law_718 : decode cL_law 718 = .ok (.iconst 2, 1) := dk_5 (dk_at dksL_law_25 13 rfl rfl)
theorem dL_law_719 : decode cL_law 719 = .ok (.iadd, 1) := dk_96 (dk_at dksL_law_25 14 rfl rfl)
theorem dL_law_720 : decode cL_law 720 = .ok (.iaload, 1) := dk_46 (dk_at dksL_law_25 15 rfl rfl)
theorem dL_law_721 : decode cL_law 721 = .ok (.aload_n 3, 1) := dk_45 (dk_at dksL_law_25 16 rfl rfl)
theorem dL_law_722 : decode cL_law 722 = .ok (.invokestatic 159, 3) := dk_184 0 159 (dk_at dksL_law_25 17 rfl rfl)
theorem dL_law_725 : decode cL_law 725 = .ok (.istore 6, 2) := dk_54 6 (dk_at dksL_law_25 20 rfl rfl)
theorem dL_law_727 : decode cL_law 727 = .ok (.aload_n 2, 1) := dk_44 (dk_at dksL_law_25 22 rfl rfl)
theorem dL_law_728 : decode cL_law 728 = .ok (.aload_n 0, 1) := dk_42 (dk_at dksL_law_25 23 rfl rfl)
theorem dL_law_729 : decode cL_law 729 = .ok (.iload 5, 2) := dk_21 5 (dk_at dksL_law_26 0 rfl rfl)
theorem dL_law_731 : decode cL_law 731 = .ok (.iconst 1, 1) := dk_4 (dk_at dksL_law_26 2 rfl rfl)
theorem dL_law_732 : decode cL_law 732 = .ok (.iadd, 1) := dk_96 (dk_at dksL_law_26 3 rfl rfl)
theorem dL_law_733 : decode cL_law 733 = .ok (.iaload, 1) := dk_46 (dk_at dksL_law_26 4 rfl rfl)
theorem dL_law_734 : decode cL_law 734 = .ok (.aload_n 0, 1) := dk_42 (dk_at dksL_law_26 5 rfl rfl)
theorem dL_law_735 : decode cL_law 735 = .ok (.iload 5, 2) := dk_21 5 (dk_at dksL_law_26 6 rfl rfl)
theorem dL_law_737 : decode cL_law 737 = .ok (.iconst 2, 1) := dk_5 (dk_at dksL_law_26 8 rfl rfl)
theorem dL_law_738 : decode cL_law 738 = .ok (.iadd, 1) := dk_96 (dk_at dksL_law_26 9 rfl rfl)
theorem dL_law_739 : decode cL_law 739 = .ok (.iaload, 1) := dk_46 (dk_at dksL_law_26 10 rfl rfl)
theorem dL_law_740 : decode cL_law 740 = .ok (.invokevirtual 161, 3) := dk_182 0 161 (dk_at dksL_law_26 11 rfl rfl)
theorem dL_law_743 : decode cL_law 743 = .ok (.istore 7, 2) := dk_54 7 (dk_at dksL_law_26 14 rfl rfl)
theorem dL_law_745 : decode cL_law 745 = .ok (.aload_n 2, 1) := dk_44 (dk_at dksL_law_26 16 rfl rfl)
theorem dL_law_746 : decode cL_law 746 = .ok (.invokevirtual 135, 3) := dk_182 0 135 (dk_at dksL_law_26 17 rfl rfl)
theorem dL_law_749 : decode cL_law 749 = .ok (.iload 6, 2) := dk_21 6 (dk_at dksL_law_26 20 rfl rfl)
theorem dL_law_751 : decode cL_law 751 = .ok (.if_icmp .eq 5, 3) := dk_159 0 5 (dk_at dksL_law_27 0 rfl rfl)
theorem dL_law_754 : decode cL_law 754 = .ok (.iconst 0, 1) := dk_3 (dk_at dksL_law_27 3 rfl rfl)
theorem dL_law_755 : decode cL_law 755 = .ok (.ireturn, 1) := dk_172 (dk_at dksL_law_27 4 rfl rfl)
theorem dL_law_756 : decode cL_law 756 = .ok (.iload 6, 2) := dk_21 6 (dk_at dksL_law_27 5 rfl rfl)
theorem dL_law_758 : decode cL_law 758 = .ok (.ifCond .ne 15, 3) := dk_154 0 15 (dk_at dksL_law_27 7 rfl rfl)
theorem dL_law_761 : decode cL_law 761 = .ok (.aload_n 3, 1) := dk_45 (dk_at dksL_law_27 10 rfl rfl)
theorem dL_law_762 : decode cL_law 762 = .ok (.iconst 0, 1) := dk_3 (dk_at dksL_law_27 11 rfl rfl)
theorem dL_law_763 : decode cL_law 763 = .ok (.laload, 1) := dk_47 (dk_at dksL_law_27 12 rfl rfl)
theorem dL_law_764 : decode cL_law 764 = .ok (.iload 7, 2) := dk_21 7 (dk_at dksL_law_27 13 rfl rfl)
theorem dL_law_766 : decode cL_law 766 = .ok (.i2l, 1) := dk_133 (dk_at dksL_law_27 15 rfl rfl)
theorem dL_law_767 : decode cL_law 767 = .ok (.lcmp, 1) := dk_148 (dk_at dksL_law_27 16 rfl rfl)
theorem dL_law_768 : decode cL_law 768 = .ok (.ifCond .eq 5, 3) := dk_153 0 5 (dk_at dksL_law_27 17 rfl rfl)
theorem dL_law_771 : decode cL_law 771 = .ok (.iconst 0, 1) := dk_3 (dk_at dksL_law_27 20 rfl rfl)
theorem dL_law_772 : decode cL_law 772 = .ok (.ireturn, 1) := dk_172 (dk_at dksL_law_27 21 rfl rfl)
theorem dL_law_773 : decode cL_law 773 = .ok (.goto 1449, 3) := dk_167 5 169 (dk_at dksL_law_28 0 rfl rfl)
theorem dL_law_776 : decode cL_law 776 = .ok (.aload_n 1, 1) := dk_43 (dk_at dksL_law_28 3 rfl rfl)
theorem dL_law_777 : decode cL_law 777 = .ok (.aload_n 0, 1) := dk_42 (dk_at dksL_law_28 4 rfl rfl)
theorem dL_law_778 : decode cL_law 778 = .ok (.iload 5, 2) := dk_21 5 (dk_at dksL_law_28 5 rfl rfl)
theorem dL_law_780 : decode cL_law 780 = .ok (.iconst 1, 1) := dk_4 (dk_at dksL_law_28 7 rfl rfl)
theorem dL_law_781 : decode cL_law 781 = .ok (.iadd, 1) := dk_96 (dk_at dksL_law_28 8 rfl rfl)
theorem dL_law_782 : decode cL_law 782 = .ok (.iaload, 1) := dk_46 (dk_at dksL_law_28 9 rfl rfl)
theorem dL_law_783 : decode cL_law 783 = .ok (.aload_n 3, 1) := dk_45 (dk_at dksL_law_28 10 rfl rfl)
theorem dL_law_784 : decode cL_law 784 = .ok (.invokestatic 162, 3) := dk_184 0 162 (dk_at dksL_law_28 11 rfl rfl)
theorem dL_law_787 : decode cL_law 787 = .ok (.istore 6, 2) := dk_54 6 (dk_at dksL_law_28 14 rfl rfl)
theorem dL_law_789 : decode cL_law 789 = .ok (.aload_n 2, 1) := dk_44 (dk_at dksL_law_28 16 rfl rfl)
theorem dL_law_790 : decode cL_law 790 = .ok (.aload_n 0, 1) := dk_42 (dk_at dksL_law_28 17 rfl rfl)
theorem dL_law_791 : decode cL_law 791 = .ok (.iload 5, 2) := dk_21 5 (dk_at dksL_law_28 18 rfl rfl)
theorem dL_law_793 : decode cL_law 793 = .ok (.iconst 1, 1) := dk_4 (dk_at dksL_law_28 20 rfl rfl)
theorem dL_law_794 : decode cL_law 794 = .ok (.iadd, 1) := dk_96 (dk_at dksL_law_28 21 rfl rfl)
theorem dL_law_795 : decode cL_law 795 = .ok (.iaload, 1) := dk_46 (dk_at dksL_law_28 22 rfl rfl)
theorem dL_law_796 : decode cL_law 796 = .ok (.invokevirtual 164, 3) := dk_182 0 164 (dk_at dksL_law_29 0 rfl rfl)
theorem dL_law_799 : decode cL_law 799 = .ok (.istore 7, 2) := dk_54 7 (dk_at dksL_law_29 3 rfl rfl)
theorem dL_law_801 : decode cL_law 801 = .ok (.aload_n 2, 1) := dk_44 (dk_at dksL_law_29 5 rfl rfl)
theorem dL_law_802 : decode cL_law 802 = .ok (.invokevirtual 135, 3) := dk_182 0 135 (dk_at dksL_law_29 6 rfl rfl)
theorem dL_law_805 : decode cL_law 805 = .ok (.iload 6, 2) := dk_21 6 (dk_at dksL_law_29 9 rfl rfl)
theorem dL_law_807 : decode cL_law 807 = .ok (.if_icmp .eq 5, 3) := dk_159 0 5 (dk_at dksL_law_29 11 rfl rfl)
theorem dL_law_810 : decode cL_law 810 = .ok (.iconst 0, 1) := dk_3 (dk_at dksL_law_29 14 rfl rfl)
theorem dL_law_811 : decode cL_law 811 = .ok (.ireturn, 1) := dk_172 (dk_at dksL_law_29 15 rfl rfl)
theorem dL_law_812 : decode cL_law 812 = .ok (.iload 6, 2) := dk_21 6 (dk_at dksL_law_29 16 rfl rfl)
theorem dL_law_814 : decode cL_law 814 = .ok (.ifCond .ne 15, 3) := dk_154 0 15 (dk_at dksL_law_29 18 rfl rfl)
theorem dL_law_817 : decode cL_law 817 = .ok (.aload_n 3, 1) := dk_45 (dk_at dksL_law_29 21 rfl rfl)
theorem dL_law_818 : decode cL_law 818 = .ok (.iconst 0, 1) := dk_3 (dk_at dksL_law_29 22 rfl rfl)
theorem dL_law_819 : decode cL_law 819 = .ok (.laload, 1) := dk_47 (dk_at dksL_law_29 23 rfl rfl)
theorem dL_law_820 : decode cL_law 820 = .ok (.iload 7, 2) := dk_21 7 (dk_at dksL_law_30 0 rfl rfl)
theorem dL_law_822 : decode cL_law 822 = .ok (.i2l, 1) := dk_133 (dk_at dksL_law_30 2 rfl rfl)
theorem dL_law_823 : decode cL_law 823 = .ok (.lcmp, 1) := dk_148 (dk_at dksL_law_30 3 rfl rfl)
theorem dL_law_824 : decode cL_law 824 = .ok (.ifCond .eq 5, 3) := dk_153 0 5 (dk_at dksL_law_30 4 rfl rfl)
theorem dL_law_827 : decode cL_law 827 = .ok (.iconst 0, 1) := dk_3 (dk_at dksL_law_30 7 rfl rfl)
theorem dL_law_828 : decode cL_law 828 = .ok (.ireturn, 1) := dk_172 (dk_at dksL_law_30 8 rfl rfl)
theorem dL_law_829 : decode cL_law 829 = .ok (.goto 1393, 3) := dk_167 5 113 (dk_at dksL_law_30 9 rfl rfl)
theorem dL_law_832 : decode cL_law 832 = .ok (.aload_n 1, 1) := dk_43 (dk_at dksL_law_30 12 rfl rfl)
theorem dL_law_833 : decode cL_law 833 = .ok (.aload_n 0, 1) := dk_42 (dk_at dksL_law_30 13 rfl rfl)
theorem dL_law_834 : decode cL_law 834 = .ok (.iload 5, 2) := dk_21 5 (dk_at dksL_law_30 14 rfl rfl)
theorem dL_law_836 : decode cL_law 836 = .ok (.iconst 1, 1) := dk_4 (dk_at dksL_law_30 16 rfl rfl)
theorem dL_law_837 : decode cL_law 837 = .ok (.iadd, 1) := dk_96 (dk_at dksL_law_30 17 rfl rfl)
theorem dL_law_838 : decode cL_law 838 = .ok (.iaload, 1) := dk_46 (dk_at dksL_law_30 18 rfl rfl)
theorem dL_law_839 : decode cL_law 839 = .ok (.aload_n 0, 1) := dk_42 (dk_at dksL_law_30 19 rfl rfl)
theorem dL_law_840 : decode cL_law 840 = .ok (.iload 5, 2) := dk_21 5 (dk_at dksL_law_30 20 rfl rfl)
theorem dL_law_842 : decode cL_law 842 = .ok (.iconst 2, 1) := dk_5 (dk_at dksL_law_30 22 rfl rfl)
theorem dL_law_843 : decode cL_law 843 = .ok (.iadd, 1) := dk_96 (dk_at dksL_law_30 23 rfl rfl)
theorem dL_law_844 : decode cL_law 844 = .ok (.iaload, 1) := dk_46 (dk_at dksL_law_31 0 rfl rfl)
theorem dL_law_845 : decode cL_law 845 = .ok (.aload_n 3, 1) := dk_45 (dk_at dksL_law_31 1 rfl rfl)
theorem dL_law_846 : decode cL_law 846 = .ok (.invokestatic 165, 3) := dk_184 0 165 (dk_at dksL_law_31 2 rfl rfl)
theorem dL_law_849 : decode cL_law 849 = .ok (.istore 6, 2) := dk_54 6 (dk_at dksL_law_31 5 rfl rfl)
theorem dL_law_851 : decode cL_law 851 = .ok (.aload_n 2, 1) := dk_44 (dk_at dksL_law_31 7 rfl rfl)
theorem dL_law_852 : decode cL_law 852 = .ok (.aload_n 0, 1) := dk_42 (dk_at dksL_law_31 8 rfl rfl)
theorem dL_law_853 : decode cL_law 853 = .ok (.iload 5, 2) := dk_21 5 (dk_at dksL_law_31 9 rfl rfl)
theorem dL_law_855 : decode cL_law 855 = .ok (.iconst 1, 1) := dk_4 (dk_at dksL_law_31 11 rfl rfl)
theorem dL_law_856 : decode cL_law 856 = .ok (.iadd, 1) := dk_96 (dk_at dksL_law_31 12 rfl rfl)
theorem dL_law_857 : decode cL_law 857 = .ok (.iaload, 1) := dk_46 (dk_at dksL_law_31 13 rfl rfl)
theorem dL_law_858 : decode cL_law 858 = .ok (.aload_n 0, 1) := dk_42 (dk_at dksL_law_31 14 rfl rfl)
theorem dL_law_859 : decode cL_law 859 = .ok (.iload 5, 2) := dk_21 5 (dk_at dksL_law_31 15 rfl rfl)
theorem dL_law_861 : decode cL_law 861 = .ok (.iconst 2, 1) := dk_5 (dk_at dksL_law_31 17 rfl rfl)
theorem dL_law_862 : decode cL_law 862 = .ok (.iadd, 1) := dk_96 (dk_at dksL_law_31 18 rfl rfl)
theorem dL_law_863 : decode cL_law 863 = .ok (.iaload, 1) := dk_46 (dk_at dksL_law_31 19 rfl rfl)
theorem dL_law_864 : decode cL_law 864 = .ok (.invokevirtual 167, 3) := dk_182 0 167 (dk_at dksL_law_31 20 rfl rfl)
theorem dL_law_867 : decode cL_law 867 = .ok (.istore 7, 2) := dk_54 7 (dk_at dksL_law_32 0 rfl rfl)
theorem dL_law_869 : decode cL_law 869 = .ok (.aload_n 2, 1) := dk_44 (dk_at dksL_law_32 2 rfl rfl)
theorem dL_law_870 : decode cL_law 870 = .ok (.invokevirtual 135, 3) := dk_182 0 135 (dk_at dksL_law_32 3 rfl rfl)
theorem dL_law_873 : decode cL_law 873 = .ok (.iload 6, 2) := dk_21 6 (dk_at dksL_law_32 6 rfl rfl)
theorem dL_law_875 : decode cL_law 875 = .ok (.if_icmp .eq 5, 3) := dk_159 0 5 (dk_at dksL_law_32 8 rfl rfl)
theorem dL_law_878 : decode cL_law 878 = .ok (.iconst 0, 1) := dk_3 (dk_at dksL_law_32 11 rfl rfl)
theorem dL_law_879 : decode cL_law 879 = .ok (.ireturn, 1) := dk_172 (dk_at dksL_law_32 12 rfl rfl)
theorem dL_law_880 : decode cL_law 880 = .ok (.iload 6, 2) := dk_21 6 (dk_at dksL_law_32 13 rfl rfl)
theorem dL_law_882 : decode cL_law 882 = .ok (.ifCond .ne 15, 3) := dk_154 0 15 (dk_at dksL_law_32 15 rfl rfl)
theorem dL_law_885 : decode cL_law 885 = .ok (.aload_n 3, 1) := dk_45 (dk_at dksL_law_32 18 rfl rfl)
theorem dL_law_886 : decode cL_law 886 = .ok (.iconst 0, 1) := dk_3 (dk_at dksL_law_32 19 rfl rfl)
theorem dL_law_887 : decode cL_law 887 = .ok (.laload, 1) := dk_47 (dk_at dksL_law_32 20 rfl rfl)
theorem dL_law_888 : decode cL_law 888 = .ok (.iload 7, 2) := dk_21 7 (dk_at dksL_law_32 21 rfl rfl)
theorem dL_law_890 : decode cL_law 890 = .ok (.i2l, 1) := dk_133 (dk_at dksL_law_32 23 rfl rfl)
theorem dL_law_891 : decode cL_law 891 = .ok (.lcmp, 1) := dk_148 (dk_at dksL_law_33 0 rfl rfl)
theorem dL_law_892 : decode cL_law 892 = .ok (.ifCond .eq 5, 3) := dk_153 0 5 (dk_at dksL_law_33 1 rfl rfl)
theorem dL_law_895 : decode cL_law 895 = .ok (.iconst 0, 1) := dk_3 (dk_at dksL_law_33 4 rfl rfl)
theorem dL_law_896 : decode cL_law 896 = .ok (.ireturn, 1) := dk_172 (dk_at dksL_law_33 5 rfl rfl)
theorem dL_law_897 : decode cL_law 897 = .ok (.goto 1325, 3) := dk_167 5 45 (dk_at dksL_law_33 6 rfl rfl)
theorem dL_law_900 : decode cL_law 900 = .ok (.aload_n 1, 1) := dk_43 (dk_at dksL_law_33 9 rfl rfl)
theorem dL_law_901 : decode cL_law 901 = .ok (.aload_n 0, 1) := dk_42 (dk_at dksL_law_33 10 rfl rfl)
theorem dL_law_902 : decode cL_law 902 = .ok (.iload 5, 2) := dk_21 5 (dk_at dksL_law_33 11 rfl rfl)
theorem dL_law_904 : decode cL_law 904 = .ok (.iconst 1, 1) := dk_4 (dk_at dksL_law_33 13 rfl rfl)
theorem dL_law_905 : decode cL_law 905 = .ok (.iadd, 1) := dk_96 (dk_at dksL_law_33 14 rfl rfl)
theorem dL_law_906 : decode cL_law 906 = .ok (.iaload, 1) := dk_46 (dk_at dksL_law_33 15 rfl rfl)
theorem dL_law_907 : decode cL_law 907 = .ok (.aload_n 0, 1) := dk_42 (dk_at dksL_law_33 16 rfl rfl)
theorem dL_law_908 : decode cL_law 908 = .ok (.iload 5, 2) := dk_21 5 (dk_at dksL_law_33 17 rfl rfl)
theorem dL_law_910 : decode cL_law 910 = .ok (.iconst 2, 1) := dk_5 (dk_at dksL_law_33 19 rfl rfl)
theorem dL_law_911 : decode cL_law 911 = .ok (.iadd, 1) := dk_96 (dk_at dksL_law_33 20 rfl rfl)
theorem dL_law_912 : decode cL_law 912 = .ok (.iaload, 1) := dk_46 (dk_at dksL_law_33 21 rfl rfl)
theorem dL_law_913 : decode cL_law 913 = .ok (.aload_n 3, 1) := dk_45 (dk_at dksL_law_33 22 rfl rfl)
theorem dL_law_914 : decode cL_law 914 = .ok (.invokestatic 168, 3) := dk_184 0 168 (dk_at dksL_law_34 0 rfl rfl)
theorem dL_law_917 : decode cL_law 917 = .ok (.istore 6, 2) := dk_54 6 (dk_at dksL_law_34 3 rfl rfl)
theorem dL_law_919 : decode cL_law 919 = .ok (.aload_n 2, 1) := dk_44 (dk_at dksL_law_34 5 rfl rfl)
theorem dL_law_920 : decode cL_law 920 = .ok (.aload_n 0, 1) := dk_42 (dk_at dksL_law_34 6 rfl rfl)
theorem dL_law_921 : decode cL_law 921 = .ok (.iload 5, 2) := dk_21 5 (dk_at dksL_law_34 7 rfl rfl)
theorem dL_law_923 : decode cL_law 923 = .ok (.iconst 1, 1) := dk_4 (dk_at dksL_law_34 9 rfl rfl)
theorem dL_law_924 : decode cL_law 924 = .ok (.iadd, 1) := dk_96 (dk_at dksL_law_34 10 rfl rfl)
theorem dL_law_925 : decode cL_law 925 = .ok (.iaload, 1) := dk_46 (dk_at dksL_law_34 11 rfl rfl)
theorem dL_law_926 : decode cL_law 926 = .ok (.aload_n 0, 1) := dk_42 (dk_at dksL_law_34 12 rfl rfl)
theorem dL_law_927 : decode cL_law 927 = .ok (.iload 5, 2) := dk_21 5 (dk_at dksL_law_34 13 rfl rfl)
theorem dL_law_929 : decode cL_law 929 = .ok (.iconst 2, 1) := dk_5 (dk_at dksL_law_34 15 rfl rfl)
theorem dL_law_930 : decode cL_law 930 = .ok (.iadd, 1) := dk_96 (dk_at dksL_law_34 16 rfl rfl)
theorem dL_law_931 : decode cL_law 931 = .ok (.iaload, 1) := dk_46 (dk_at dksL_law_34 17 rfl rfl)
theorem dL_law_932 : decode cL_law 932 = .ok (.invokevirtual 170, 3) := dk_182 0 170 (dk_at dksL_law_34 18 rfl rfl)
theorem dL_law_935 : decode cL_law 935 = .ok (.istore 7, 2) := dk_54 7 (dk_at dksL_law_34 21 rfl rfl)
theorem dL_law_937 : decode cL_law 937 = .ok (.aload_n 2, 1) := dk_44 (dk_at dksL_law_34 23 rfl rfl)
theorem dL_law_938 : decode cL_law 938 = .ok (.invokevirtual 135, 3) := dk_182 0 135 (dk_at dksL_law_35 0 rfl rfl)
theorem dL_law_941 : decode cL_law 941 = .ok (.iload 6, 2) := dk_21 6 (dk_at dksL_law_35 3 rfl rfl)
theorem dL_law_943 : decode cL_law 943 = .ok (.if_icmp .eq 5, 3) := dk_159 0 5 (dk_at dksL_law_35 5 rfl rfl)
theorem dL_law_946 : decode cL_law 946 = .ok (.iconst 0, 1) := dk_3 (dk_at dksL_law_35 8 rfl rfl)
theorem dL_law_947 : decode cL_law 947 = .ok (.ireturn, 1) := dk_172 (dk_at dksL_law_35 9 rfl rfl)
theorem dL_law_948 : decode cL_law 948 = .ok (.iload 6, 2) := dk_21 6 (dk_at dksL_law_35 10 rfl rfl)
theorem dL_law_950 : decode cL_law 950 = .ok (.ifCond .ne 15, 3) := dk_154 0 15 (dk_at dksL_law_35 12 rfl rfl)
theorem dL_law_953 : decode cL_law 953 = .ok (.aload_n 3, 1) := dk_45 (dk_at dksL_law_35 15 rfl rfl)
theorem dL_law_954 : decode cL_law 954 = .ok (.iconst 0, 1) := dk_3 (dk_at dksL_law_35 16 rfl rfl)
theorem dL_law_955 : decode cL_law 955 = .ok (.laload, 1) := dk_47 (dk_at dksL_law_35 17 rfl rfl)
theorem dL_law_956 : decode cL_law 956 = .ok (.iload 7, 2) := dk_21 7 (dk_at dksL_law_35 18 rfl rfl)
theorem dL_law_958 : decode cL_law 958 = .ok (.i2l, 1) := dk_133 (dk_at dksL_law_35 20 rfl rfl)
theorem dL_law_959 : decode cL_law 959 = .ok (.lcmp, 1) := dk_148 (dk_at dksL_law_35 21 rfl rfl)
theorem dL_law_960 : decode cL_law 960 = .ok (.ifCond .eq 5, 3) := dk_153 0 5 (dk_at dksL_law_36 0 rfl rfl)
theorem dL_law_963 : decode cL_law 963 = .ok (.iconst 0, 1) := dk_3 (dk_at dksL_law_36 3 rfl rfl)
theorem dL_law_964 : decode cL_law 964 = .ok (.ireturn, 1) := dk_172 (dk_at dksL_law_36 4 rfl rfl)
theorem dL_law_965 : decode cL_law 965 = .ok (.goto 1257, 3) := dk_167 4 233 (dk_at dksL_law_36 5 rfl rfl)
theorem dL_law_968 : decode cL_law 968 = .ok (.aload_n 1, 1) := dk_43 (dk_at dksL_law_36 8 rfl rfl)
theorem dL_law_969 : decode cL_law 969 = .ok (.aload_n 0, 1) := dk_42 (dk_at dksL_law_36 9 rfl rfl)
theorem dL_law_970 : decode cL_law 970 = .ok (.iload 5, 2) := dk_21 5 (dk_at dksL_law_36 10 rfl rfl)
theorem dL_law_972 : decode cL_law 972 = .ok (.iconst 1, 1) := dk_4 (dk_at dksL_law_36 12 rfl rfl)
theorem dL_law_973 : decode cL_law 973 = .ok (.iadd, 1) := dk_96 (dk_at dksL_law_36 13 rfl rfl)
theorem dL_law_974 : decode cL_law 974 = .ok (.iaload, 1) := dk_46 (dk_at dksL_law_36 14 rfl rfl)
theorem dL_law_975 : decode cL_law 975 = .ok (.aload_n 0, 1) := dk_42 (dk_at dksL_law_36 15 rfl rfl)
theorem dL_law_976 : decode cL_law 976 = .ok (.iload 5, 2) := dk_21 5 (dk_at dksL_law_36 16 rfl rfl)
theorem dL_law_978 : decode cL_law 978 = .ok (.iconst 2, 1) := dk_5 (dk_at dksL_law_36 18 rfl rfl)
theorem dL_law_979 : decode cL_law 979 = .ok (.iadd, 1) := dk_96 (dk_at dksL_law_36 19 rfl rfl)
theorem dL_law_980 : decode cL_law 980 = .ok (.iaload, 1) := dk_46 (dk_at dksL_law_36 20 rfl rfl)
theorem dL_law_981 : decode cL_law 981 = .ok (.aload_n 0, 1) := dk_42 (dk_at dksL_law_36 21 rfl rfl)
theorem dL_law_982 : decode cL_law 982 = .ok (.iload 5, 2) := dk_21 5 (dk_at dksL_law_36 22 rfl rfl)
theorem dL_law_984 : decode cL_law 984 = .ok (.iconst 3, 1) := dk_6 (dk_at dksL_law_37 0 rfl rfl)
theorem dL_law_985 : decode cL_law 985 = .ok (.iadd, 1) := dk_96 (dk_at dksL_law_37 1 rfl rfl)
theorem dL_law_986 : decode cL_law 986 = .ok (.iaload, 1) := dk_46 (dk_at dksL_law_37 2 rfl rfl)
theorem dL_law_987 : decode cL_law 987 = .ok (.aload_n 3, 1) := dk_45 (dk_at dksL_law_37 3 rfl rfl)
theorem dL_law_988 : decode cL_law 988 = .ok (.invokestatic 171, 3) := dk_184 0 171 (dk_at dksL_law_37 4 rfl rfl)
theorem dL_law_991 : decode cL_law 991 = .ok (.istore 6, 2) := dk_54 6 (dk_at dksL_law_37 7 rfl rfl)
theorem dL_law_993 : decode cL_law 993 = .ok (.aload_n 2, 1) := dk_44 (dk_at dksL_law_37 9 rfl rfl)
theorem dL_law_994 : decode cL_law 994 = .ok (.aload_n 0, 1) := dk_42 (dk_at dksL_law_37 10 rfl rfl)
theorem dL_law_995 : decode cL_law 995 = .ok (.iload 5, 2) := dk_21 5 (dk_at dksL_law_37 11 rfl rfl)
theorem dL_law_997 : decode cL_law 997 = .ok (.iconst 1, 1) := dk_4 (dk_at dksL_law_37 13 rfl rfl)
theorem dL_law_998 : decode cL_law 998 = .ok (.iadd, 1) := dk_96 (dk_at dksL_law_37 14 rfl rfl)
theorem dL_law_999 : decode cL_law 999 = .ok (.iaload, 1) := dk_46 (dk_at dksL_law_37 15 rfl rfl)
theorem dL_law_1000 : decode cL_law 1000 = .ok (.aload_n 0, 1) := dk_42 (dk_at dksL_law_37 16 rfl rfl)
theorem dL_law_1001 : decode cL_law 1001 = .ok (.iload 5, 2) := dk_21 5 (dk_at dksL_law_37 17 rfl rfl)
theorem dL_law_1003 : decode cL_law 1003 = .ok (.iconst 2, 1) := dk_5 (dk_at dksL_law_37 19 rfl rfl)
theorem dL_law_1004 : decode cL_law 1004 = .ok (.iadd, 1) := dk_96 (dk_at dksL_law_37 20 rfl rfl)
theorem dL_law_1005 : decode cL_law 1005 = .ok (.iaload, 1) := dk_46 (dk_at dksL_law_37 21 rfl rfl)
theorem dL_law_1006 : decode cL_law 1006 = .ok (.aload_n 0, 1) := dk_42 (dk_at dksL_law_37 22 rfl rfl)
theorem dL_law_1007 : decode cL_law 1007 = .ok (.iload 5, 2) := dk_21 5 (dk_at dksL_law_38 0 rfl rfl)
theorem dL_law_1009 : decode cL_law 1009 = .ok (.iconst 3, 1) := dk_6 (dk_at dksL_law_38 2 rfl rfl)
theorem dL_law_1010 : decode cL_law 1010 = .ok (.iadd, 1) := dk_96 (dk_at dksL_law_38 3 rfl rfl)
theorem dL_law_1011 : decode cL_law 1011 = .ok (.iaload, 1) := dk_46 (dk_at dksL_law_38 4 rfl rfl)
theorem dL_law_1012 : decode cL_law 1012 = .ok (.invokevirtual 173, 3) := dk_182 0 173 (dk_at dksL_law_38 5 rfl rfl)
theorem dL_law_1015 : decode cL_law 1015 = .ok (.istore 7, 2) := dk_54 7 (dk_at dksL_law_38 8 rfl rfl)
theorem dL_law_1017 : decode cL_law 1017 = .ok (.aload_n 2, 1) := dk_44 (dk_at dksL_law_38 10 rfl rfl)
theorem dL_law_1018 : decode cL_law 1018 = .ok (.invokevirtual 135, 3) := dk_182 0 135 (dk_at dksL_law_38 11 rfl rfl)
theorem dL_law_1021 : decode cL_law 1021 = .ok (.iload 6, 2) := dk_21 6 (dk_at dksL_law_38 14 rfl rfl)
theorem dL_law_1023 : decode cL_law 1023 = .ok (.if_icmp .eq 5, 3) := dk_159 0 5 (dk_at dksL_law_38 16 rfl rfl)
theorem dL_law_1026 : decode cL_law 1026 = .ok (.iconst 0, 1) := dk_3 (dk_at dksL_law_38 19 rfl rfl)
theorem dL_law_1027 : decode cL_law 1027 = .ok (.ireturn, 1) := dk_172 (dk_at dksL_law_38 20 rfl rfl)
theorem dL_law_1028 : decode cL_law 1028 = .ok (.iload 6, 2) := dk_21 6 (dk_at dksL_law_38 21 rfl rfl)
theorem dL_law_1030 : decode cL_law 1030 = .ok (.ifCond .ne 15, 3) := dk_154 0 15 (dk_at dksL_law_39 0 rfl rfl)
theorem dL_law_1033 : decode cL_law 1033 = .ok (.aload_n 3, 1) := dk_45 (dk_at dksL_law_39 3 rfl rfl)
theorem dL_law_1034 : decode cL_law 1034 = .ok (.iconst 0, 1) := dk_3 (dk_at dksL_law_39 4 rfl rfl)
theorem dL_law_1035 : decode cL_law 1035 = .ok (.laload, 1) := dk_47 (dk_at dksL_law_39 5 rfl rfl)
theorem dL_law_1036 : decode cL_law 1036 = .ok (.iload 7, 2) := dk_21 7 (dk_at dksL_law_39 6 rfl rfl)
theorem dL_law_1038 : decode cL_law 1038 = .ok (.i2l, 1) := dk_133 (dk_at dksL_law_39 8 rfl rfl)
theorem dL_law_1039 : decode cL_law 1039 = .ok (.lcmp, 1) := dk_148 (dk_at dksL_law_39 9 rfl rfl)
theorem dL_law_1040 : decode cL_law 1040 = .ok (.ifCond .eq 5, 3) := dk_153 0 5 (dk_at dksL_law_39 10 rfl rfl)
theorem dL_law_1043 : decode cL_law 1043 = .ok (.iconst 0, 1) := dk_3 (dk_at dksL_law_39 13 rfl rfl)
theorem dL_law_1044 : decode cL_law 1044 = .ok (.ireturn, 1) := dk_172 (dk_at dksL_law_39 14 rfl rfl)
theorem dL_law_1045 : decode cL_law 1045 = .ok (.goto 1177, 3) := dk_167 4 153 (dk_at dksL_law_39 15 rfl rfl)
theorem dL_law_1048 : decode cL_law 1048 = .ok (.aload_n 1, 1) := dk_43 (dk_at dksL_law_39 18 rfl rfl)
theorem dL_law_1049 : decode cL_law 1049 = .ok (.aload_n 0, 1) := dk_42 (dk_at dksL_law_39 19 rfl rfl)
theorem dL_law_1050 : decode cL_law 1050 = .ok (.iload 5, 2) := dk_21 5 (dk_at dksL_law_39 20 rfl rfl)
theorem dL_law_1052 : decode cL_law 1052 = .ok (.iconst 1, 1) := dk_4 (dk_at dksL_law_39 22 rfl rfl)
theorem dL_law_1053 : decode cL_law 1053 = .ok (.iadd, 1) := dk_96 (dk_at dksL_law_39 23 rfl rfl)
theorem dL_law_1054 : decode cL_law 1054 = .ok (.iaload, 1) := dk_46 (dk_at dksL_law_40 0 rfl rfl)
theorem dL_law_1055 : decode cL_law 1055 = .ok (.aload_n 0, 1) := dk_42 (dk_at dksL_law_40 1 rfl rfl)
theorem dL_law_1056 : decode cL_law 1056 = .ok (.iload 5, 2) := dk_21 5 (dk_at dksL_law_40 2 rfl rfl)
theorem dL_law_1058 : decode cL_law 1058 = .ok (.iconst 2, 1) := dk_5 (dk_at dksL_law_40 4 rfl rfl)
theorem dL_law_1059 : decode cL_law 1059 = .ok (.iadd, 1) := dk_96 (dk_at dksL_law_40 5 rfl rfl)
theorem dL_law_1060 : decode cL_law 1060 = .ok (.iaload, 1) := dk_46 (dk_at dksL_law_40 6 rfl rfl)
theorem dL_law_1061 : decode cL_law 1061 = .ok (.aload_n 3, 1) := dk_45 (dk_at dksL_law_40 7 rfl rfl)
theorem dL_law_1062 : decode cL_law 1062 = .ok (.invokestatic 174, 3) := dk_184 0 174 (dk_at dksL_law_40 8 rfl rfl)
theorem dL_law_1065 : decode cL_law 1065 = .ok (.istore 6, 2) := dk_54 6 (dk_at dksL_law_40 11 rfl rfl)
theorem dL_law_1067 : decode cL_law 1067 = .ok (.aload_n 2, 1) := dk_44 (dk_at dksL_law_40 13 rfl rfl)
theorem dL_law_1068 : decode cL_law 1068 = .ok (.aload_n 0, 1) := dk_42 (dk_at dksL_law_40 14 rfl rfl)
theorem dL_law_1069 : decode cL_law 1069 = .ok (.iload 5, 2) := dk_21 5 (dk_at dksL_law_40 15 rfl rfl)
theorem dL_law_1071 : decode cL_law 1071 = .ok (.iconst 1, 1) := dk_4 (dk_at dksL_law_40 17 rfl rfl)
theorem dL_law_1072 : decode cL_law 1072 = .ok (.iadd, 1) := dk_96 (dk_at dksL_law_40 18 rfl rfl)
theorem dL_law_1073 : decode cL_law 1073 = .ok (.iaload, 1) := dk_46 (dk_at dksL_law_40 19 rfl rfl)
theorem dL_law_1074 : decode cL_law 1074 = .ok (.aload_n 0, 1) := dk_42 (dk_at dksL_law_40 20 rfl rfl)
theorem dL_law_1075 : decode cL_law 1075 = .ok (.iload 5, 2) := dk_21 5 (dk_at dksL_law_40 21 rfl rfl)
theorem dL_law_1077 : decode cL_law 1077 = .ok (.iconst 2, 1) := dk_5 (dk_at dksL_law_40 23 rfl rfl)
theorem dL_law_1078 : decode cL_law 1078 = .ok (.iadd, 1) := dk_96 (dk_at dksL_law_41 0 rfl rfl)
theorem dL_law_1079 : decode cL_law 1079 = .ok (.iaload, 1) := dk_46 (dk_at dksL_law_41 1 rfl rfl)
theorem dL_law_1080 : decode cL_law 1080 = .ok (.invokevirtual 176, 3) := dk_182 0 176 (dk_at dksL_law_41 2 rfl rfl)
theorem dL_law_1083 : decode cL_law 1083 = .ok (.istore 7, 2) := dk_54 7 (dk_at dksL_law_41 5 rfl rfl)
theorem dL_law_1085 : decode cL_law 1085 = .ok (.aload_n 2, 1) := dk_44 (dk_at dksL_law_41 7 rfl rfl)
theorem dL_law_1086 : decode cL_law 1086 = .ok (.invokevirtual 135, 3) := dk_182 0 135 (dk_at dksL_law_41 8 rfl rfl)
theorem dL_law_1089 : decode cL_law 1089 = .ok (.iload 6, 2) := dk_21 6 (dk_at dksL_law_41 11 rfl rfl)
theorem dL_law_1091 : decode cL_law 1091 = .ok (.if_icmp .eq 5, 3) := dk_159 0 5 (dk_at dksL_law_41 13 rfl rfl)
theorem dL_law_1094 : decode cL_law 1094 = .ok (.iconst 0, 1) := dk_3 (dk_at dksL_law_41 16 rfl rfl)
theorem dL_law_1095 : decode cL_law 1095 = .ok (.ireturn, 1) := dk_172 (dk_at dksL_law_41 17 rfl rfl)
theorem dL_law_1096 : decode cL_law 1096 = .ok (.iload 6, 2) := dk_21 6 (dk_at dksL_law_41 18 rfl rfl)
theorem dL_law_1098 : decode cL_law 1098 = .ok (.ifCond .ne 15, 3) := dk_154 0 15 (dk_at dksL_law_41 20 rfl rfl)
theorem dL_law_1101 : decode cL_law 1101 = .ok (.aload_n 3, 1) := dk_45 (dk_at dksL_law_41 23 rfl rfl)
theorem dL_law_1102 : decode cL_law 1102 = .ok (.iconst 0, 1) := dk_3 (dk_at dksL_law_42 0 rfl rfl)
theorem dL_law_1103 : decode cL_law 1103 = .ok (.laload, 1) := dk_47 (dk_at dksL_law_42 1 rfl rfl)
theorem dL_law_1104 : decode cL_law 1104 = .ok (.iload 7, 2) := dk_21 7 (dk_at dksL_law_42 2 rfl rfl)
theorem dL_law_1106 : decode cL_law 1106 = .ok (.i2l, 1) := dk_133 (dk_at dksL_law_42 4 rfl rfl)
theorem dL_law_1107 : decode cL_law 1107 = .ok (.lcmp, 1) := dk_148 (dk_at dksL_law_42 5 rfl rfl)
theorem dL_law_1108 : decode cL_law 1108 = .ok (.ifCond .eq 5, 3) := dk_153 0 5 (dk_at dksL_law_42 6 rfl rfl)
theorem dL_law_1111 : decode cL_law 1111 = .ok (.iconst 0, 1) := dk_3 (dk_at dksL_law_42 9 rfl rfl)
theorem dL_law_1112 : decode cL_law 1112 = .ok (.ireturn, 1) := dk_172 (dk_at dksL_law_42 10 rfl rfl)
theorem dL_law_1113 : decode cL_law 1113 = .ok (.goto 1109, 3) := dk_167 4 85 (dk_at dksL_law_42 11 rfl rfl)
theorem dL_law_1116 : decode cL_law 1116 = .ok (.aload_n 1, 1) := dk_43 (dk_at dksL_law_42 14 rfl rfl)
theorem dL_law_1117 : decode cL_law 1117 = .ok (.aload_n 0, 1) := dk_42 (dk_at dksL_law_42 15 rfl rfl)
theorem dL_law_1118 : decode cL_law 1118 = .ok (.iload 5, 2) := dk_21 5 (dk_at dksL_law_42 16 rfl rfl)
theorem dL_law_1120 : decode cL_law 1120 = .ok (.iconst 1, 1) := dk_4 (dk_at dksL_law_42 18 rfl rfl)
theorem dL_law_1121 : decode cL_law 1121 = .ok (.iadd, 1) := dk_96 (dk_at dksL_law_42 19 rfl rfl)
theorem dL_law_1122 : decode cL_law 1122 = .ok (.iaload, 1) := dk_46 (dk_at dksL_law_42 20 rfl rfl)
theorem dL_law_1123 : decode cL_law 1123 = .ok (.aload_n 0, 1) := dk_42 (dk_at dksL_law_42 21 rfl rfl)
theorem dL_law_1124 : decode cL_law 1124 = .ok (.iload 5, 2) := dk_21 5 (dk_at dksL_law_42 22 rfl rfl)
theorem dL_law_1126 : decode cL_law 1126 = .ok (.iconst 2, 1) := dk_5 (dk_at dksL_law_43 0 rfl rfl)
theorem dL_law_1127 : decode cL_law 1127 = .ok (.iadd, 1) := dk_96 (dk_at dksL_law_43 1 rfl rfl)
theorem dL_law_1128 : decode cL_law 1128 = .ok (.iaload, 1) := dk_46 (dk_at dksL_law_43 2 rfl rfl)
theorem dL_law_1129 : decode cL_law 1129 = .ok (.aload_n 0, 1) := dk_42 (dk_at dksL_law_43 3 rfl rfl)
theorem dL_law_1130 : decode cL_law 1130 = .ok (.iload 5, 2) := dk_21 5 (dk_at dksL_law_43 4 rfl rfl)
theorem dL_law_1132 : decode cL_law 1132 = .ok (.iconst 3, 1) := dk_6 (dk_at dksL_law_43 6 rfl rfl)
theorem dL_law_1133 : decode cL_law 1133 = .ok (.iadd, 1) := dk_96 (dk_at dksL_law_43 7 rfl rfl)
theorem dL_law_1134 : decode cL_law 1134 = .ok (.iaload, 1) := dk_46 (dk_at dksL_law_43 8 rfl rfl)
theorem dL_law_1135 : decode cL_law 1135 = .ok (.ifCond .eq 7, 3) := dk_153 0 7 (dk_at dksL_law_43 9 rfl rfl)
theorem dL_law_1138 : decode cL_law 1138 = .ok (.iconst 1, 1) := dk_4 (dk_at dksL_law_43 12 rfl rfl)
theorem dL_law_1139 : decode cL_law 1139 = .ok (.goto 4, 3) := dk_167 0 4 (dk_at dksL_law_43 13 rfl rfl)
theorem dL_law_1142 : decode cL_law 1142 = .ok (.iconst 0, 1) := dk_3 (dk_at dksL_law_43 16 rfl rfl)
theorem dL_law_1143 : decode cL_law 1143 = .ok (.aload_n 3, 1) := dk_45 (dk_at dksL_law_43 17 rfl rfl)
theorem dL_law_1144 : decode cL_law 1144 = .ok (.invokestatic 177, 3) := dk_184 0 177 (dk_at dksL_law_43 18 rfl rfl)
theorem dL_law_1147 : decode cL_law 1147 = .ok (.istore 6, 2) := dk_54 6 (dk_at dksL_law_43 21 rfl rfl)
theorem dL_law_1149 : decode cL_law 1149 = .ok (.aload_n 2, 1) := dk_44 (dk_at dksL_law_43 23 rfl rfl)
theorem dL_law_1150 : decode cL_law 1150 = .ok (.aload_n 0, 1) := dk_42 (dk_at dksL_law_44 0 rfl rfl)
theorem dL_law_1151 : decode cL_law 1151 = .ok (.iload 5, 2) := dk_21 5 (dk_at dksL_law_44 1 rfl rfl)
theorem dL_law_1153 : decode cL_law 1153 = .ok (.iconst 1, 1) := dk_4 (dk_at dksL_law_44 3 rfl rfl)
theorem dL_law_1154 : decode cL_law 1154 = .ok (.iadd, 1) := dk_96 (dk_at dksL_law_44 4 rfl rfl)
theorem dL_law_1155 : decode cL_law 1155 = .ok (.iaload, 1) := dk_46 (dk_at dksL_law_44 5 rfl rfl)
theorem dL_law_1156 : decode cL_law 1156 = .ok (.aload_n 0, 1) := dk_42 (dk_at dksL_law_44 6 rfl rfl)
theorem dL_law_1157 : decode cL_law 1157 = .ok (.iload 5, 2) := dk_21 5 (dk_at dksL_law_44 7 rfl rfl)
theorem dL_law_1159 : decode cL_law 1159 = .ok (.iconst 2, 1) := dk_5 (dk_at dksL_law_44 9 rfl rfl)
theorem dL_law_1160 : decode cL_law 1160 = .ok (.iadd, 1) := dk_96 (dk_at dksL_law_44 10 rfl rfl)
theorem dL_law_1161 : decode cL_law 1161 = .ok (.iaload, 1) := dk_46 (dk_at dksL_law_44 11 rfl rfl)
theorem dL_law_1162 : decode cL_law 1162 = .ok (.aload_n 0, 1) := dk_42 (dk_at dksL_law_44 12 rfl rfl)
theorem dL_law_1163 : decode cL_law 1163 = .ok (.iload 5, 2) := dk_21 5 (dk_at dksL_law_44 13 rfl rfl)
theorem dL_law_1165 : decode cL_law 1165 = .ok (.iconst 3, 1) := dk_6 (dk_at dksL_law_44 15 rfl rfl)
theorem dL_law_1166 : decode cL_law 1166 = .ok (.iadd, 1) := dk_96 (dk_at dksL_law_44 16 rfl rfl)
theorem dL_law_1167 : decode cL_law 1167 = .ok (.iaload, 1) := dk_46 (dk_at dksL_law_44 17 rfl rfl)
theorem dL_law_1168 : decode cL_law 1168 = .ok (.ifCond .eq 7, 3) := dk_153 0 7 (dk_at dksL_law_44 18 rfl rfl)
theorem dL_law_1171 : decode cL_law 1171 = .ok (.iconst 1, 1) := dk_4 (dk_at dksL_law_44 21 rfl rfl)
theorem dL_law_1172 : decode cL_law 1172 = .ok (.goto 4, 3) := dk_167 0 4 (dk_at dksL_law_45 0 rfl rfl)
theorem dL_law_1175 : decode cL_law 1175 = .ok (.iconst 0, 1) := dk_3 (dk_at dksL_law_45 3 rfl rfl)
theorem dL_law_1176 : decode cL_law 1176 = .ok (.invokevirtual 180, 3) := dk_182 0 180 (dk_at dksL_law_45 4 rfl rfl)
theorem dL_law_1179 : decode cL_law 1179 = .ok (.istore 7, 2) := dk_54 7 (dk_at dksL_law_45 7 rfl rfl)
theorem dL_law_1181 : decode cL_law 1181 = .ok (.aload_n 2, 1) := dk_44 (dk_at dksL_law_45 9 rfl rfl)
theorem dL_law_1182 : decode cL_law 1182 = .ok (.invokevirtual 135, 3) := dk_182 0 135 (dk_at dksL_law_45 10 rfl rfl)
theorem dL_law_1185 : decode cL_law 1185 = .ok (.iload 6, 2) := dk_21 6 (dk_at dksL_law_45 13 rfl rfl)
theorem dL_law_1187 : decode cL_law 1187 = .ok (.if_icmp .eq 5, 3) := dk_159 0 5 (dk_at dksL_law_45 15 rfl rfl)
theorem dL_law_1190 : decode cL_law 1190 = .ok (.iconst 0, 1) := dk_3 (dk_at dksL_law_45 18 rfl rfl)
theorem dL_law_1191 : decode cL_law 1191 = .ok (.ireturn, 1) := dk_172 (dk_at dksL_law_45 19 rfl rfl)
theorem dL_law_1192 : decode cL_law 1192 = .ok (.iload 6, 2) := dk_21 6 (dk_at dksL_law_45 20 rfl rfl)
theorem dL_law_1194 : decode cL_law 1194 = .ok (.ifCond .ne 15, 3) := dk_154 0 15 (dk_at dksL_law_46 0 rfl rfl)
theorem dL_law_1197 : decode cL_law 1197 = .ok (.aload_n 3, 1) := dk_45 (dk_at dksL_law_46 3 rfl rfl)
theorem dL_law_1198 : decode cL_law 1198 = .ok (.iconst 0, 1) := dk_3 (dk_at dksL_law_46 4 rfl rfl)
theorem dL_law_1199 : decode cL_law 1199 = .ok (.laload, 1) := dk_47 (dk_at dksL_law_46 5 rfl rfl)
theorem dL_law_1200 : decode cL_law 1200 = .ok (.iload 7, 2) := dk_21 7 (dk_at dksL_law_46 6 rfl rfl)
theorem dL_law_1202 : decode cL_law 1202 = .ok (.i2l, 1) := dk_133 (dk_at dksL_law_46 8 rfl rfl)
theorem dL_law_1203 : decode cL_law 1203 = .ok (.lcmp, 1) := dk_148 (dk_at dksL_law_46 9 rfl rfl)
theorem dL_law_1204 : decode cL_law 1204 = .ok (.ifCond .eq 5, 3) := dk_153 0 5 (dk_at dksL_law_46 10 rfl rfl)
theorem dL_law_1207 : decode cL_law 1207 = .ok (.iconst 0, 1) := dk_3 (dk_at dksL_law_46 13 rfl rfl)
theorem dL_law_1208 : decode cL_law 1208 = .ok (.ireturn, 1) := dk_172 (dk_at dksL_law_46 14 rfl rfl)
theorem dL_law_1209 : decode cL_law 1209 = .ok (.goto 1013, 3) := dk_167 3 245 (dk_at dksL_law_46 15 rfl rfl)
theorem dL_law_1212 : decode cL_law 1212 = .ok (.aload_n 1, 1) := dk_43 (dk_at dksL_law_46 18 rfl rfl)
theorem dL_law_1213 : decode cL_law 1213 = .ok (.aload_n 0, 1) := dk_42 (dk_at dksL_law_46 19 rfl rfl)
theorem dL_law_1214 : decode cL_law 1214 = .ok (.iload 5, 2) := dk_21 5 (dk_at dksL_law_46 20 rfl rfl)
theorem dL_law_1216 : decode cL_law 1216 = .ok (.iconst 1, 1) := dk_4 (dk_at dksL_law_46 22 rfl rfl)
theorem dL_law_1217 : decode cL_law 1217 = .ok (.iadd, 1) := dk_96 (dk_at dksL_law_46 23 rfl rfl)
theorem dL_law_1218 : decode cL_law 1218 = .ok (.iaload, 1) := dk_46 (dk_at dksL_law_47 0 rfl rfl)
theorem dL_law_1219 : decode cL_law 1219 = .ok (.aload_n 3, 1) := dk_45 (dk_at dksL_law_47 1 rfl rfl)
theorem dL_law_1220 : decode cL_law 1220 = .ok (.invokestatic 181, 3) := dk_184 0 181 (dk_at dksL_law_47 2 rfl rfl)
theorem dL_law_1223 : decode cL_law 1223 = .ok (.istore 6, 2) := dk_54 6 (dk_at dksL_law_47 5 rfl rfl)
theorem dL_law_1225 : decode cL_law 1225 = .ok (.aload_n 2, 1) := dk_44 (dk_at dksL_law_47 7 rfl rfl)
theorem dL_law_1226 : decode cL_law 1226 = .ok (.aload_n 0, 1) := dk_42 (dk_at dksL_law_47 8 rfl rfl)
theorem dL_law_1227 : decode cL_law 1227 = .ok (.iload 5, 2) := dk_21 5 (dk_at dksL_law_47 9 rfl rfl)
theorem dL_law_1229 : decode cL_law 1229 = .ok (.iconst 1, 1) := dk_4 (dk_at dksL_law_47 11 rfl rfl)
theorem dL_law_1230 : decode cL_law 1230 = .ok (.iadd, 1) := dk_96 (dk_at dksL_law_47 12 rfl rfl)
theorem dL_law_1231 : decode cL_law 1231 = .ok (.iaload, 1) := dk_46 (dk_at dksL_law_47 13 rfl rfl)
theorem dL_law_1232 : decode cL_law 1232 = .ok (.invokevirtual 183, 3) := dk_182 0 183 (dk_at dksL_law_47 14 rfl rfl)
theorem dL_law_1235 : decode cL_law 1235 = .ok (.istore 7, 2) := dk_54 7 (dk_at dksL_law_47 17 rfl rfl)
theorem dL_law_1237 : decode cL_law 1237 = .ok (.aload_n 2, 1) := dk_44 (dk_at dksL_law_47 19 rfl rfl)
theorem dL_law_1238 : decode cL_law 1238 = .ok (.invokevirtual 135, 3) := dk_182 0 135 (dk_at dksL_law_47 20 rfl rfl)
theorem dL_law_1241 : decode cL_law 1241 = .ok (.iload 6, 2) := dk_21 6 (dk_at dksL_law_48 0 rfl rfl)
theorem dL_law_1243 : decode cL_law 1243 = .ok (.if_icmp .eq 5, 3) := dk_159 0 5 (dk_at dksL_law_48 2 rfl rfl)
theorem dL_law_1246 : decode cL_law 1246 = .ok (.iconst 0, 1) := dk_3 (dk_at dksL_law_48 5 rfl rfl)
theorem dL_law_1247 : decode cL_law 1247 = .ok (.ireturn, 1) := dk_172 (dk_at dksL_law_48 6 rfl rfl)
theorem dL_law_1248 : decode cL_law 1248 = .ok (.iload 6, 2) := dk_21 6 (dk_at dksL_law_48 7 rfl rfl)
theorem dL_law_1250 : decode cL_law 1250 = .ok (.ifCond .ne 15, 3) := dk_154 0 15 (dk_at dksL_law_48 9 rfl rfl)
theorem dL_law_1253 : decode cL_law 1253 = .ok (.aload_n 3, 1) := dk_45 (dk_at dksL_law_48 12 rfl rfl)
theorem dL_law_1254 : decode cL_law 1254 = .ok (.iconst 0, 1) := dk_3 (dk_at dksL_law_48 13 rfl rfl)
theorem dL_law_1255 : decode cL_law 1255 = .ok (.laload, 1) := dk_47 (dk_at dksL_law_48 14 rfl rfl)
theorem dL_law_1256 : decode cL_law 1256 = .ok (.iload 7, 2) := dk_21 7 (dk_at dksL_law_48 15 rfl rfl)
theorem dL_law_1258 : decode cL_law 1258 = .ok (.i2l, 1) := dk_133 (dk_at dksL_law_48 17 rfl rfl)
theorem dL_law_1259 : decode cL_law 1259 = .ok (.lcmp, 1) := dk_148 (dk_at dksL_law_48 18 rfl rfl)
theorem dL_law_1260 : decode cL_law 1260 = .ok (.ifCond .eq 5, 3) := dk_153 0 5 (dk_at dksL_law_48 19 rfl rfl)
theorem dL_law_1263 : decode cL_law 1263 = .ok (.iconst 0, 1) := dk_3 (dk_at dksL_law_48 22 rfl rfl)
theorem dL_law_1264 : decode cL_law 1264 = .ok (.ireturn, 1) := dk_172 (dk_at dksL_law_48 23 rfl rfl)
theorem dL_law_1265 : decode cL_law 1265 = .ok (.goto 957, 3) := dk_167 3 189 (dk_at dksL_law_49 0 rfl rfl)
theorem dL_law_1268 : decode cL_law 1268 = .ok (.aload_n 1, 1) := dk_43 (dk_at dksL_law_49 3 rfl rfl)
theorem dL_law_1269 : decode cL_law 1269 = .ok (.aload_n 0, 1) := dk_42 (dk_at dksL_law_49 4 rfl rfl)
theorem dL_law_1270 : decode cL_law 1270 = .ok (.iload 5, 2) := dk_21 5 (dk_at dksL_law_49 5 rfl rfl)
theorem dL_law_1272 : decode cL_law 1272 = .ok (.iconst 1, 1) := dk_4 (dk_at dksL_law_49 7 rfl rfl)
theorem dL_law_1273 : decode cL_law 1273 = .ok (.iadd, 1) := dk_96 (dk_at dksL_law_49 8 rfl rfl)
theorem dL_law_1274 : decode cL_law 1274 = .ok (.iaload, 1) := dk_46 (dk_at dksL_law_49 9 rfl rfl)
theorem dL_law_1275 : decode cL_law 1275 = .ok (.aload_n 3, 1) := dk_45 (dk_at dksL_law_49 10 rfl rfl)
theorem dL_law_1276 : decode cL_law 1276 = .ok (.invokestatic 184, 3) := dk_184 0 184 (dk_at dksL_law_49 11 rfl rfl)
theorem dL_law_1279 : decode cL_law 1279 = .ok (.istore 6, 2) := dk_54 6 (dk_at dksL_law_49 14 rfl rfl)
theorem dL_law_1281 : decode cL_law 1281 = .ok (.aload_n 2, 1) := dk_44 (dk_at dksL_law_49 16 rfl rfl)
theorem dL_law_1282 : decode cL_law 1282 = .ok (.aload_n 0, 1) := dk_42 (dk_at dksL_law_49 17 rfl rfl)
theorem dL_law_1283 : decode cL_law 1283 = .ok (.iload 5, 2) := dk_21 5 (dk_at dksL_law_49 18 rfl rfl)
theorem dL_law_1285 : decode cL_law 1285 = .ok (.iconst 1, 1) := dk_4 (dk_at dksL_law_49 20 rfl rfl)
theorem dL_law_1286 : decode cL_law 1286 = .ok (.iadd, 1) := dk_96 (dk_at dksL_law_49 21 rfl rfl)
theorem dL_law_1287 : decode cL_law 1287 = .ok (.iaload, 1) := dk_46 (dk_at dksL_law_49 22 rfl rfl)
theorem dL_law_1288 : decode cL_law 1288 = .ok (.invokevirtual 186, 3) := dk_182 0 186 (dk_at dksL_law_50 0 rfl rfl)
theorem dL_law_1291 : decode cL_law 1291 = .ok (.istore 7, 2) := dk_54 7 (dk_at dksL_law_50 3 rfl rfl)
theorem dL_law_1293 : decode cL_law 1293 = .ok (.aload_n 2, 1) := dk_44 (dk_at dksL_law_50 5 rfl rfl)
theorem dL_law_1294 : decode cL_law 1294 = .ok (.invokevirtual 135, 3) := dk_182 0 135 (dk_at dksL_law_50 6 rfl rfl)
theorem dL_law_1297 : decode cL_law 1297 = .ok (.iload 6, 2) := dk_21 6 (dk_at dksL_law_50 9 rfl rfl)
theorem dL_law_1299 : decode cL_law 1299 = .ok (.if_icmp .eq 5, 3) := dk_159 0 5 (dk_at dksL_law_50 11 rfl rfl)
theorem dL_law_1302 : decode cL_law 1302 = .ok (.iconst 0, 1) := dk_3 (dk_at dksL_law_50 14 rfl rfl)
theorem dL_law_1303 : decode cL_law 1303 = .ok (.ireturn, 1) := dk_172 (dk_at dksL_law_50 15 rfl rfl)
theorem dL_law_1304 : decode cL_law 1304 = .ok (.iload 6, 2) := dk_21 6 (dk_at dksL_law_50 16 rfl rfl)
theorem dL_law_1306 : decode cL_law 1306 = .ok (.ifCond .ne 22, 3) := dk_154 0 22 (dk_at dksL_law_50 18 rfl rfl)
theorem dL_law_1309 : decode cL_law 1309 = .ok (.aload_n 3, 1) := dk_45 (dk_at dksL_law_50 21 rfl rfl)
theorem dL_law_1310 : decode cL_law 1310 = .ok (.iconst 0, 1) := dk_3 (dk_at dksL_law_50 22 rfl rfl)
theorem dL_law_1311 : decode cL_law 1311 = .ok (.laload, 1) := dk_47 (dk_at dksL_law_50 23 rfl rfl)
theorem dL_law_1312 : decode cL_law 1312 = .ok (.iload 7, 2) := dk_21 7 (dk_at dksL_law_51 0 rfl rfl)
theorem dL_law_1314 : decode cL_law 1314 = .ok (.ifCond .eq 7, 3) := dk_153 0 7 (dk_at dksL_law_51 2 rfl rfl)
theorem dL_law_1317 : decode cL_law 1317 = .ok (.lconst 1, 1) := dk_10 (dk_at dksL_law_51 5 rfl rfl)
theorem dL_law_1318 : decode cL_law 1318 = .ok (.goto 4, 3) := dk_167 0 4 (dk_at dksL_law_51 6 rfl rfl)
theorem dL_law_1321 : decode cL_law 1321 = .ok (.lconst 0, 1) := dk_9 (dk_at dksL_law_51 9 rfl rfl)
theorem dL_law_1322 : decode cL_law 1322 = .ok (.lcmp, 1) := dk_148 (dk_at dksL_law_51 10 rfl rfl)
theorem dL_law_1323 : decode cL_law 1323 = .ok (.ifCond .eq 5, 3) := dk_153 0 5 (dk_at dksL_law_51 11 rfl rfl)
theorem dL_law_1326 : decode cL_law 1326 = .ok (.iconst 0, 1) := dk_3 (dk_at dksL_law_51 14 rfl rfl)
theorem dL_law_1327 : decode cL_law 1327 = .ok (.ireturn, 1) := dk_172 (dk_at dksL_law_51 15 rfl rfl)
theorem dL_law_1328 : decode cL_law 1328 = .ok (.goto 894, 3) := dk_167 3 126 (dk_at dksL_law_51 16 rfl rfl)
theorem dL_law_1331 : decode cL_law 1331 = .ok (.aload_n 1, 1) := dk_43 (dk_at dksL_law_51 19 rfl rfl)
theorem dL_law_1332 : decode cL_law 1332 = .ok (.aload_n 0, 1) := dk_42 (dk_at dksL_law_51 20 rfl rfl)
theorem dL_law_1333 : decode cL_law 1333 = .ok (.iload 5, 2) := dk_21 5 (dk_at dksL_law_51 21 rfl rfl)
theorem dL_law_1335 : decode cL_law 1335 = .ok (.iconst 1, 1) := dk_4 (dk_at dksL_law_51 23 rfl rfl)
theorem dL_law_1336 : decode cL_law 1336 = .ok (.iadd, 1) := dk_96 (dk_at dksL_law_52 0 rfl rfl)
theorem dL_law_1337 : decode cL_law 1337 = .ok (.iaload, 1) := dk_46 (dk_at dksL_law_52 1 rfl rfl)
theorem dL_law_1338 : decode cL_law 1338 = .ok (.aload_n 3, 1) := dk_45 (dk_at dksL_law_52 2 rfl rfl)
theorem dL_law_1339 : decode cL_law 1339 = .ok (.invokestatic 187, 3) := dk_184 0 187 (dk_at dksL_law_52 3 rfl rfl)
theorem dL_law_1342 : decode cL_law 1342 = .ok (.istore 6, 2) := dk_54 6 (dk_at dksL_law_52 6 rfl rfl)
theorem dL_law_1344 : decode cL_law 1344 = .ok (.aload_n 2, 1) := dk_44 (dk_at dksL_law_52 8 rfl rfl)
theorem dL_law_1345 : decode cL_law 1345 = .ok (.aload_n 0, 1) := dk_42 (dk_at dksL_law_52 9 rfl rfl)
theorem dL_law_1346 : decode cL_law 1346 = .ok (.iload 5, 2) := dk_21 5 (dk_at dksL_law_52 10 rfl rfl)
theorem dL_law_1348 : decode cL_law 1348 = .ok (.iconst 1, 1) := dk_4 (dk_at dksL_law_52 12 rfl rfl)
theorem dL_law_1349 : decode cL_law 1349 = .ok (.iadd, 1) := dk_96 (dk_at dksL_law_52 13 rfl rfl)
theorem dL_law_1350 : decode cL_law 1350 = .ok (.iaload, 1) := dk_46 (dk_at dksL_law_52 14 rfl rfl)
theorem dL_law_1351 : decode cL_law 1351 = .ok (.invokevirtual 189, 3) := dk_182 0 189 (dk_at dksL_law_52 15 rfl rfl)
theorem dL_law_1354 : decode cL_law 1354 = .ok (.istore 7, 2) := dk_54 7 (dk_at dksL_law_52 18 rfl rfl)
theorem dL_law_1356 : decode cL_law 1356 = .ok (.aload_n 2, 1) := dk_44 (dk_at dksL_law_52 20 rfl rfl)
theorem dL_law_1357 : decode cL_law 1357 = .ok (.invokevirtual 135, 3) := dk_182 0 135 (dk_at dksL_law_52 21 rfl rfl)
theorem dL_law_1360 : decode cL_law 1360 = .ok (.iload 6, 2) := dk_21 6 (dk_at dksL_law_53 0 rfl rfl)
theorem dL_law_1362 : decode cL_law 1362 = .ok (.if_icmp .eq 5, 3) := dk_159 0 5 (dk_at dksL_law_53 2 rfl rfl)
theorem dL_law_1365 : decode cL_law 1365 = .ok (.iconst 0, 1) := dk_3 (dk_at dksL_law_53 5 rfl rfl)
theorem dL_law_1366 : decode cL_law 1366 = .ok (.ireturn, 1) := dk_172 (dk_at dksL_law_53 6 rfl rfl)
theorem dL_law_1367 : decode cL_law 1367 = .ok (.iload 6, 2) := dk_21 6 (dk_at dksL_law_53 7 rfl rfl)
theorem dL_law_1369 : decode cL_law 1369 = .ok (.ifCond .ne 15, 3) := dk_154 0 15 (dk_at dksL_law_53 9 rfl rfl)
theorem dL_law_1372 : decode cL_law 1372 = .ok (.aload_n 3, 1) := dk_45 (dk_at dksL_law_53 12 rfl rfl)
theorem dL_law_1373 : decode cL_law 1373 = .ok (.iconst 0, 1) := dk_3 (dk_at dksL_law_53 13 rfl rfl)
theorem dL_law_1374 : decode cL_law 1374 = .ok (.laload, 1) := dk_47 (dk_at dksL_law_53 14 rfl rfl)
theorem dL_law_1375 : decode cL_law 1375 = .ok (.iload 7, 2) := dk_21 7 (dk_at dksL_law_53 15 rfl rfl)
theorem dL_law_1377 : decode cL_law 1377 = .ok (.i2l, 1) := dk_133 (dk_at dksL_law_53 17 rfl rfl)
theorem dL_law_1378 : decode cL_law 1378 = .ok (.lcmp, 1) := dk_148 (dk_at dksL_law_53 18 rfl rfl)
theorem dL_law_1379 : decode cL_law 1379 = .ok (.ifCond .eq 5, 3) := dk_153 0 5 (dk_at dksL_law_53 19 rfl rfl)
theorem dL_law_1382 : decode cL_law 1382 = .ok (.iconst 0, 1) := dk_3 (dk_at dksL_law_53 22 rfl rfl)
theorem dL_law_1383 : decode cL_law 1383 = .ok (.ireturn, 1) := dk_172 (dk_at dksL_law_53 23 rfl rfl)
theorem dL_law_1384 : decode cL_law 1384 = .ok (.goto 838, 3) := dk_167 3 70 (dk_at dksL_law_54 0 rfl rfl)
theorem dL_law_1387 : decode cL_law 1387 = .ok (.aload_n 1, 1) := dk_43 (dk_at dksL_law_54 3 rfl rfl)
theorem dL_law_1388 : decode cL_law 1388 = .ok (.aload_n 0, 1) := dk_42 (dk_at dksL_law_54 4 rfl rfl)
theorem dL_law_1389 : decode cL_law 1389 = .ok (.iload 5, 2) := dk_21 5 (dk_at dksL_law_54 5 rfl rfl)
theorem dL_law_1391 : decode cL_law 1391 = .ok (.iconst 1, 1) := dk_4 (dk_at dksL_law_54 7 rfl rfl)
theorem dL_law_1392 : decode cL_law 1392 = .ok (.iadd, 1) := dk_96 (dk_at dksL_law_54 8 rfl rfl)
theorem dL_law_1393 : decode cL_law 1393 = .ok (.iaload, 1) := dk_46 (dk_at dksL_law_54 9 rfl rfl)
theorem dL_law_1394 : decode cL_law 1394 = .ok (.aload_n 3, 1) := dk_45 (dk_at dksL_law_54 10 rfl rfl)
theorem dL_law_1395 : decode cL_law 1395 = .ok (.invokestatic 190, 3) := dk_184 0 190 (dk_at dksL_law_54 11 rfl rfl)
theorem dL_law_1398 : decode cL_law 1398 = .ok (.istore 6, 2) := dk_54 6 (dk_at dksL_law_54 14 rfl rfl)
theorem dL_law_1400 : decode cL_law 1400 = .ok (.aload_n 2, 1) := dk_44 (dk_at dksL_law_54 16 rfl rfl)
theorem dL_law_1401 : decode cL_law 1401 = .ok (.aload_n 0, 1) := dk_42 (dk_at dksL_law_54 17 rfl rfl)
theorem dL_law_1402 : decode cL_law 1402 = .ok (.iload 5, 2) := dk_21 5 (dk_at dksL_law_54 18 rfl rfl)
theorem dL_law_1404 : decode cL_law 1404 = .ok (.iconst 1, 1) := dk_4 (dk_at dksL_law_54 20 rfl rfl)
theorem dL_law_1405 : decode cL_law 1405 = .ok (.iadd, 1) := dk_96 (dk_at dksL_law_54 21 rfl rfl)
theorem dL_law_1406 : decode cL_law 1406 = .ok (.iaload, 1) := dk_46 (dk_at dksL_law_54 22 rfl rfl)
theorem dL_law_1407 : decode cL_law 1407 = .ok (.invokevirtual 192, 3) := dk_182 0 192 (dk_at dksL_law_55 0 rfl rfl)
theorem dL_law_1410 : decode cL_law 1410 = .ok (.istore 7, 2) := dk_54 7 (dk_at dksL_law_55 3 rfl rfl)
theorem dL_law_1412 : decode cL_law 1412 = .ok (.aload_n 2, 1) := dk_44 (dk_at dksL_law_55 5 rfl rfl)
theorem dL_law_1413 : decode cL_law 1413 = .ok (.invokevirtual 135, 3) := dk_182 0 135 (dk_at dksL_law_55 6 rfl rfl)
theorem dL_law_1416 : decode cL_law 1416 = .ok (.iload 6, 2) := dk_21 6 (dk_at dksL_law_55 9 rfl rfl)
theorem dL_law_1418 : decode cL_law 1418 = .ok (.if_icmp .eq 5, 3) := dk_159 0 5 (dk_at dksL_law_55 11 rfl rfl)
theorem dL_law_1421 : decode cL_law 1421 = .ok (.iconst 0, 1) := dk_3 (dk_at dksL_law_55 14 rfl rfl)
theorem dL_law_1422 : decode cL_law 1422 = .ok (.ireturn, 1) := dk_172 (dk_at dksL_law_55 15 rfl rfl)
theorem dL_law_1423 : decode cL_law 1423 = .ok (.iload 6, 2) := dk_21 6 (dk_at dksL_law_55 16 rfl rfl)
theorem dL_law_1425 : decode cL_law 1425 = .ok (.ifCond .ne 15, 3) := dk_154 0 15 (dk_at dksL_law_55 18 rfl rfl)
theorem dL_law_1428 : decode cL_law 1428 = .ok (.aload_n 3, 1) := dk_45 (dk_at dksL_law_55 21 rfl rfl)
theorem dL_law_1429 : decode cL_law 1429 = .ok (.iconst 0, 1) := dk_3 (dk_at dksL_law_55 22 rfl rfl)
theorem dL_law_1430 : decode cL_law 1430 = .ok (.laload, 1) := dk_47 (dk_at dksL_law_55 23 rfl rfl)
theorem dL_law_1431 : decode cL_law 1431 = .ok (.iload 7, 2) := dk_21 7 (dk_at dksL_law_56 0 rfl rfl)
theorem dL_law_1433 : decode cL_law 1433 = .ok (.i2l, 1) := dk_133 (dk_at dksL_law_56 2 rfl rfl)
theorem dL_law_1434 : decode cL_law 1434 = .ok (.lcmp, 1) := dk_148 (dk_at dksL_law_56 3 rfl rfl)
theorem dL_law_1435 : decode cL_law 1435 = .ok (.ifCond .eq 5, 3) := dk_153 0 5 (dk_at dksL_law_56 4 rfl rfl)
theorem dL_law_1438 : decode cL_law 1438 = .ok (.iconst 0, 1) := dk_3 (dk_at dksL_law_56 7 rfl rfl)
theorem dL_law_1439 : decode cL_law 1439 = .ok (.ireturn, 1) := dk_172 (dk_at dksL_law_56 8 rfl rfl)
theorem dL_law_1440 : decode cL_law 1440 = .ok (.goto 782, 3) := dk_167 3 14 (dk_at dksL_law_56 9 rfl rfl)
theorem dL_law_1443 : decode cL_law 1443 = .ok (.aload_n 1, 1) := dk_43 (dk_at dksL_law_56 12 rfl rfl)
theorem dL_law_1444 : decode cL_law 1444 = .ok (.aload_n 0, 1) := dk_42 (dk_at dksL_law_56 13 rfl rfl)
theorem dL_law_1445 : decode cL_law 1445 = .ok (.iload 5, 2) := dk_21 5 (dk_at dksL_law_56 14 rfl rfl)
theorem dL_law_1447 : decode cL_law 1447 = .ok (.iconst 1, 1) := dk_4 (dk_at dksL_law_56 16 rfl rfl)
theorem dL_law_1448 : decode cL_law 1448 = .ok (.iadd, 1) := dk_96 (dk_at dksL_law_56 17 rfl rfl)
theorem dL_law_1449 : decode cL_law 1449 = .ok (.iaload, 1) := dk_46 (dk_at dksL_law_56 18 rfl rfl)
theorem dL_law_1450 : decode cL_law 1450 = .ok (.aload_n 0, 1) := dk_42 (dk_at dksL_law_56 19 rfl rfl)
theorem dL_law_1451 : decode cL_law 1451 = .ok (.iload 5, 2) := dk_21 5 (dk_at dksL_law_56 20 rfl rfl)
theorem dL_law_1453 : decode cL_law 1453 = .ok (.iconst 2, 1) := dk_5 (dk_at dksL_law_56 22 rfl rfl)
theorem dL_law_1454 : decode cL_law 1454 = .ok (.iadd, 1) := dk_96 (dk_at dksL_law_56 23 rfl rfl)
theorem dL_law_1455 : decode cL_law 1455 = .ok (.iaload, 1) := dk_46 (dk_at dksL_law_57 0 rfl rfl)
theorem dL_law_1456 : decode cL_law 1456 = .ok (.aload_n 3, 1) := dk_45 (dk_at dksL_law_57 1 rfl rfl)
theorem dL_law_1457 : decode cL_law 1457 = .ok (.invokestatic 193, 3) := dk_184 0 193 (dk_at dksL_law_57 2 rfl rfl)
theorem dL_law_1460 : decode cL_law 1460 = .ok (.istore 6, 2) := dk_54 6 (dk_at dksL_law_57 5 rfl rfl)
theorem dL_law_1462 : decode cL_law 1462 = .ok (.aload_n 2, 1) := dk_44 (dk_at dksL_law_57 7 rfl rfl)
theorem dL_law_1463 : decode cL_law 1463 = .ok (.aload_n 0, 1) := dk_42 (dk_at dksL_law_57 8 rfl rfl)
theorem dL_law_1464 : decode cL_law 1464 = .ok (.iload 5, 2) := dk_21 5 (dk_at dksL_law_57 9 rfl rfl)
theorem dL_law_1466 : decode cL_law 1466 = .ok (.iconst 1, 1) := dk_4 (dk_at dksL_law_57 11 rfl rfl)
theorem dL_law_1467 : decode cL_law 1467 = .ok (.iadd, 1) := dk_96 (dk_at dksL_law_57 12 rfl rfl)
theorem dL_law_1468 : decode cL_law 1468 = .ok (.iaload, 1) := dk_46 (dk_at dksL_law_57 13 rfl rfl)
theorem dL_law_1469 : decode cL_law 1469 = .ok (.aload_n 0, 1) := dk_42 (dk_at dksL_law_57 14 rfl rfl)
theorem dL_law_1470 : decode cL_law 1470 = .ok (.iload 5, 2) := dk_21 5 (dk_at dksL_law_57 15 rfl rfl)
theorem dL_law_1472 : decode cL_law 1472 = .ok (.iconst 2, 1) := dk_5 (dk_at dksL_law_57 17 rfl rfl)
theorem dL_law_1473 : decode cL_law 1473 = .ok (.iadd, 1) := dk_96 (dk_at dksL_law_57 18 rfl rfl)
theorem dL_law_1474 : decode cL_law 1474 = .ok (.iaload, 1) := dk_46 (dk_at dksL_law_57 19 rfl rfl)
theorem dL_law_1475 : decode cL_law 1475 = .ok (.invokevirtual 195, 3) := dk_182 0 195 (dk_at dksL_law_57 20 rfl rfl)
theorem dL_law_1478 : decode cL_law 1478 = .ok (.istore 7, 2) := dk_54 7 (dk_at dksL_law_58 0 rfl rfl)
theorem dL_law_1480 : decode cL_law 1480 = .ok (.aload_n 2, 1) := dk_44 (dk_at dksL_law_58 2 rfl rfl)
theorem dL_law_1481 : decode cL_law 1481 = .ok (.invokevirtual 135, 3) := dk_182 0 135 (dk_at dksL_law_58 3 rfl rfl)
theorem dL_law_1484 : decode cL_law 1484 = .ok (.iload 6, 2) := dk_21 6 (dk_at dksL_law_58 6 rfl rfl)
theorem dL_law_1486 : decode cL_law 1486 = .ok (.if_icmp .eq 5, 3) := dk_159 0 5 (dk_at dksL_law_58 8 rfl rfl)
theorem dL_law_1489 : decode cL_law 1489 = .ok (.iconst 0, 1) := dk_3 (dk_at dksL_law_58 11 rfl rfl)
theorem dL_law_1490 : decode cL_law 1490 = .ok (.ireturn, 1) := dk_172 (dk_at dksL_law_58 12 rfl rfl)
theorem dL_law_1491 : decode cL_law 1491 = .ok (.iload 6, 2) := dk_21 6 (dk_at dksL_law_58 13 rfl rfl)
theorem dL_law_1493 : decode cL_law 1493 = .ok (.ifCond .ne 15, 3) := dk_154 0 15 (dk_at dksL_law_58 15 rfl rfl)
theorem dL_law_1496 : decode cL_law 1496 = .ok (.aload_n 3, 1) := dk_45 (dk_at dksL_law_58 18 rfl rfl)
theorem dL_law_1497 : decode cL_law 1497 = .ok (.iconst 0, 1) := dk_3 (dk_at dksL_law_58 19 rfl rfl)
theorem dL_law_1498 : decode cL_law 1498 = .ok (.laload, 1) := dk_47 (dk_at dksL_law_58 20 rfl rfl)
theorem dL_law_1499 : decode cL_law 1499 = .ok (.iload 7, 2) := dk_21 7 (dk_at dksL_law_58 21 rfl rfl)
theorem dL_law_1501 : decode cL_law 1501 = .ok (.i2l, 1) := dk_133 (dk_at dksL_law_58 23 rfl rfl)
theorem dL_law_1502 : decode cL_law 1502 = .ok (.lcmp, 1) := dk_148 (dk_at dksL_law_59 0 rfl rfl)
theorem dL_law_1503 : decode cL_law 1503 = .ok (.ifCond .eq 5, 3) := dk_153 0 5 (dk_at dksL_law_59 1 rfl rfl)
theorem dL_law_1506 : decode cL_law 1506 = .ok (.iconst 0, 1) := dk_3 (dk_at dksL_law_59 4 rfl rfl)
theorem dL_law_1507 : decode cL_law 1507 = .ok (.ireturn, 1) := dk_172 (dk_at dksL_law_59 5 rfl rfl)
theorem dL_law_1508 : decode cL_law 1508 = .ok (.goto 714, 3) := dk_167 2 202 (dk_at dksL_law_59 6 rfl rfl)
theorem dL_law_1511 : decode cL_law 1511 = .ok (.aload_n 1, 1) := dk_43 (dk_at dksL_law_59 9 rfl rfl)
theorem dL_law_1512 : decode cL_law 1512 = .ok (.aload_n 0, 1) := dk_42 (dk_at dksL_law_59 10 rfl rfl)
theorem dL_law_1513 : decode cL_law 1513 = .ok (.iload 5, 2) := dk_21 5 (dk_at dksL_law_59 11 rfl rfl)
theorem dL_law_1515 : decode cL_law 1515 = .ok (.iconst 1, 1) := dk_4 (dk_at dksL_law_59 13 rfl rfl)
theorem dL_law_1516 : decode cL_law 1516 = .ok (.iadd, 1) := dk_96 (dk_at dksL_law_59 14 rfl rfl)
theorem dL_law_1517 : decode cL_law 1517 = .ok (.iaload, 1) := dk_46 (dk_at dksL_law_59 15 rfl rfl)
theorem dL_law_1518 : decode cL_law 1518 = .ok (.aload_n 0, 1) := dk_42 (dk_at dksL_law_59 16 rfl rfl)
theorem dL_law_1519 : decode cL_law 1519 = .ok (.iload 5, 2) := dk_21 5 (dk_at dksL_law_59 17 rfl rfl)
theorem dL_law_1521 : decode cL_law 1521 = .ok (.iconst 2, 1) := dk_5 (dk_at dksL_law_59 19 rfl rfl)
theorem dL_law_1522 : decode cL_law 1522 = .ok (.iadd, 1) := dk_96 (dk_at dksL_law_59 20 rfl rfl)
theorem dL_law_1523 : decode cL_law 1523 = .ok (.iaload, 1) := dk_46 (dk_at dksL_law_59 21 rfl rfl)
theorem dL_law_1524 : decode cL_law 1524 = .ok (.aload_n 3, 1) := dk_45 (dk_at dksL_law_59 22 rfl rfl)
theorem dL_law_1525 : decode cL_law 1525 = .ok (.invokestatic 196, 3) := dk_184 0 196 (dk_at dksL_law_60 0 rfl rfl)
theorem dL_law_1528 : decode cL_law 1528 = .ok (.istore 6, 2) := dk_54 6 (dk_at dksL_law_60 3 rfl rfl)
theorem dL_law_1530 : decode cL_law 1530 = .ok (.aload_n 2, 1) := dk_44 (dk_at dksL_law_60 5 rfl rfl)
theorem dL_law_1531 : decode cL_law 1531 = .ok (.aload_n 0, 1) := dk_42 (dk_at dksL_law_60 6 rfl rfl)
theorem dL_law_1532 : decode cL_law 1532 = .ok (.iload 5, 2) := dk_21 5 (dk_at dksL_law_60 7 rfl rfl)
theorem dL_law_1534 : decode cL_law 1534 = .ok (.iconst 1, 1) := dk_4 (dk_at dksL_law_60 9 rfl rfl)
theorem dL_law_1535 : decode cL_law 1535 = .ok (.iadd, 1) := dk_96 (dk_at dksL_law_60 10 rfl rfl)
theorem dL_law_1536 : decode cL_law 1536 = .ok (.iaload, 1) := dk_46 (dk_at dksL_law_60 11 rfl rfl)
theorem dL_law_1537 : decode cL_law 1537 = .ok (.aload_n 0, 1) := dk_42 (dk_at dksL_law_60 12 rfl rfl)
theorem dL_law_1538 : decode cL_law 1538 = .ok (.iload 5, 2) := dk_21 5 (dk_at dksL_law_60 13 rfl rfl)
theorem dL_law_1540 : decode cL_law 1540 = .ok (.iconst 2, 1) := dk_5 (dk_at dksL_law_60 15 rfl rfl)
theorem dL_law_1541 : decode cL_law 1541 = .ok (.iadd, 1) := dk_96 (dk_at dksL_law_60 16 rfl rfl)
theorem dL_law_1542 : decode cL_law 1542 = .ok (.iaload, 1) := dk_46 (dk_at dksL_law_60 17 rfl rfl)
theorem dL_law_1543 : decode cL_law 1543 = .ok (.invokevirtual 198, 3) := dk_182 0 198 (dk_at dksL_law_60 18 rfl rfl)
theorem dL_law_1546 : decode cL_law 1546 = .ok (.istore 7, 2) := dk_54 7 (dk_at dksL_law_60 21 rfl rfl)
theorem dL_law_1548 : decode cL_law 1548 = .ok (.aload_n 2, 1) := dk_44 (dk_at dksL_law_60 23 rfl rfl)
theorem dL_law_1549 : decode cL_law 1549 = .ok (.invokevirtual 135, 3) := dk_182 0 135 (dk_at dksL_law_61 0 rfl rfl)
theorem dL_law_1552 : decode cL_law 1552 = .ok (.iload 6, 2) := dk_21 6 (dk_at dksL_law_61 3 rfl rfl)
theorem dL_law_1554 : decode cL_law 1554 = .ok (.if_icmp .eq 5, 3) := dk_159 0 5 (dk_at dksL_law_61 5 rfl rfl)
theorem dL_law_1557 : decode cL_law 1557 = .ok (.iconst 0, 1) := dk_3 (dk_at dksL_law_61 8 rfl rfl)
theorem dL_law_1558 : decode cL_law 1558 = .ok (.ireturn, 1) := dk_172 (dk_at dksL_law_61 9 rfl rfl)
theorem dL_law_1559 : decode cL_law 1559 = .ok (.iload 6, 2) := dk_21 6 (dk_at dksL_law_61 10 rfl rfl)
theorem dL_law_1561 : decode cL_law 1561 = .ok (.ifCond .ne 15, 3) := dk_154 0 15 (dk_at dksL_law_61 12 rfl rfl)
theorem dL_law_1564 : decode cL_law 1564 = .ok (.aload_n 3, 1) := dk_45 (dk_at dksL_law_61 15 rfl rfl)
theorem dL_law_1565 : decode cL_law 1565 = .ok (.iconst 0, 1) := dk_3 (dk_at dksL_law_61 16 rfl rfl)
theorem dL_law_1566 : decode cL_law 1566 = .ok (.laload, 1) := dk_47 (dk_at dksL_law_61 17 rfl rfl)
theorem dL_law_1567 : decode cL_law 1567 = .ok (.iload 7, 2) := dk_21 7 (dk_at dksL_law_61 18 rfl rfl)
theorem dL_law_1569 : decode cL_law 1569 = .ok (.i2l, 1) := dk_133 (dk_at dksL_law_61 20 rfl rfl)
theorem dL_law_1570 : decode cL_law 1570 = .ok (.lcmp, 1) := dk_148 (dk_at dksL_law_61 21 rfl rfl)
theorem dL_law_1571 : decode cL_law 1571 = .ok (.ifCond .eq 5, 3) := dk_153 0 5 (dk_at dksL_law_62 0 rfl rfl)
theorem dL_law_1574 : decode cL_law 1574 = .ok (.iconst 0, 1) := dk_3 (dk_at dksL_law_62 3 rfl rfl)
theorem dL_law_1575 : decode cL_law 1575 = .ok (.ireturn, 1) := dk_172 (dk_at dksL_law_62 4 rfl rfl)
theorem dL_law_1576 : decode cL_law 1576 = .ok (.goto 646, 3) := dk_167 2 134 (dk_at dksL_law_62 5 rfl rfl)
theorem dL_law_1579 : decode cL_law 1579 = .ok (.aload_n 1, 1) := dk_43 (dk_at dksL_law_62 8 rfl rfl)
theorem dL_law_1580 : decode cL_law 1580 = .ok (.aload_n 0, 1) := dk_42 (dk_at dksL_law_62 9 rfl rfl)
theorem dL_law_1581 : decode cL_law 1581 = .ok (.iload 5, 2) := dk_21 5 (dk_at dksL_law_62 10 rfl rfl)
theorem dL_law_1583 : decode cL_law 1583 = .ok (.iconst 1, 1) := dk_4 (dk_at dksL_law_62 12 rfl rfl)
theorem dL_law_1584 : decode cL_law 1584 = .ok (.iadd, 1) := dk_96 (dk_at dksL_law_62 13 rfl rfl)
theorem dL_law_1585 : decode cL_law 1585 = .ok (.iaload, 1) := dk_46 (dk_at dksL_law_62 14 rfl rfl)
theorem dL_law_1586 : decode cL_law 1586 = .ok (.aload_n 3, 1) := dk_45 (dk_at dksL_law_62 15 rfl rfl)
theorem dL_law_1587 : decode cL_law 1587 = .ok (.invokestatic 199, 3) := dk_184 0 199 (dk_at dksL_law_62 16 rfl rfl)
theorem dL_law_1590 : decode cL_law 1590 = .ok (.istore 6, 2) := dk_54 6 (dk_at dksL_law_62 19 rfl rfl)
theorem dL_law_1592 : decode cL_law 1592 = .ok (.aload_n 2, 1) := dk_44 (dk_at dksL_law_62 21 rfl rfl)
theorem dL_law_1593 : decode cL_law 1593 = .ok (.aload_n 0, 1) := dk_42 (dk_at dksL_law_62 22 rfl rfl)
theorem dL_law_1594 : decode cL_law 1594 = .ok (.iload 5, 2) := dk_21 5 (dk_at dksL_law_63 0 rfl rfl)
theorem dL_law_1596 : decode cL_law 1596 = .ok (.iconst 1, 1) := dk_4 (dk_at dksL_law_63 2 rfl rfl)
theorem dL_law_1597 : decode cL_law 1597 = .ok (.iadd, 1) := dk_96 (dk_at dksL_law_63 3 rfl rfl)
theorem dL_law_1598 : decode cL_law 1598 = .ok (.iaload, 1) := dk_46 (dk_at dksL_law_63 4 rfl rfl)
theorem dL_law_1599 : decode cL_law 1599 = .ok (.invokevirtual 201, 3) := dk_182 0 201 (dk_at dksL_law_63 5 rfl rfl)
theorem dL_law_1602 : decode cL_law 1602 = .ok (.istore 7, 2) := dk_54 7 (dk_at dksL_law_63 8 rfl rfl)
theorem dL_law_1604 : decode cL_law 1604 = .ok (.aload_n 2, 1) := dk_44 (dk_at dksL_law_63 10 rfl rfl)
theorem dL_law_1605 : decode cL_law 1605 = .ok (.invokevirtual 135, 3) := dk_182 0 135 (dk_at dksL_law_63 11 rfl rfl)
theorem dL_law_1608 : decode cL_law 1608 = .ok (.iload 6, 2) := dk_21 6 (dk_at dksL_law_63 14 rfl rfl)
theorem dL_law_1610 : decode cL_law 1610 = .ok (.if_icmp .eq 5, 3) := dk_159 0 5 (dk_at dksL_law_63 16 rfl rfl)
theorem dL_law_1613 : decode cL_law 1613 = .ok (.iconst 0, 1) := dk_3 (dk_at dksL_law_63 19 rfl rfl)
theorem dL_law_1614 : decode cL_law 1614 = .ok (.ireturn, 1) := dk_172 (dk_at dksL_law_63 20 rfl rfl)
theorem dL_law_1615 : decode cL_law 1615 = .ok (.iload 6, 2) := dk_21 6 (dk_at dksL_law_63 21 rfl rfl)
theorem dL_law_1617 : decode cL_law 1617 = .ok (.ifCond .ne 15, 3) := dk_154 0 15 (dk_at dksL_law_64 0 rfl rfl)
theorem dL_law_1620 : decode cL_law 1620 = .ok (.aload_n 3, 1) := dk_45 (dk_at dksL_law_64 3 rfl rfl)
theorem dL_law_1621 : decode cL_law 1621 = .ok (.iconst 0, 1) := dk_3 (dk_at dksL_law_64 4 rfl rfl)
theorem dL_law_1622 : decode cL_law 1622 = .ok (.laload, 1) := dk_47 (dk_at dksL_law_64 5 rfl rfl)
theorem dL_law_1623 : decode cL_law 1623 = .ok (.iload 7, 2) := dk_21 7 (dk_at dksL_law_64 6 rfl rfl)
theorem dL_law_1625 : decode cL_law 1625 = .ok (.i2l, 1) := dk_133 (dk_at dksL_law_64 8 rfl rfl)
theorem dL_law_1626 : decode cL_law 1626 = .ok (.lcmp, 1) := dk_148 (dk_at dksL_law_64 9 rfl rfl)
theorem dL_law_1627 : decode cL_law 1627 = .ok (.ifCond .eq 5, 3) := dk_153 0 5 (dk_at dksL_law_64 10 rfl rfl)
theorem dL_law_1630 : decode cL_law 1630 = .ok (.iconst 0, 1) := dk_3 (dk_at dksL_law_64 13 rfl rfl)
theorem dL_law_1631 : decode cL_law 1631 = .ok (.ireturn, 1) := dk_172 (dk_at dksL_law_64 14 rfl rfl)
theorem dL_law_1632 : decode cL_law 1632 = .ok (.goto 590, 3) := dk_167 2 78 (dk_at dksL_law_64 15 rfl rfl)
theorem dL_law_1635 : decode cL_law 1635 = .ok (.aload_n 1, 1) := dk_43 (dk_at dksL_law_64 18 rfl rfl)
theorem dL_law_1636 : decode cL_law 1636 = .ok (.aload_n 0, 1) := dk_42 (dk_at dksL_law_64 19 rfl rfl)
theorem dL_law_1637 : decode cL_law 1637 = .ok (.iload 5, 2) := dk_21 5 (dk_at dksL_law_64 20 rfl rfl)
theorem dL_law_1639 : decode cL_law 1639 = .ok (.iconst 1, 1) := dk_4 (dk_at dksL_law_64 22 rfl rfl)
theorem dL_law_1640 : decode cL_law 1640 = .ok (.iadd, 1) := dk_96 (dk_at dksL_law_64 23 rfl rfl)
theorem dL_law_1641 : decode cL_law 1641 = .ok (.iaload, 1) := dk_46 (dk_at dksL_law_65 0 rfl rfl)
theorem dL_law_1642 : decode cL_law 1642 = .ok (.aload_n 3, 1) := dk_45 (dk_at dksL_law_65 1 rfl rfl)
theorem dL_law_1643 : decode cL_law 1643 = .ok (.invokestatic 202, 3) := dk_184 0 202 (dk_at dksL_law_65 2 rfl rfl)
theorem dL_law_1646 : decode cL_law 1646 = .ok (.istore 6, 2) := dk_54 6 (dk_at dksL_law_65 5 rfl rfl)
theorem dL_law_1648 : decode cL_law 1648 = .ok (.aload_n 2, 1) := dk_44 (dk_at dksL_law_65 7 rfl rfl)
theorem dL_law_1649 : decode cL_law 1649 = .ok (.aload_n 0, 1) := dk_42 (dk_at dksL_law_65 8 rfl rfl)
theorem dL_law_1650 : decode cL_law 1650 = .ok (.iload 5, 2) := dk_21 5 (dk_at dksL_law_65 9 rfl rfl)
theorem dL_law_1652 : decode cL_law 1652 = .ok (.iconst 1, 1) := dk_4 (dk_at dksL_law_65 11 rfl rfl)
theorem dL_law_1653 : decode cL_law 1653 = .ok (.iadd, 1) := dk_96 (dk_at dksL_law_65 12 rfl rfl)
theorem dL_law_1654 : decode cL_law 1654 = .ok (.iaload, 1) := dk_46 (dk_at dksL_law_65 13 rfl rfl)
theorem dL_law_1655 : decode cL_law 1655 = .ok (.invokevirtual 204, 3) := dk_182 0 204 (dk_at dksL_law_65 14 rfl rfl)
theorem dL_law_1658 : decode cL_law 1658 = .ok (.istore 7, 2) := dk_54 7 (dk_at dksL_law_65 17 rfl rfl)
theorem dL_law_1660 : decode cL_law 1660 = .ok (.aload_n 2, 1) := dk_44 (dk_at dksL_law_65 19 rfl rfl)
theorem dL_law_1661 : decode cL_law 1661 = .ok (.invokevirtual 135, 3) := dk_182 0 135 (dk_at dksL_law_65 20 rfl rfl)
theorem dL_law_1664 : decode cL_law 1664 = .ok (.iload 6, 2) := dk_21 6 (dk_at dksL_law_66 0 rfl rfl)
theorem dL_law_1666 : decode cL_law 1666 = .ok (.if_icmp .eq 5, 3) := dk_159 0 5 (dk_at dksL_law_66 2 rfl rfl)
theorem dL_law_1669 : decode cL_law 1669 = .ok (.iconst 0, 1) := dk_3 (dk_at dksL_law_66 5 rfl rfl)
theorem dL_law_1670 : decode cL_law 1670 = .ok (.ireturn, 1) := dk_172 (dk_at dksL_law_66 6 rfl rfl)
theorem dL_law_1671 : decode cL_law 1671 = .ok (.iload 6, 2) := dk_21 6 (dk_at dksL_law_66 7 rfl rfl)
theorem dL_law_1673 : decode cL_law 1673 = .ok (.ifCond .ne 15, 3) := dk_154 0 15 (dk_at dksL_law_66 9 rfl rfl)
theorem dL_law_1676 : decode cL_law 1676 = .ok (.aload_n 3, 1) := dk_45 (dk_at dksL_law_66 12 rfl rfl)
theorem dL_law_1677 : decode cL_law 1677 = .ok (.iconst 0, 1) := dk_3 (dk_at dksL_law_66 13 rfl rfl)
theorem dL_law_1678 : decode cL_law 1678 = .ok (.laload, 1) := dk_47 (dk_at dksL_law_66 14 rfl rfl)
theorem dL_law_1679 : decode cL_law 1679 = .ok (.iload 7, 2) := dk_21 7 (dk_at dksL_law_66 15 rfl rfl)
theorem dL_law_1681 : decode cL_law 1681 = .ok (.i2l, 1) := dk_133 (dk_at dksL_law_66 17 rfl rfl)
theorem dL_law_1682 : decode cL_law 1682 = .ok (.lcmp, 1) := dk_148 (dk_at dksL_law_66 18 rfl rfl)
theorem dL_law_1683 : decode cL_law 1683 = .ok (.ifCond .eq 5, 3) := dk_153 0 5 (dk_at dksL_law_66 19 rfl rfl)
theorem dL_law_1686 : decode cL_law 1686 = .ok (.iconst 0, 1) := dk_3 (dk_at dksL_law_66 22 rfl rfl)
theorem dL_law_1687 : decode cL_law 1687 = .ok (.ireturn, 1) := dk_172 (dk_at dksL_law_66 23 rfl rfl)
theorem dL_law_1688 : decode cL_law 1688 = .ok (.goto 534, 3) := dk_167 2 22 (dk_at dksL_law_67 0 rfl rfl)
theorem dL_law_1691 : decode cL_law 1691 = .ok (.aload_n 1, 1) := dk_43 (dk_at dksL_law_67 3 rfl rfl)
theorem dL_law_1692 : decode cL_law 1692 = .ok (.aload_n 0, 1) := dk_42 (dk_at dksL_law_67 4 rfl rfl)
theorem dL_law_1693 : decode cL_law 1693 = .ok (.iload 5, 2) := dk_21 5 (dk_at dksL_law_67 5 rfl rfl)
theorem dL_law_1695 : decode cL_law 1695 = .ok (.iconst 1, 1) := dk_4 (dk_at dksL_law_67 7 rfl rfl)
theorem dL_law_1696 : decode cL_law 1696 = .ok (.iadd, 1) := dk_96 (dk_at dksL_law_67 8 rfl rfl)
theorem dL_law_1697 : decode cL_law 1697 = .ok (.iaload, 1) := dk_46 (dk_at dksL_law_67 9 rfl rfl)
theorem dL_law_1698 : decode cL_law 1698 = .ok (.aload_n 3, 1) := dk_45 (dk_at dksL_law_67 10 rfl rfl)
theorem dL_law_1699 : decode cL_law 1699 = .ok (.invokestatic 205, 3) := dk_184 0 205 (dk_at dksL_law_67 11 rfl rfl)
theorem dL_law_1702 : decode cL_law 1702 = .ok (.istore 6, 2) := dk_54 6 (dk_at dksL_law_67 14 rfl rfl)
theorem dL_law_1704 : decode cL_law 1704 = .ok (.aload_n 2, 1) := dk_44 (dk_at dksL_law_67 16 rfl rfl)
theorem dL_law_1705 : decode cL_law 1705 = .ok (.aload_n 0, 1) := dk_42 (dk_at dksL_law_67 17 rfl rfl)
theorem dL_law_1706 : decode cL_law 1706 = .ok (.iload 5, 2) := dk_21 5 (dk_at dksL_law_67 18 rfl rfl)
theorem dL_law_1708 : decode cL_law 1708 = .ok (.iconst 1, 1) := dk_4 (dk_at dksL_law_67 20 rfl rfl)
theorem dL_law_1709 : decode cL_law 1709 = .ok (.iadd, 1) := dk_96 (dk_at dksL_law_67 21 rfl rfl)
theorem dL_law_1710 : decode cL_law 1710 = .ok (.iaload, 1) := dk_46 (dk_at dksL_law_67 22 rfl rfl)
theorem dL_law_1711 : decode cL_law 1711 = .ok (.invokevirtual 207, 3) := dk_182 0 207 (dk_at dksL_law_68 0 rfl rfl)
theorem dL_law_1714 : decode cL_law 1714 = .ok (.istore 7, 2) := dk_54 7 (dk_at dksL_law_68 3 rfl rfl)
theorem dL_law_1716 : decode cL_law 1716 = .ok (.aload_n 2, 1) := dk_44 (dk_at dksL_law_68 5 rfl rfl)
theorem dL_law_1717 : decode cL_law 1717 = .ok (.invokevirtual 135, 3) := dk_182 0 135 (dk_at dksL_law_68 6 rfl rfl)
theorem dL_law_1720 : decode cL_law 1720 = .ok (.iload 6, 2) := dk_21 6 (dk_at dksL_law_68 9 rfl rfl)
theorem dL_law_1722 : decode cL_law 1722 = .ok (.if_icmp .eq 5, 3) := dk_159 0 5 (dk_at dksL_law_68 11 rfl rfl)
theorem dL_law_1725 : decode cL_law 1725 = .ok (.iconst 0, 1) := dk_3 (dk_at dksL_law_68 14 rfl rfl)
theorem dL_law_1726 : decode cL_law 1726 = .ok (.ireturn, 1) := dk_172 (dk_at dksL_law_68 15 rfl rfl)
theorem dL_law_1727 : decode cL_law 1727 = .ok (.iload 6, 2) := dk_21 6 (dk_at dksL_law_68 16 rfl rfl)
theorem dL_law_1729 : decode cL_law 1729 = .ok (.ifCond .ne 15, 3) := dk_154 0 15 (dk_at dksL_law_68 18 rfl rfl)
theorem dL_law_1732 : decode cL_law 1732 = .ok (.aload_n 3, 1) := dk_45 (dk_at dksL_law_68 21 rfl rfl)
theorem dL_law_1733 : decode cL_law 1733 = .ok (.iconst 0, 1) := dk_3 (dk_at dksL_law_68 22 rfl rfl)
theorem dL_law_1734 : decode cL_law 1734 = .ok (.laload, 1) := dk_47 (dk_at dksL_law_68 23 rfl rfl)
theorem dL_law_1735 : decode cL_law 1735 = .ok (.iload 7, 2) := dk_21 7 (dk_at dksL_law_69 0 rfl rfl)
theorem dL_law_1737 : decode cL_law 1737 = .ok (.i2l, 1) := dk_133 (dk_at dksL_law_69 2 rfl rfl)
theorem dL_law_1738 : decode cL_law 1738 = .ok (.lcmp, 1) := dk_148 (dk_at dksL_law_69 3 rfl rfl)
theorem dL_law_1739 : decode cL_law 1739 = .ok (.ifCond .eq 5, 3) := dk_153 0 5 (dk_at dksL_law_69 4 rfl rfl)
theorem dL_law_1742 : decode cL_law 1742 = .ok (.iconst 0, 1) := dk_3 (dk_at dksL_law_69 7 rfl rfl)
theorem dL_law_1743 : decode cL_law 1743 = .ok (.ireturn, 1) := dk_172 (dk_at dksL_law_69 8 rfl rfl)
theorem dL_law_1744 : decode cL_law 1744 = .ok (.goto 478, 3) := dk_167 1 222 (dk_at dksL_law_69 9 rfl rfl)
theorem dL_law_1747 : decode cL_law 1747 = .ok (.aload_n 1, 1) := dk_43 (dk_at dksL_law_69 12 rfl rfl)
theorem dL_law_1748 : decode cL_law 1748 = .ok (.invokevirtual 208, 3) := dk_182 0 208 (dk_at dksL_law_69 13 rfl rfl)
theorem dL_law_1751 : decode cL_law 1751 = .ok (.aload_n 2, 1) := dk_44 (dk_at dksL_law_69 16 rfl rfl)
theorem dL_law_1752 : decode cL_law 1752 = .ok (.invokevirtual 211, 3) := dk_182 0 211 (dk_at dksL_law_69 17 rfl rfl)
theorem dL_law_1755 : decode cL_law 1755 = .ok (.if_icmp .eq 467, 3) := dk_159 1 211 (dk_at dksL_law_69 20 rfl rfl)
theorem dL_law_1758 : decode cL_law 1758 = .ok (.iconst 0, 1) := dk_3 (dk_at dksL_law_69 23 rfl rfl)
theorem dL_law_1759 : decode cL_law 1759 = .ok (.ireturn, 1) := dk_172 (dk_at dksL_law_70 0 rfl rfl)
theorem dL_law_1760 : decode cL_law 1760 = .ok (.aload_n 1, 1) := dk_43 (dk_at dksL_law_70 1 rfl rfl)
theorem dL_law_1761 : decode cL_law 1761 = .ok (.aload 4, 2) := dk_25 4 (dk_at dksL_law_70 2 rfl rfl)
theorem dL_law_1763 : decode cL_law 1763 = .ok (.invokestatic 212, 3) := dk_184 0 212 (dk_at dksL_law_70 4 rfl rfl)
theorem dL_law_1766 : decode cL_law 1766 = .ok (.istore 6, 2) := dk_54 6 (dk_at dksL_law_70 7 rfl rfl)
theorem dL_law_1768 : decode cL_law 1768 = .ok (.aload_n 2, 1) := dk_44 (dk_at dksL_law_70 9 rfl rfl)
theorem dL_law_1769 : decode cL_law 1769 = .ok (.invokevirtual 215, 3) := dk_182 0 215 (dk_at dksL_law_70 10 rfl rfl)
theorem dL_law_1772 : decode cL_law 1772 = .ok (.dstore 7, 2) := dk_57 7 (dk_at dksL_law_70 13 rfl rfl)
theorem dL_law_1774 : decode cL_law 1774 = .ok (.aload_n 2, 1) := dk_44 (dk_at dksL_law_70 15 rfl rfl)
theorem dL_law_1775 : decode cL_law 1775 = .ok (.invokevirtual 135, 3) := dk_182 0 135 (dk_at dksL_law_70 16 rfl rfl)
theorem dL_law_1778 : decode cL_law 1778 = .ok (.iload 6, 2) := dk_21 6 (dk_at dksL_law_70 19 rfl rfl)
theorem dL_law_1780 : decode cL_law 1780 = .ok (.if_icmp .eq 5, 3) := dk_159 0 5 (dk_at dksL_law_70 21 rfl rfl)
theorem dL_law_1783 : decode cL_law 1783 = .ok (.iconst 0, 1) := dk_3 (dk_at dksL_law_71 0 rfl rfl)
theorem dL_law_1784 : decode cL_law 1784 = .ok (.ireturn, 1) := dk_172 (dk_at dksL_law_71 1 rfl rfl)
theorem dL_law_1785 : decode cL_law 1785 = .ok (.iload 6, 2) := dk_21 6 (dk_at dksL_law_71 2 rfl rfl)
theorem dL_law_1787 : decode cL_law 1787 = .ok (.ifCond .ne 35, 3) := dk_154 0 35 (dk_at dksL_law_71 4 rfl rfl)
theorem dL_law_1790 : decode cL_law 1790 = .ok (.aload 4, 2) := dk_25 4 (dk_at dksL_law_71 7 rfl rfl)
theorem dL_law_1792 : decode cL_law 1792 = .ok (.iconst 0, 1) := dk_3 (dk_at dksL_law_71 9 rfl rfl)
theorem dL_law_1793 : decode cL_law 1793 = .ok (.daload, 1) := dk_49 (dk_at dksL_law_71 10 rfl rfl)
theorem dL_law_1794 : decode cL_law 1794 = .ok (.dload 7, 2) := dk_24 7 (dk_at dksL_law_71 11 rfl rfl)
theorem dL_law_1796 : decode cL_law 1796 = .ok (.dcmp .l, 1) := dk_151 (dk_at dksL_law_71 13 rfl rfl)
theorem dL_law_1797 : decode cL_law 1797 = .ok (.ifCond .eq 25, 3) := dk_153 0 25 (dk_at dksL_law_71 14 rfl rfl)
theorem dL_law_1800 : decode cL_law 1800 = .ok (.aload 4, 2) := dk_25 4 (dk_at dksL_law_71 17 rfl rfl)
theorem dL_law_1802 : decode cL_law 1802 = .ok (.iconst 0, 1) := dk_3 (dk_at dksL_law_71 19 rfl rfl)
theorem dL_law_1803 : decode cL_law 1803 = .ok (.daload, 1) := dk_49 (dk_at dksL_law_71 20 rfl rfl)
theorem dL_law_1804 : decode cL_law 1804 = .ok (.aload 4, 2) := dk_25 4 (dk_at dksL_law_71 21 rfl rfl)
theorem dL_law_1806 : decode cL_law 1806 = .ok (.iconst 0, 1) := dk_3 (dk_at dksL_law_71 23 rfl rfl)
theorem dL_law_1807 : decode cL_law 1807 = .ok (.daload, 1) := dk_49 (dk_at dksL_law_72 0 rfl rfl)
theorem dL_law_1808 : decode cL_law 1808 = .ok (.dcmp .l, 1) := dk_151 (dk_at dksL_law_72 1 rfl rfl)
theorem dL_law_1809 : decode cL_law 1809 = .ok (.ifCond .eq 11, 3) := dk_153 0 11 (dk_at dksL_law_72 2 rfl rfl)
theorem dL_law_1812 : decode cL_law 1812 = .ok (.dload 7, 2) := dk_24 7 (dk_at dksL_law_72 5 rfl rfl)
theorem dL_law_1814 : decode cL_law 1814 = .ok (.dload 7, 2) := dk_24 7 (dk_at dksL_law_72 7 rfl rfl)
theorem dL_law_1816 : decode cL_law 1816 = .ok (.dcmp .l, 1) := dk_151 (dk_at dksL_law_72 9 rfl rfl)
theorem dL_law_1817 : decode cL_law 1817 = .ok (.ifCond .ne 5, 3) := dk_154 0 5 (dk_at dksL_law_72 10 rfl rfl)
theorem dL_law_1820 : decode cL_law 1820 = .ok (.iconst 0, 1) := dk_3 (dk_at dksL_law_72 13 rfl rfl)
theorem dL_law_1821 : decode cL_law 1821 = .ok (.ireturn, 1) := dk_172 (dk_at dksL_law_72 14 rfl rfl)
theorem dL_law_1822 : decode cL_law 1822 = .ok (.goto 400, 3) := dk_167 1 144 (dk_at dksL_law_72 15 rfl rfl)
theorem dL_law_1825 : decode cL_law 1825 = .ok (.aload_n 1, 1) := dk_43 (dk_at dksL_law_72 18 rfl rfl)
theorem dL_law_1826 : decode cL_law 1826 = .ok (.aload 4, 2) := dk_25 4 (dk_at dksL_law_72 19 rfl rfl)
theorem dL_law_1828 : decode cL_law 1828 = .ok (.invokestatic 216, 3) := dk_184 0 216 (dk_at dksL_law_72 21 rfl rfl)
theorem dL_law_1831 : decode cL_law 1831 = .ok (.istore 6, 2) := dk_54 6 (dk_at dksL_law_73 0 rfl rfl)
theorem dL_law_1833 : decode cL_law 1833 = .ok (.aload_n 2, 1) := dk_44 (dk_at dksL_law_73 2 rfl rfl)
theorem dL_law_1834 : decode cL_law 1834 = .ok (.invokevirtual 218, 3) := dk_182 0 218 (dk_at dksL_law_73 3 rfl rfl)
theorem dL_law_1837 : decode cL_law 1837 = .ok (.fstore 7, 2) := dk_56 7 (dk_at dksL_law_73 6 rfl rfl)
theorem dL_law_1839 : decode cL_law 1839 = .ok (.aload_n 2, 1) := dk_44 (dk_at dksL_law_73 8 rfl rfl)
theorem dL_law_1840 : decode cL_law 1840 = .ok (.invokevirtual 135, 3) := dk_182 0 135 (dk_at dksL_law_73 9 rfl rfl)
theorem dL_law_1843 : decode cL_law 1843 = .ok (.iload 6, 2) := dk_21 6 (dk_at dksL_law_73 12 rfl rfl)
theorem dL_law_1845 : decode cL_law 1845 = .ok (.if_icmp .eq 5, 3) := dk_159 0 5 (dk_at dksL_law_73 14 rfl rfl)
theorem dL_law_1848 : decode cL_law 1848 = .ok (.iconst 0, 1) := dk_3 (dk_at dksL_law_73 17 rfl rfl)
theorem dL_law_1849 : decode cL_law 1849 = .ok (.ireturn, 1) := dk_172 (dk_at dksL_law_73 18 rfl rfl)
theorem dL_law_1850 : decode cL_law 1850 = .ok (.iload 6, 2) := dk_21 6 (dk_at dksL_law_73 19 rfl rfl)
theorem dL_law_1852 : decode cL_law 1852 = .ok (.ifCond .ne 36, 3) := dk_154 0 36 (dk_at dksL_law_73 21 rfl rfl)
theorem dL_law_1855 : decode cL_law 1855 = .ok (.aload 4, 2) := dk_25 4 (dk_at dksL_law_74 0 rfl rfl)
theorem dL_law_1857 : decode cL_law 1857 = .ok (.iconst 0, 1) := dk_3 (dk_at dksL_law_74 2 rfl rfl)
theorem dL_law_1858 : decode cL_law 1858 = .ok (.daload, 1) := dk_49 (dk_at dksL_law_74 3 rfl rfl)
theorem dL_law_1859 : decode cL_law 1859 = .ok (.fload 7, 2) := dk_23 7 (dk_at dksL_law_74 4 rfl rfl)
theorem dL_law_1861 : decode cL_law 1861 = .ok (.f2d, 1) := dk_141 (dk_at dksL_law_74 6 rfl rfl)
theorem dL_law_1862 : decode cL_law 1862 = .ok (.dcmp .l, 1) := dk_151 (dk_at dksL_law_74 7 rfl rfl)
theorem dL_law_1863 : decode cL_law 1863 = .ok (.ifCond .eq 25, 3) := dk_153 0 25 (dk_at dksL_law_74 8 rfl rfl)
theorem dL_law_1866 : decode cL_law 1866 = .ok (.aload 4, 2) := dk_25 4 (dk_at dksL_law_74 11 rfl rfl)
theorem dL_law_1868 : decode cL_law 1868 = .ok (.iconst 0, 1) := dk_3 (dk_at dksL_law_74 13 rfl rfl)
theorem dL_law_1869 : decode cL_law 1869 = .ok (.daload, 1) := dk_49 (dk_at dksL_law_74 14 rfl rfl)
theorem dL_law_1870 : decode cL_law 1870 = .ok (.aload 4, 2) := dk_25 4 (dk_at dksL_law_74 15 rfl rfl)
theorem dL_law_1872 : decode cL_law 1872 = .ok (.iconst 0, 1) := dk_3 (dk_at dksL_law_74 17 rfl rfl)
theorem dL_law_1873 : decode cL_law 1873 = .ok (.daload, 1) := dk_49 (dk_at dksL_law_74 18 rfl rfl)
theorem dL_law_1874 : decode cL_law 1874 = .ok (.dcmp .l, 1) := dk_151 (dk_at dksL_law_74 19 rfl rfl)
theorem dL_law_1875 : decode cL_law 1875 = .ok (.ifCond .eq 11, 3) := dk_153 0 11 (dk_at dksL_law_74 20 rfl rfl)
theorem dL_law_1878 : decode cL_law 1878 = .ok (.fload 7, 2) := dk_23 7 (dk_at dksL_law_75 0 rfl rfl)
theorem dL_law_1880 : decode cL_law 1880 = .ok (.fload 7, 2) := dk_23 7 (dk_at dksL_law_75 2 rfl rfl)
theorem dL_law_1882 : decode cL_law 1882 = .ok (.fcmp .l, 1) := dk_149 (dk_at dksL_law_75 4 rfl rfl)
theorem dL_law_1883 : decode cL_law 1883 = .ok (.ifCond .ne 5, 3) := dk_154 0 5 (dk_at dksL_law_75 5 rfl rfl)
theorem dL_law_1886 : decode cL_law 1886 = .ok (.iconst 0, 1) := dk_3 (dk_at dksL_law_75 8 rfl rfl)
theorem dL_law_1887 : decode cL_law 1887 = .ok (.ireturn, 1) := dk_172 (dk_at dksL_law_75 9 rfl rfl)
theorem dL_law_1888 : decode cL_law 1888 = .ok (.goto 334, 3) := dk_167 1 78 (dk_at dksL_law_75 10 rfl rfl)
theorem dL_law_1891 : decode cL_law 1891 = .ok (.aload_n 1, 1) := dk_43 (dk_at dksL_law_75 13 rfl rfl)
theorem dL_law_1892 : decode cL_law 1892 = .ok (.aload_n 0, 1) := dk_42 (dk_at dksL_law_75 14 rfl rfl)
theorem dL_law_1893 : decode cL_law 1893 = .ok (.iload 5, 2) := dk_21 5 (dk_at dksL_law_75 15 rfl rfl)
theorem dL_law_1895 : decode cL_law 1895 = .ok (.iconst 1, 1) := dk_4 (dk_at dksL_law_75 17 rfl rfl)
theorem dL_law_1896 : decode cL_law 1896 = .ok (.iadd, 1) := dk_96 (dk_at dksL_law_75 18 rfl rfl)
theorem dL_law_1897 : decode cL_law 1897 = .ok (.iaload, 1) := dk_46 (dk_at dksL_law_75 19 rfl rfl)
theorem dL_law_1898 : decode cL_law 1898 = .ok (.i2c, 1) := dk_146 (dk_at dksL_law_75 20 rfl rfl)
theorem dL_law_1899 : decode cL_law 1899 = .ok (.aload_n 3, 1) := dk_45 (dk_at dksL_law_75 21 rfl rfl)
theorem dL_law_1900 : decode cL_law 1900 = .ok (.invokestatic 219, 3) := dk_184 0 219 (dk_at dksL_law_76 0 rfl rfl)
theorem dL_law_1903 : decode cL_law 1903 = .ok (.istore 6, 2) := dk_54 6 (dk_at dksL_law_76 3 rfl rfl)
theorem dL_law_1905 : decode cL_law 1905 = .ok (.aload_n 2, 1) := dk_44 (dk_at dksL_law_76 5 rfl rfl)
theorem dL_law_1906 : decode cL_law 1906 = .ok (.aload_n 0, 1) := dk_42 (dk_at dksL_law_76 6 rfl rfl)
theorem dL_law_1907 : decode cL_law 1907 = .ok (.iload 5, 2) := dk_21 5 (dk_at dksL_law_76 7 rfl rfl)
theorem dL_law_1909 : decode cL_law 1909 = .ok (.iconst 1, 1) := dk_4 (dk_at dksL_law_76 9 rfl rfl)
theorem dL_law_1910 : decode cL_law 1910 = .ok (.iadd, 1) := dk_96 (dk_at dksL_law_76 10 rfl rfl)
theorem dL_law_1911 : decode cL_law 1911 = .ok (.iaload, 1) := dk_46 (dk_at dksL_law_76 11 rfl rfl)
theorem dL_law_1912 : decode cL_law 1912 = .ok (.i2c, 1) := dk_146 (dk_at dksL_law_76 12 rfl rfl)
theorem dL_law_1913 : decode cL_law 1913 = .ok (.invokevirtual 222, 3) := dk_182 0 222 (dk_at dksL_law_76 13 rfl rfl)
theorem dL_law_1916 : decode cL_law 1916 = .ok (.istore 7, 2) := dk_54 7 (dk_at dksL_law_76 16 rfl rfl)
theorem dL_law_1918 : decode cL_law 1918 = .ok (.aload_n 2, 1) := dk_44 (dk_at dksL_law_76 18 rfl rfl)
theorem dL_law_1919 : decode cL_law 1919 = .ok (.invokevirtual 135, 3) := dk_182 0 135 (dk_at dksL_law_76 19 rfl rfl)
theorem dL_law_1922 : decode cL_law 1922 = .ok (.iload 6, 2) := dk_21 6 (dk_at dksL_law_76 22 rfl rfl)
theorem dL_law_1924 : decode cL_law 1924 = .ok (.if_icmp .eq 5, 3) := dk_159 0 5 (dk_at dksL_law_77 0 rfl rfl)
theorem dL_law_1927 : decode cL_law 1927 = .ok (.iconst 0, 1) := dk_3 (dk_at dksL_law_77 3 rfl rfl)
theorem dL_law_1928 : decode cL_law 1928 = .ok (.ireturn, 1) := dk_172 (dk_at dksL_law_77 4 rfl rfl)
theorem dL_law_1929 : decode cL_law 1929 = .ok (.iload 6, 2) := dk_21 6 (dk_at dksL_law_77 5 rfl rfl)
theorem dL_law_1931 : decode cL_law 1931 = .ok (.ifCond .ne 15, 3) := dk_154 0 15 (dk_at dksL_law_77 7 rfl rfl)
theorem dL_law_1934 : decode cL_law 1934 = .ok (.aload_n 3, 1) := dk_45 (dk_at dksL_law_77 10 rfl rfl)
theorem dL_law_1935 : decode cL_law 1935 = .ok (.iconst 0, 1) := dk_3 (dk_at dksL_law_77 11 rfl rfl)
theorem dL_law_1936 : decode cL_law 1936 = .ok (.laload, 1) := dk_47 (dk_at dksL_law_77 12 rfl rfl)
theorem dL_law_1937 : decode cL_law 1937 = .ok (.iload 7, 2) := dk_21 7 (dk_at dksL_law_77 13 rfl rfl)
theorem dL_law_1939 : decode cL_law 1939 = .ok (.i2l, 1) := dk_133 (dk_at dksL_law_77 15 rfl rfl)
theorem dL_law_1940 : decode cL_law 1940 = .ok (.lcmp, 1) := dk_148 (dk_at dksL_law_77 16 rfl rfl)
theorem dL_law_1941 : decode cL_law 1941 = .ok (.ifCond .eq 5, 3) := dk_153 0 5 (dk_at dksL_law_77 17 rfl rfl)
theorem dL_law_1944 : decode cL_law 1944 = .ok (.iconst 0, 1) := dk_3 (dk_at dksL_law_77 20 rfl rfl)
theorem dL_law_1945 : decode cL_law 1945 = .ok (.ireturn, 1) := dk_172 (dk_at dksL_law_77 21 rfl rfl)
theorem dL_law_1946 : decode cL_law 1946 = .ok (.goto 276, 3) := dk_167 1 20 (dk_at dksL_law_78 0 rfl rfl)
theorem dL_law_1949 : decode cL_law 1949 = .ok (.aload_n 1, 1) := dk_43 (dk_at dksL_law_78 3 rfl rfl)
theorem dL_law_1950 : decode cL_law 1950 = .ok (.aload_n 3, 1) := dk_45 (dk_at dksL_law_78 4 rfl rfl)
theorem dL_law_1951 : decode cL_law 1951 = .ok (.invokestatic 223, 3) := dk_184 0 223 (dk_at dksL_law_78 5 rfl rfl)
theorem dL_law_1954 : decode cL_law 1954 = .ok (.istore 6, 2) := dk_54 6 (dk_at dksL_law_78 8 rfl rfl)
theorem dL_law_1956 : decode cL_law 1956 = .ok (.aload_n 2, 1) := dk_44 (dk_at dksL_law_78 10 rfl rfl)
theorem dL_law_1957 : decode cL_law 1957 = .ok (.invokevirtual 226, 3) := dk_182 0 226 (dk_at dksL_law_78 11 rfl rfl)
theorem dL_law_1960 : decode cL_law 1960 = .ok (.istore 7, 2) := dk_54 7 (dk_at dksL_law_78 14 rfl rfl)
theorem dL_law_1962 : decode cL_law 1962 = .ok (.aload_n 2, 1) := dk_44 (dk_at dksL_law_78 16 rfl rfl)
theorem dL_law_1963 : decode cL_law 1963 = .ok (.invokevirtual 135, 3) := dk_182 0 135 (dk_at dksL_law_78 17 rfl rfl)
theorem dL_law_1966 : decode cL_law 1966 = .ok (.iload 6, 2) := dk_21 6 (dk_at dksL_law_78 20 rfl rfl)
theorem dL_law_1968 : decode cL_law 1968 = .ok (.if_icmp .eq 5, 3) := dk_159 0 5 (dk_at dksL_law_79 0 rfl rfl)
theorem dL_law_1971 : decode cL_law 1971 = .ok (.iconst 0, 1) := dk_3 (dk_at dksL_law_79 3 rfl rfl)
theorem dL_law_1972 : decode cL_law 1972 = .ok (.ireturn, 1) := dk_172 (dk_at dksL_law_79 4 rfl rfl)
theorem dL_law_1973 : decode cL_law 1973 = .ok (.iload 6, 2) := dk_21 6 (dk_at dksL_law_79 5 rfl rfl)
theorem dL_law_1975 : decode cL_law 1975 = .ok (.ifCond .ne 15, 3) := dk_154 0 15 (dk_at dksL_law_79 7 rfl rfl)
theorem dL_law_1978 : decode cL_law 1978 = .ok (.aload_n 3, 1) := dk_45 (dk_at dksL_law_79 10 rfl rfl)
theorem dL_law_1979 : decode cL_law 1979 = .ok (.iconst 0, 1) := dk_3 (dk_at dksL_law_79 11 rfl rfl)
theorem dL_law_1980 : decode cL_law 1980 = .ok (.laload, 1) := dk_47 (dk_at dksL_law_79 12 rfl rfl)
theorem dL_law_1981 : decode cL_law 1981 = .ok (.iload 7, 2) := dk_21 7 (dk_at dksL_law_79 13 rfl rfl)
theorem dL_law_1983 : decode cL_law 1983 = .ok (.i2l, 1) := dk_133 (dk_at dksL_law_79 15 rfl rfl)
theorem dL_law_1984 : decode cL_law 1984 = .ok (.lcmp, 1) := dk_148 (dk_at dksL_law_79 16 rfl rfl)
theorem dL_law_1985 : decode cL_law 1985 = .ok (.ifCond .eq 5, 3) := dk_153 0 5 (dk_at dksL_law_79 17 rfl rfl)
theorem dL_law_1988 : decode cL_law 1988 = .ok (.iconst 0, 1) := dk_3 (dk_at dksL_law_79 20 rfl rfl)
theorem dL_law_1989 : decode cL_law 1989 = .ok (.ireturn, 1) := dk_172 (dk_at dksL_law_79 21 rfl rfl)
theorem dL_law_1990 : decode cL_law 1990 = .ok (.goto 232, 3) := dk_167 0 232 (dk_at dksL_law_80 0 rfl rfl)
theorem dL_law_1993 : decode cL_law 1993 = .ok (.aload_n 1, 1) := dk_43 (dk_at dksL_law_80 3 rfl rfl)
theorem dL_law_1994 : decode cL_law 1994 = .ok (.aload_n 3, 1) := dk_45 (dk_at dksL_law_80 4 rfl rfl)
theorem dL_law_1995 : decode cL_law 1995 = .ok (.invokestatic 227, 3) := dk_184 0 227 (dk_at dksL_law_80 5 rfl rfl)
theorem dL_law_1998 : decode cL_law 1998 = .ok (.istore 6, 2) := dk_54 6 (dk_at dksL_law_80 8 rfl rfl)
theorem dL_law_2000 : decode cL_law 2000 = .ok (.aload_n 2, 1) := dk_44 (dk_at dksL_law_80 10 rfl rfl)
theorem dL_law_2001 : decode cL_law 2001 = .ok (.invokevirtual 229, 3) := dk_182 0 229 (dk_at dksL_law_80 11 rfl rfl)
theorem dL_law_2004 : decode cL_law 2004 = .ok (.istore 7, 2) := dk_54 7 (dk_at dksL_law_80 14 rfl rfl)
theorem dL_law_2006 : decode cL_law 2006 = .ok (.aload_n 2, 1) := dk_44 (dk_at dksL_law_80 16 rfl rfl)
theorem dL_law_2007 : decode cL_law 2007 = .ok (.invokevirtual 135, 3) := dk_182 0 135 (dk_at dksL_law_80 17 rfl rfl)
theorem dL_law_2010 : decode cL_law 2010 = .ok (.iload 6, 2) := dk_21 6 (dk_at dksL_law_80 20 rfl rfl)
theorem dL_law_2012 : decode cL_law 2012 = .ok (.if_icmp .eq 5, 3) := dk_159 0 5 (dk_at dksL_law_81 0 rfl rfl)
theorem dL_law_2015 : decode cL_law 2015 = .ok (.iconst 0, 1) := dk_3 (dk_at dksL_law_81 3 rfl rfl)
theorem dL_law_2016 : decode cL_law 2016 = .ok (.ireturn, 1) := dk_172 (dk_at dksL_law_81 4 rfl rfl)
theorem dL_law_2017 : decode cL_law 2017 = .ok (.iload 6, 2) := dk_21 6 (dk_at dksL_law_81 5 rfl rfl)
theorem dL_law_2019 : decode cL_law 2019 = .ok (.ifCond .ne 15, 3) := dk_154 0 15 (dk_at dksL_law_81 7 rfl rfl)
theorem dL_law_2022 : decode cL_law 2022 = .ok (.aload_n 3, 1) := dk_45 (dk_at dksL_law_81 10 rfl rfl)
theorem dL_law_2023 : decode cL_law 2023 = .ok (.iconst 0, 1) := dk_3 (dk_at dksL_law_81 11 rfl rfl)
theorem dL_law_2024 : decode cL_law 2024 = .ok (.laload, 1) := dk_47 (dk_at dksL_law_81 12 rfl rfl)
theorem dL_law_2025 : decode cL_law 2025 = .ok (.iload 7, 2) := dk_21 7 (dk_at dksL_law_81 13 rfl rfl)
theorem dL_law_2027 : decode cL_law 2027 = .ok (.i2l, 1) := dk_133 (dk_at dksL_law_81 15 rfl rfl)
theorem dL_law_2028 : decode cL_law 2028 = .ok (.lcmp, 1) := dk_148 (dk_at dksL_law_81 16 rfl rfl)
theorem dL_law_2029 : decode cL_law 2029 = .ok (.ifCond .eq 5, 3) := dk_153 0 5 (dk_at dksL_law_81 17 rfl rfl)
theorem dL_law_2032 : decode cL_law 2032 = .ok (.iconst 0, 1) := dk_3 (dk_at dksL_law_81 20 rfl rfl)
theorem dL_law_2033 : decode cL_law 2033 = .ok (.ireturn, 1) := dk_172 (dk_at dksL_law_81 21 rfl rfl)
theorem dL_law_2034 : decode cL_law 2034 = .ok (.goto 188, 3) := dk_167 0 188 (dk_at dksL_law_82 0 rfl rfl)
theorem dL_law_2037 : decode cL_law 2037 = .ok (.aload_n 1, 1) := dk_43 (dk_at dksL_law_82 3 rfl rfl)
theorem dL_law_2038 : decode cL_law 2038 = .ok (.aload_n 0, 1) := dk_42 (dk_at dksL_law_82 4 rfl rfl)
theorem dL_law_2039 : decode cL_law 2039 = .ok (.iload 5, 2) := dk_21 5 (dk_at dksL_law_82 5 rfl rfl)
theorem dL_law_2041 : decode cL_law 2041 = .ok (.iconst 1, 1) := dk_4 (dk_at dksL_law_82 7 rfl rfl)
theorem dL_law_2042 : decode cL_law 2042 = .ok (.iadd, 1) := dk_96 (dk_at dksL_law_82 8 rfl rfl)
theorem dL_law_2043 : decode cL_law 2043 = .ok (.iaload, 1) := dk_46 (dk_at dksL_law_82 9 rfl rfl)
theorem dL_law_2044 : decode cL_law 2044 = .ok (.aload_n 0, 1) := dk_42 (dk_at dksL_law_82 10 rfl rfl)
theorem dL_law_2045 : decode cL_law 2045 = .ok (.iload 5, 2) := dk_21 5 (dk_at dksL_law_82 11 rfl rfl)
theorem dL_law_2047 : decode cL_law 2047 = .ok (.iconst 2, 1) := dk_5 (dk_at dksL_law_82 13 rfl rfl)
theorem dL_law_2048 : decode cL_law 2048 = .ok (.iadd, 1) := dk_96 (dk_at dksL_law_82 14 rfl rfl)
theorem dL_law_2049 : decode cL_law 2049 = .ok (.iaload, 1) := dk_46 (dk_at dksL_law_82 15 rfl rfl)
theorem dL_law_2050 : decode cL_law 2050 = .ok (.ifCond .eq 7, 3) := dk_153 0 7 (dk_at dksL_law_82 16 rfl rfl)
theorem dL_law_2053 : decode cL_law 2053 = .ok (.iconst 1, 1) := dk_4 (dk_at dksL_law_82 19 rfl rfl)
theorem dL_law_2054 : decode cL_law 2054 = .ok (.goto 4, 3) := dk_167 0 4 (dk_at dksL_law_82 20 rfl rfl)
theorem dL_law_2057 : decode cL_law 2057 = .ok (.iconst 0, 1) := dk_3 (dk_at dksL_law_82 23 rfl rfl)
theorem dL_law_2058 : decode cL_law 2058 = .ok (.aload_n 3, 1) := dk_45 (dk_at dksL_law_83 0 rfl rfl)
theorem dL_law_2059 : decode cL_law 2059 = .ok (.invokestatic 230, 3) := dk_184 0 230 (dk_at dksL_law_83 1 rfl rfl)
theorem dL_law_2062 : decode cL_law 2062 = .ok (.istore 6, 2) := dk_54 6 (dk_at dksL_law_83 4 rfl rfl)
theorem dL_law_2064 : decode cL_law 2064 = .ok (.aload_n 2, 1) := dk_44 (dk_at dksL_law_83 6 rfl rfl)
theorem dL_law_2065 : decode cL_law 2065 = .ok (.aload_n 0, 1) := dk_42 (dk_at dksL_law_83 7 rfl rfl)
theorem dL_law_2066 : decode cL_law 2066 = .ok (.iload 5, 2) := dk_21 5 (dk_at dksL_law_83 8 rfl rfl)
theorem dL_law_2068 : decode cL_law 2068 = .ok (.iconst 1, 1) := dk_4 (dk_at dksL_law_83 10 rfl rfl)
theorem dL_law_2069 : decode cL_law 2069 = .ok (.iadd, 1) := dk_96 (dk_at dksL_law_83 11 rfl rfl)
theorem dL_law_2070 : decode cL_law 2070 = .ok (.iaload, 1) := dk_46 (dk_at dksL_law_83 12 rfl rfl)
theorem dL_law_2071 : decode cL_law 2071 = .ok (.aload_n 0, 1) := dk_42 (dk_at dksL_law_83 13 rfl rfl)
theorem dL_law_2072 : decode cL_law 2072 = .ok (.iload 5, 2) := dk_21 5 (dk_at dksL_law_83 14 rfl rfl)
theorem dL_law_2074 : decode cL_law 2074 = .ok (.iconst 2, 1) := dk_5 (dk_at dksL_law_83 16 rfl rfl)
theorem dL_law_2075 : decode cL_law 2075 = .ok (.iadd, 1) := dk_96 (dk_at dksL_law_83 17 rfl rfl)
theorem dL_law_2076 : decode cL_law 2076 = .ok (.iaload, 1) := dk_46 (dk_at dksL_law_83 18 rfl rfl)
theorem dL_law_2077 : decode cL_law 2077 = .ok (.ifCond .eq 7, 3) := dk_153 0 7 (dk_at dksL_law_83 19 rfl rfl)
theorem dL_law_2080 : decode cL_law 2080 = .ok (.iconst 1, 1) := dk_4 (dk_at dksL_law_83 22 rfl rfl)
theorem dL_law_2081 : decode cL_law 2081 = .ok (.goto 4, 3) := dk_167 0 4 (dk_at dksL_law_84 0 rfl rfl)
theorem dL_law_2084 : decode cL_law 2084 = .ok (.iconst 0, 1) := dk_3 (dk_at dksL_law_84 3 rfl rfl)
theorem dL_law_2085 : decode cL_law 2085 = .ok (.invokevirtual 232, 3) := dk_182 0 232 (dk_at dksL_law_84 4 rfl rfl)
theorem dL_law_2088 : decode cL_law 2088 = .ok (.istore 7, 2) := dk_54 7 (dk_at dksL_law_84 7 rfl rfl)
theorem dL_law_2090 : decode cL_law 2090 = .ok (.aload_n 2, 1) := dk_44 (dk_at dksL_law_84 9 rfl rfl)
theorem dL_law_2091 : decode cL_law 2091 = .ok (.invokevirtual 135, 3) := dk_182 0 135 (dk_at dksL_law_84 10 rfl rfl)
theorem dL_law_2094 : decode cL_law 2094 = .ok (.iload 6, 2) := dk_21 6 (dk_at dksL_law_84 13 rfl rfl)
theorem dL_law_2096 : decode cL_law 2096 = .ok (.if_icmp .eq 5, 3) := dk_159 0 5 (dk_at dksL_law_84 15 rfl rfl)
theorem dL_law_2099 : decode cL_law 2099 = .ok (.iconst 0, 1) := dk_3 (dk_at dksL_law_84 18 rfl rfl)
theorem dL_law_2100 : decode cL_law 2100 = .ok (.ireturn, 1) := dk_172 (dk_at dksL_law_84 19 rfl rfl)
theorem dL_law_2101 : decode cL_law 2101 = .ok (.iload 6, 2) := dk_21 6 (dk_at dksL_law_84 20 rfl rfl)
theorem dL_law_2103 : decode cL_law 2103 = .ok (.ifCond .ne 15, 3) := dk_154 0 15 (dk_at dksL_law_85 0 rfl rfl)
theorem dL_law_2106 : decode cL_law 2106 = .ok (.aload_n 3, 1) := dk_45 (dk_at dksL_law_85 3 rfl rfl)
theorem dL_law_2107 : decode cL_law 2107 = .ok (.iconst 0, 1) := dk_3 (dk_at dksL_law_85 4 rfl rfl)
theorem dL_law_2108 : decode cL_law 2108 = .ok (.laload, 1) := dk_47 (dk_at dksL_law_85 5 rfl rfl)
theorem dL_law_2109 : decode cL_law 2109 = .ok (.iload 7, 2) := dk_21 7 (dk_at dksL_law_85 6 rfl rfl)
theorem dL_law_2111 : decode cL_law 2111 = .ok (.i2l, 1) := dk_133 (dk_at dksL_law_85 8 rfl rfl)
theorem dL_law_2112 : decode cL_law 2112 = .ok (.lcmp, 1) := dk_148 (dk_at dksL_law_85 9 rfl rfl)
theorem dL_law_2113 : decode cL_law 2113 = .ok (.ifCond .eq 5, 3) := dk_153 0 5 (dk_at dksL_law_85 10 rfl rfl)
theorem dL_law_2116 : decode cL_law 2116 = .ok (.iconst 0, 1) := dk_3 (dk_at dksL_law_85 13 rfl rfl)
theorem dL_law_2117 : decode cL_law 2117 = .ok (.ireturn, 1) := dk_172 (dk_at dksL_law_85 14 rfl rfl)
theorem dL_law_2118 : decode cL_law 2118 = .ok (.goto 104, 3) := dk_167 0 104 (dk_at dksL_law_85 15 rfl rfl)
theorem dL_law_2121 : decode cL_law 2121 = .ok (.aload_n 1, 1) := dk_43 (dk_at dksL_law_85 18 rfl rfl)
theorem dL_law_2122 : decode cL_law 2122 = .ok (.aload_n 3, 1) := dk_45 (dk_at dksL_law_85 19 rfl rfl)
theorem dL_law_2123 : decode cL_law 2123 = .ok (.invokestatic 233, 3) := dk_184 0 233 (dk_at dksL_law_85 20 rfl rfl)
theorem dL_law_2126 : decode cL_law 2126 = .ok (.istore 6, 2) := dk_54 6 (dk_at dksL_law_86 0 rfl rfl)
theorem dL_law_2128 : decode cL_law 2128 = .ok (.aload_n 2, 1) := dk_44 (dk_at dksL_law_86 2 rfl rfl)
theorem dL_law_2129 : decode cL_law 2129 = .ok (.invokevirtual 235, 3) := dk_182 0 235 (dk_at dksL_law_86 3 rfl rfl)
theorem dL_law_2132 : decode cL_law 2132 = .ok (.istore 7, 2) := dk_54 7 (dk_at dksL_law_86 6 rfl rfl)
theorem dL_law_2134 : decode cL_law 2134 = .ok (.aload_n 2, 1) := dk_44 (dk_at dksL_law_86 8 rfl rfl)
theorem dL_law_2135 : decode cL_law 2135 = .ok (.invokevirtual 135, 3) := dk_182 0 135 (dk_at dksL_law_86 9 rfl rfl)
theorem dL_law_2138 : decode cL_law 2138 = .ok (.iload 6, 2) := dk_21 6 (dk_at dksL_law_86 12 rfl rfl)
theorem dL_law_2140 : decode cL_law 2140 = .ok (.if_icmp .eq 5, 3) := dk_159 0 5 (dk_at dksL_law_86 14 rfl rfl)
theorem dL_law_2143 : decode cL_law 2143 = .ok (.iconst 0, 1) := dk_3 (dk_at dksL_law_86 17 rfl rfl)
theorem dL_law_2144 : decode cL_law 2144 = .ok (.ireturn, 1) := dk_172 (dk_at dksL_law_86 18 rfl rfl)
theorem dL_law_2145 : decode cL_law 2145 = .ok (.iload 6, 2) := dk_21 6 (dk_at dksL_law_86 19 rfl rfl)
theorem dL_law_2147 : decode cL_law 2147 = .ok (.ifCond .ne 15, 3) := dk_154 0 15 (dk_at dksL_law_86 21 rfl rfl)
theorem dL_law_2150 : decode cL_law 2150 = .ok (.aload_n 3, 1) := dk_45 (dk_at dksL_law_87 0 rfl rfl)
theorem dL_law_2151 : decode cL_law 2151 = .ok (.iconst 0, 1) := dk_3 (dk_at dksL_law_87 1 rfl rfl)
theorem dL_law_2152 : decode cL_law 2152 = .ok (.laload, 1) := dk_47 (dk_at dksL_law_87 2 rfl rfl)
theorem dL_law_2153 : decode cL_law 2153 = .ok (.iload 7, 2) := dk_21 7 (dk_at dksL_law_87 3 rfl rfl)
theorem dL_law_2155 : decode cL_law 2155 = .ok (.i2l, 1) := dk_133 (dk_at dksL_law_87 5 rfl rfl)
theorem dL_law_2156 : decode cL_law 2156 = .ok (.lcmp, 1) := dk_148 (dk_at dksL_law_87 6 rfl rfl)
theorem dL_law_2157 : decode cL_law 2157 = .ok (.ifCond .eq 5, 3) := dk_153 0 5 (dk_at dksL_law_87 7 rfl rfl)
theorem dL_law_2160 : decode cL_law 2160 = .ok (.iconst 0, 1) := dk_3 (dk_at dksL_law_87 10 rfl rfl)
theorem dL_law_2161 : decode cL_law 2161 = .ok (.ireturn, 1) := dk_172 (dk_at dksL_law_87 11 rfl rfl)
theorem dL_law_2162 : decode cL_law 2162 = .ok (.goto 60, 3) := dk_167 0 60 (dk_at dksL_law_87 12 rfl rfl)
theorem dL_law_2165 : decode cL_law 2165 = .ok (.aload_n 1, 1) := dk_43 (dk_at dksL_law_87 15 rfl rfl)
theorem dL_law_2166 : decode cL_law 2166 = .ok (.invokevirtual 236, 3) := dk_182 0 236 (dk_at dksL_law_87 16 rfl rfl)
theorem dL_law_2169 : decode cL_law 2169 = .ok (.aload_n 2, 1) := dk_44 (dk_at dksL_law_87 19 rfl rfl)
theorem dL_law_2170 : decode cL_law 2170 = .ok (.invokevirtual 239, 3) := dk_182 0 239 (dk_at dksL_law_87 20 rfl rfl)
theorem dL_law_2173 : decode cL_law 2173 = .ok (.if_icmp .eq 49, 3) := dk_159 0 49 (dk_at dksL_law_88 0 rfl rfl)
theorem dL_law_2176 : decode cL_law 2176 = .ok (.iconst 0, 1) := dk_3 (dk_at dksL_law_88 3 rfl rfl)
theorem dL_law_2177 : decode cL_law 2177 = .ok (.ireturn, 1) := dk_172 (dk_at dksL_law_88 4 rfl rfl)
theorem dL_law_2178 : decode cL_law 2178 = .ok (.aload_n 1, 1) := dk_43 (dk_at dksL_law_88 5 rfl rfl)
theorem dL_law_2179 : decode cL_law 2179 = .ok (.aload_n 3, 1) := dk_45 (dk_at dksL_law_88 6 rfl rfl)
theorem dL_law_2180 : decode cL_law 2180 = .ok (.invokestatic 240, 3) := dk_184 0 240 (dk_at dksL_law_88 7 rfl rfl)
theorem dL_law_2183 : decode cL_law 2183 = .ok (.istore 6, 2) := dk_54 6 (dk_at dksL_law_88 10 rfl rfl)
theorem dL_law_2185 : decode cL_law 2185 = .ok (.aload_n 2, 1) := dk_44 (dk_at dksL_law_88 12 rfl rfl)
theorem dL_law_2186 : decode cL_law 2186 = .ok (.invokevirtual 242, 3) := dk_182 0 242 (dk_at dksL_law_88 13 rfl rfl)
theorem dL_law_2189 : decode cL_law 2189 = .ok (.istore 7, 2) := dk_54 7 (dk_at dksL_law_88 16 rfl rfl)
theorem dL_law_2191 : decode cL_law 2191 = .ok (.aload_n 2, 1) := dk_44 (dk_at dksL_law_88 18 rfl rfl)
theorem dL_law_2192 : decode cL_law 2192 = .ok (.invokevirtual 135, 3) := dk_182 0 135 (dk_at dksL_law_88 19 rfl rfl)
theorem dL_law_2195 : decode cL_law 2195 = .ok (.iload 6, 2) := dk_21 6 (dk_at dksL_law_88 22 rfl rfl)
theorem dL_law_2197 : decode cL_law 2197 = .ok (.if_icmp .eq 5, 3) := dk_159 0 5 (dk_at dksL_law_89 0 rfl rfl)
theorem dL_law_2200 : decode cL_law 2200 = .ok (.iconst 0, 1) := dk_3 (dk_at dksL_law_89 3 rfl rfl)
theorem dL_law_2201 : decode cL_law 2201 = .ok (.ireturn, 1) := dk_172 (dk_at dksL_law_89 4 rfl rfl)
theorem dL_law_2202 : decode cL_law 2202 = .ok (.iload 6, 2) := dk_21 6 (dk_at dksL_law_89 5 rfl rfl)
theorem dL_law_2204 : decode cL_law 2204 = .ok (.ifCond .ne 15, 3) := dk_154 0 15 (dk_at dksL_law_89 7 rfl rfl)
theorem dL_law_2207 : decode cL_law 2207 = .ok (.aload_n 3, 1) := dk_45 (dk_at dksL_law_89 10 rfl rfl)
theorem dL_law_2208 : decode cL_law 2208 = .ok (.iconst 0, 1) := dk_3 (dk_at dksL_law_89 11 rfl rfl)
theorem dL_law_2209 : decode cL_law 2209 = .ok (.laload, 1) := dk_47 (dk_at dksL_law_89 12 rfl rfl)
theorem dL_law_2210 : decode cL_law 2210 = .ok (.iload 7, 2) := dk_21 7 (dk_at dksL_law_89 13 rfl rfl)
theorem dL_law_2212 : decode cL_law 2212 = .ok (.i2l, 1) := dk_133 (dk_at dksL_law_89 15 rfl rfl)
theorem dL_law_2213 : decode cL_law 2213 = .ok (.lcmp, 1) := dk_148 (dk_at dksL_law_89 16 rfl rfl)
theorem dL_law_2214 : decode cL_law 2214 = .ok (.ifCond .eq 5, 3) := dk_153 0 5 (dk_at dksL_law_89 17 rfl rfl)
theorem dL_law_2217 : decode cL_law 2217 = .ok (.iconst 0, 1) := dk_3 (dk_at dksL_law_89 20 rfl rfl)
theorem dL_law_2218 : decode cL_law 2218 = .ok (.ireturn, 1) := dk_172 (dk_at dksL_law_89 21 rfl rfl)
theorem dL_law_2219 : decode cL_law 2219 = .ok (.goto 3, 3) := dk_167 0 3 (dk_at dksL_law_90 0 rfl rfl)
theorem dL_law_2222 : decode cL_law 2222 = .ok (.iinc 5 4, 3) := dk_132 5 4 (dk_at dksL_law_90 3 rfl rfl)
theorem dL_law_2225 : decode cL_law 2225 = .ok (.goto (-2197), 3) := dk_167 247 107 (dk_at dksL_law_90 6 rfl rfl)
theorem dL_law_2228 : decode cL_law 2228 = .ok (.iconst 1, 1) := dk_4 (dk_at dksL_law_90 9 rfl rfl)
theorem dL_law_2229 : decode cL_law 2229 = .ok (.ireturn, 1) := dk_172 (dk_at dksL_law_90 10 rfl rfl)
