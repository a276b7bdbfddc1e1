/-! BlockPapersModel -/
set_option maxRecDepth 100000
def RX3 : String := "BlockPapersModel"
def TX3 : u_T := fun k => match k with
  | 0 => ("BlockPapersModel", "thrown", "I", false)
  | 1 => ("BlockPapersModel", "s", "[I", true)
  | 2 => ("BlockPapersModel", "frame", "[I", true)
  | 3 => ("BlockPapersModel", "saved", "[I", true)
  | 4 => ("BlockPapersModel", "history", "[I", true)
  | 5 => ("BlockPapersModel", "thought", "[I", true)
  | 6 => ("BlockPapersModel", "kept", "I", false)
  | 7 => ("BlockPapersModel", "hasSaved", "Z", false)
  | 8 => ("BlockPapersModel", "text", "[I", true)
  | 9 => ("BlockPapersModel", "told", "[I", true)
  | 10 => ("BlockPapersModel", "out", "[I", true)
  | 11 => ("BlockPapersModel", "length", "I", false)
  | 12 => ("BlockPapersModel", "outLength", "I", false)
  | 13 => ("BlockPapersModel", "faultAt", "I", false)
  | 14 => ("BlockPapersModel", "why", "I", false)
  | 15 => ("BlockPapersModel", "detail", "I", false)
  | 16 => ("BlockPapersModel", "behind", "I", false)
  | 17 => ("BlockPapersModel", "behindDetail", "I", false)
  | 18 => ("BlockPapersModel", "about", "I", false)
  | 19 => ("BlockPapersModel", "answer", "I", false)
  | 20 => ("BlockPapersModel", "spot", "I", false)
  | 21 => ("BlockPapersModel", "end", "I", false)
  | 22 => ("BlockPapersModel", "commands", "I", false)
  | _ => ("BlockPapersModel", "isWrong", "Z", false)
def tyX3 : Nat → FieldType := fun k => match k with
  | 0 => .int
  | 1 => .array .int
  | 2 => .array .int
  | 3 => .array .int
  | 4 => .array .int
  | 5 => .array .int
  | 6 => .int
  | 7 => .boolean
  | 8 => .array .int
  | 9 => .array .int
  | 10 => .array .int
  | 11 => .int
  | 12 => .int
  | 13 => .int
  | 14 => .int
  | 15 => .int
  | 16 => .int
  | 17 => .int
  | 18 => .int
  | 19 => .int
  | 20 => .int
  | 21 => .int
  | 22 => .int
  | _ => .boolean
abbrev wsX30 : List Cond := u_ws RX3 TX3 24
set_option maxRecDepth 100000 in
theorem nmX3 : ∀ a, a < 24 → ∀ b, b < 24 → a ≠ b → (TX3 a).2.1 ≠ (TX3 b).2.1 := by decide +kernel
set_option maxRecDepth 100000 in
theorem tyX3_ok : ∀ k, k < 24 → parseFieldDescriptor (TX3 k).2.2.1 = some (tyX3 k) := by decide +kernel
abbrev cX3_init : ByteArray := prog_19_method_1_code
def yX3_init : MethodName := ⟨RX3, "<init>", "()V"⟩
def dkwX3_init_3 : List UInt8 := [181, 0, 31, 42, 2, 181, 0, 34, 42, 180, 0, 7, 3, 3, 79, 177]
abbrev dktX3_init_3 : List UInt8 := dkwX3_init_3 ++ []
def dkwX3_init_2 : List UInt8 := [181, 0, 22, 42, 16, 60, 188, 10, 181, 0, 25, 42, 16, 120, 188, 10, 181, 0, 28, 42, 16, 60, 188, 10]
abbrev dktX3_init_2 : List UInt8 := dkwX3_init_2 ++ dktX3_init_3
def dkwX3_init_1 : List UInt8 := [17, 3, 25, 188, 10, 181, 0, 16, 42, 17, 24, 200, 188, 10, 181, 0, 19, 42, 17, 3, 25, 188, 10]
abbrev dktX3_init_1 : List UInt8 := dkwX3_init_1 ++ dktX3_init_2
def dkwX3_init_0 : List UInt8 := [42, 183, 0, 1, 42, 17, 3, 25, 188, 10, 181, 0, 7, 42, 17, 3, 25, 188, 10, 181, 0, 13, 42]
abbrev dktX3_init_0 : List UInt8 := dkwX3_init_0 ++ dktX3_init_1
theorem dksX3_init_0 : cX3_init.data.toList.drop 0 = dktX3_init_0 := by decide +kernel
theorem dksX3_init_1 : cX3_init.data.toList.drop 23 = dktX3_init_1 := dk_seg dksX3_init_0 23 rfl rfl
theorem dksX3_init_2 : cX3_init.data.toList.drop 46 = dktX3_init_2 := dk_seg dksX3_init_1 23 rfl rfl
theorem dksX3_init_3 : cX3_init.data.toList.drop 70 = dktX3_init_3 := dk_seg dksX3_init_2 24 rfl rfl
theorem dX3_init_0 : decode cX3_init 0 = .ok (.aload_n 0, 1) := dk_42 (dk_at dksX3_init_0 0 rfl rfl)
theorem dX3_init_1 : decode cX3_init 1 = .ok (.invokespecial 1, 3) := dk_183 0 1 (dk_at dksX3_init_0 1 rfl rfl)
theorem dX3_init_4 : decode cX3_init 4 = .ok (.aload_n 0, 1) := dk_42 (dk_at dksX3_init_0 4 rfl rfl)
theorem dX3_init_5 : decode cX3_init 5 = .ok (.sipush 793, 3) := dk_17 3 25 (dk_at dksX3_init_0 5 rfl rfl)
theorem dX3_init_8 : decode cX3_init 8 = .ok (.newarray .int, 2) := dk_188_10 (dk_at dksX3_init_0 8 rfl rfl)
theorem dX3_init_10 : decode cX3_init 10 = .ok (.putfield 7, 3) := dk_181 0 7 (dk_at dksX3_init_0 10 rfl rfl)
theorem dX3_init_13 : decode cX3_init 13 = .ok (.aload_n 0, 1) := dk_42 (dk_at dksX3_init_0 13 rfl rfl)
theorem dX3_init_14 : decode cX3_init 14 = .ok (.sipush 793, 3) := dk_17 3 25 (dk_at dksX3_init_0 14 rfl rfl)
theorem dX3_init_17 : decode cX3_init 17 = .ok (.newarray .int, 2) := dk_188_10 (dk_at dksX3_init_0 17 rfl rfl)
theorem dX3_init_19 : decode cX3_init 19 = .ok (.putfield 13, 3) := dk_181 0 13 (dk_at dksX3_init_0 19 rfl rfl)
theorem dX3_init_22 : decode cX3_init 22 = .ok (.aload_n 0, 1) := dk_42 (dk_at dksX3_init_0 22 rfl rfl)
theorem dX3_init_23 : decode cX3_init 23 = .ok (.sipush 793, 3) := dk_17 3 25 (dk_at dksX3_init_1 0 rfl rfl)
theorem dX3_init_26 : decode cX3_init 26 = .ok (.newarray .int, 2) := dk_188_10 (dk_at dksX3_init_1 3 rfl rfl)
theorem dX3_init_28 : decode cX3_init 28 = .ok (.putfield 16, 3) := dk_181 0 16 (dk_at dksX3_init_1 5 rfl rfl)
theorem dX3_init_31 : decode cX3_init 31 = .ok (.aload_n 0, 1) := dk_42 (dk_at dksX3_init_1 8 rfl rfl)
theorem dX3_init_32 : decode cX3_init 32 = .ok (.sipush 6344, 3) := dk_17 24 200 (dk_at dksX3_init_1 9 rfl rfl)
theorem dX3_init_35 : decode cX3_init 35 = .ok (.newarray .int, 2) := dk_188_10 (dk_at dksX3_init_1 12 rfl rfl)
theorem dX3_init_37 : decode cX3_init 37 = .ok (.putfield 19, 3) := dk_181 0 19 (dk_at dksX3_init_1 14 rfl rfl)
theorem dX3_init_40 : decode cX3_init 40 = .ok (.aload_n 0, 1) := dk_42 (dk_at dksX3_init_1 17 rfl rfl)
theorem dX3_init_41 : decode cX3_init 41 = .ok (.sipush 793, 3) := dk_17 3 25 (dk_at dksX3_init_1 18 rfl rfl)
theorem dX3_init_44 : decode cX3_init 44 = .ok (.newarray .int, 2) := dk_188_10 (dk_at dksX3_init_1 21 rfl rfl)
theorem dX3_init_46 : decode cX3_init 46 = .ok (.putfield 22, 3) := dk_181 0 22 (dk_at dksX3_init_2 0 rfl rfl)
theorem dX3_init_49 : decode cX3_init 49 = .ok (.aload_n 0, 1) := dk_42 (dk_at dksX3_init_2 3 rfl rfl)
theorem dX3_init_50 : decode cX3_init 50 = .ok (.bipush 60, 2) := dk_16 60 (dk_at dksX3_init_2 4 rfl rfl)
theorem dX3_init_52 : decode cX3_init 52 = .ok (.newarray .int, 2) := dk_188_10 (dk_at dksX3_init_2 6 rfl rfl)
theorem dX3_init_54 : decode cX3_init 54 = .ok (.putfield 25, 3) := dk_181 0 25 (dk_at dksX3_init_2 8 rfl rfl)
theorem dX3_init_57 : decode cX3_init 57 = .ok (.aload_n 0, 1) := dk_42 (dk_at dksX3_init_2 11 rfl rfl)
theorem dX3_init_58 : decode cX3_init 58 = .ok (.bipush 120, 2) := dk_16 120 (dk_at dksX3_init_2 12 rfl rfl)
theorem dX3_init_60 : decode cX3_init 60 = .ok (.newarray .int, 2) := dk_188_10 (dk_at dksX3_init_2 14 rfl rfl)
theorem dX3_init_62 : decode cX3_init 62 = .ok (.putfield 28, 3) := dk_181 0 28 (dk_at dksX3_init_2 16 rfl rfl)
theorem dX3_init_65 : decode cX3_init 65 = .ok (.aload_n 0, 1) := dk_42 (dk_at dksX3_init_2 19 rfl rfl)
theorem dX3_init_66 : decode cX3_init 66 = .ok (.bipush 60, 2) := dk_16 60 (dk_at dksX3_init_2 20 rfl rfl)
theorem dX3_init_68 : decode cX3_init 68 = .ok (.newarray .int, 2) := dk_188_10 (dk_at dksX3_init_2 22 rfl rfl)
theorem dX3_init_70 : decode cX3_init 70 = .ok (.putfield 31, 3) := dk_181 0 31 (dk_at dksX3_init_3 0 rfl rfl)
theorem dX3_init_73 : decode cX3_init 73 = .ok (.aload_n 0, 1) := dk_42 (dk_at dksX3_init_3 3 rfl rfl)
theorem dX3_init_74 : decode cX3_init 74 = .ok (.iconst (-1), 1) := dk_2 (dk_at dksX3_init_3 4 rfl rfl)
theorem dX3_init_75 : decode cX3_init 75 = .ok (.putfield 34, 3) := dk_181 0 34 (dk_at dksX3_init_3 5 rfl rfl)
theorem dX3_init_78 : decode cX3_init 78 = .ok (.aload_n 0, 1) := dk_42 (dk_at dksX3_init_3 8 rfl rfl)
theorem dX3_init_79 : decode cX3_init 79 = .ok (.getfield 7, 3) := dk_180 0 7 (dk_at dksX3_init_3 9 rfl rfl)
theorem dX3_init_82 : decode cX3_init 82 = .ok (.iconst 0, 1) := dk_3 (dk_at dksX3_init_3 12 rfl rfl)
theorem dX3_init_83 : decode cX3_init 83 = .ok (.iconst 0, 1) := dk_3 (dk_at dksX3_init_3 13 rfl rfl)
theorem dX3_init_84 : decode cX3_init 84 = .ok (.iastore, 1) := dk_79 (dk_at dksX3_init_3 14 rfl rfl)
theorem dX3_init_85 : decode cX3_init 85 = .ok (.return_, 1) := dk_177 (dk_at dksX3_init_3 15 rfl rfl)
abbrev cX3_thrown : ByteArray := prog_19_method_2_code
def yX3_thrown : MethodName := ⟨RX3, "thrown", "()I"⟩
theorem dX3_thrown_0 : decode cX3_thrown 0 = .ok (.aload_n 0, 1) := by decide +kernel
theorem dX3_thrown_1 : decode cX3_thrown 1 = .ok (.getfield 38, 3) := by decide +kernel
theorem dX3_thrown_4 : decode cX3_thrown 4 = .ok (.ireturn, 1) := by decide +kernel
abbrev cX3_block : ByteArray := prog_19_method_39_code
def yX3_block : MethodName := ⟨RX3, "block", "(IZ)I"⟩
def dkwX3_block_1 : List UInt8 := [182, 0, 128, 5, 182, 0, 132, 167, 0, 8, 42, 4, 182, 0, 63, 172]
abbrev dktX3_block_1 : List UInt8 := dkwX3_block_1 ++ []
def dkwX3_block_0 : List UInt8 := [42, 3, 181, 0, 38, 42, 182, 0, 125, 27, 16, 10, 16, 90, 184, 0, 66, 153, 0, 17, 42, 42, 27, 28]
abbrev dktX3_block_0 : List UInt8 := dkwX3_block_0 ++ dktX3_block_1
theorem dksX3_block_0 : cX3_block.data.toList.drop 0 = dktX3_block_0 := by decide +kernel
theorem dksX3_block_1 : cX3_block.data.toList.drop 24 = dktX3_block_1 := dk_seg dksX3_block_0 24 rfl rfl
theorem dX3_block_0 : decode cX3_block 0 = .ok (.aload_n 0, 1) := dk_42 (dk_at dksX3_block_0 0 rfl rfl)
theorem dX3_block_1 : decode cX3_block 1 = .ok (.iconst 0, 1) := dk_3 (dk_at dksX3_block_0 1 rfl rfl)
theorem dX3_block_2 : decode cX3_block 2 = .ok (.putfield 38, 3) := dk_181 0 38 (dk_at dksX3_block_0 2 rfl rfl)
theorem dX3_block_5 : decode cX3_block 5 = .ok (.aload_n 0, 1) := dk_42 (dk_at dksX3_block_0 5 rfl rfl)
theorem dX3_block_6 : decode cX3_block 6 = .ok (.invokevirtual 125, 3) := dk_182 0 125 (dk_at dksX3_block_0 6 rfl rfl)
theorem dX3_block_9 : decode cX3_block 9 = .ok (.iload_n 1, 1) := dk_27 (dk_at dksX3_block_0 9 rfl rfl)
theorem dX3_block_10 : decode cX3_block 10 = .ok (.bipush 10, 2) := dk_16 10 (dk_at dksX3_block_0 10 rfl rfl)
theorem dX3_block_12 : decode cX3_block 12 = .ok (.bipush 90, 2) := dk_16 90 (dk_at dksX3_block_0 12 rfl rfl)
theorem dX3_block_14 : decode cX3_block 14 = .ok (.invokestatic 66, 3) := dk_184 0 66 (dk_at dksX3_block_0 14 rfl rfl)
theorem dX3_block_17 : decode cX3_block 17 = .ok (.ifCond .eq 17, 3) := dk_153 0 17 (dk_at dksX3_block_0 17 rfl rfl)
theorem dX3_block_20 : decode cX3_block 20 = .ok (.aload_n 0, 1) := dk_42 (dk_at dksX3_block_0 20 rfl rfl)
theorem dX3_block_21 : decode cX3_block 21 = .ok (.aload_n 0, 1) := dk_42 (dk_at dksX3_block_0 21 rfl rfl)
theorem dX3_block_22 : decode cX3_block 22 = .ok (.iload_n 1, 1) := dk_27 (dk_at dksX3_block_0 22 rfl rfl)
theorem dX3_block_23 : decode cX3_block 23 = .ok (.iload_n 2, 1) := dk_28 (dk_at dksX3_block_0 23 rfl rfl)
theorem dX3_block_24 : decode cX3_block 24 = .ok (.invokevirtual 128, 3) := dk_182 0 128 (dk_at dksX3_block_1 0 rfl rfl)
theorem dX3_block_27 : decode cX3_block 27 = .ok (.iconst 2, 1) := dk_5 (dk_at dksX3_block_1 3 rfl rfl)
theorem dX3_block_28 : decode cX3_block 28 = .ok (.invokevirtual 132, 3) := dk_182 0 132 (dk_at dksX3_block_1 4 rfl rfl)
theorem dX3_block_31 : decode cX3_block 31 = .ok (.goto 8, 3) := dk_167 0 8 (dk_at dksX3_block_1 7 rfl rfl)
theorem dX3_block_34 : decode cX3_block 34 = .ok (.aload_n 0, 1) := dk_42 (dk_at dksX3_block_1 10 rfl rfl)
theorem dX3_block_35 : decode cX3_block 35 = .ok (.iconst 1, 1) := dk_4 (dk_at dksX3_block_1 11 rfl rfl)
theorem dX3_block_36 : decode cX3_block 36 = .ok (.invokevirtual 63, 3) := dk_182 0 63 (dk_at dksX3_block_1 12 rfl rfl)
theorem dX3_block_39 : decode cX3_block 39 = .ok (.ireturn, 1) := dk_172 (dk_at dksX3_block_1 15 rfl rfl)
abbrev cX3_remembers : ByteArray := prog_19_method_5_code
def yX3_remembers : MethodName := ⟨RX3, "remembers", "()V"⟩
def dkwX3_remembers_1 : List UInt8 := [167, 255, 234, 177]
abbrev dktX3_remembers_1 : List UInt8 := dkwX3_remembers_1 ++ []
def dkwX3_remembers_0 : List UInt8 := [3, 60, 27, 17, 3, 25, 162, 0, 21, 42, 180, 0, 13, 27, 42, 180, 0, 7, 27, 46, 79, 132, 1, 1]
abbrev dktX3_remembers_0 : List UInt8 := dkwX3_remembers_0 ++ dktX3_remembers_1
theorem dksX3_remembers_0 : cX3_remembers.data.toList.drop 0 = dktX3_remembers_0 := by decide +kernel
theorem dksX3_remembers_1 : cX3_remembers.data.toList.drop 24 = dktX3_remembers_1 := dk_seg dksX3_remembers_0 24 rfl rfl
theorem dX3_remembers_0 : decode cX3_remembers 0 = .ok (.iconst 0, 1) := dk_3 (dk_at dksX3_remembers_0 0 rfl rfl)
theorem dX3_remembers_1 : decode cX3_remembers 1 = .ok (.istore_n 1, 1) := dk_60 (dk_at dksX3_remembers_0 1 rfl rfl)
theorem dX3_remembers_2 : decode cX3_remembers 2 = .ok (.iload_n 1, 1) := dk_27 (dk_at dksX3_remembers_0 2 rfl rfl)
theorem dX3_remembers_3 : decode cX3_remembers 3 = .ok (.sipush 793, 3) := dk_17 3 25 (dk_at dksX3_remembers_0 3 rfl rfl)
theorem dX3_remembers_6 : decode cX3_remembers 6 = .ok (.if_icmp .ge 21, 3) := dk_162 0 21 (dk_at dksX3_remembers_0 6 rfl rfl)
theorem dX3_remembers_9 : decode cX3_remembers 9 = .ok (.aload_n 0, 1) := dk_42 (dk_at dksX3_remembers_0 9 rfl rfl)
theorem dX3_remembers_10 : decode cX3_remembers 10 = .ok (.getfield 13, 3) := dk_180 0 13 (dk_at dksX3_remembers_0 10 rfl rfl)
theorem dX3_remembers_13 : decode cX3_remembers 13 = .ok (.iload_n 1, 1) := dk_27 (dk_at dksX3_remembers_0 13 rfl rfl)
theorem dX3_remembers_14 : decode cX3_remembers 14 = .ok (.aload_n 0, 1) := dk_42 (dk_at dksX3_remembers_0 14 rfl rfl)
theorem dX3_remembers_15 : decode cX3_remembers 15 = .ok (.getfield 7, 3) := dk_180 0 7 (dk_at dksX3_remembers_0 15 rfl rfl)
theorem dX3_remembers_18 : decode cX3_remembers 18 = .ok (.iload_n 1, 1) := dk_27 (dk_at dksX3_remembers_0 18 rfl rfl)
theorem dX3_remembers_19 : decode cX3_remembers 19 = .ok (.iaload, 1) := dk_46 (dk_at dksX3_remembers_0 19 rfl rfl)
theorem dX3_remembers_20 : decode cX3_remembers 20 = .ok (.iastore, 1) := dk_79 (dk_at dksX3_remembers_0 20 rfl rfl)
theorem dX3_remembers_21 : decode cX3_remembers 21 = .ok (.iinc 1 1, 3) := dk_132 1 1 (dk_at dksX3_remembers_0 21 rfl rfl)
theorem dX3_remembers_24 : decode cX3_remembers 24 = .ok (.goto (-22), 3) := dk_167 255 234 (dk_at dksX3_remembers_1 0 rfl rfl)
theorem dX3_remembers_27 : decode cX3_remembers 27 = .ok (.return_, 1) := dk_177 (dk_at dksX3_remembers_1 3 rfl rfl)
abbrev cX3_in : ByteArray := prog_19_method_4_code
def yX3_in : MethodName := ⟨RX3, "in", "(III)Z"⟩
def dkwX3_in_0 : List UInt8 := [26, 27, 161, 0, 12, 26, 28, 163, 0, 7, 4, 167, 0, 4, 3, 172]
abbrev dktX3_in_0 : List UInt8 := dkwX3_in_0 ++ []
theorem dksX3_in_0 : cX3_in.data.toList.drop 0 = dktX3_in_0 := by decide +kernel
theorem dX3_in_0 : decode cX3_in 0 = .ok (.iload_n 0, 1) := dk_26 (dk_at dksX3_in_0 0 rfl rfl)
theorem dX3_in_1 : decode cX3_in 1 = .ok (.iload_n 1, 1) := dk_27 (dk_at dksX3_in_0 1 rfl rfl)
theorem dX3_in_2 : decode cX3_in 2 = .ok (.if_icmp .lt 12, 3) := dk_161 0 12 (dk_at dksX3_in_0 2 rfl rfl)
theorem dX3_in_5 : decode cX3_in 5 = .ok (.iload_n 0, 1) := dk_26 (dk_at dksX3_in_0 5 rfl rfl)
theorem dX3_in_6 : decode cX3_in 6 = .ok (.iload_n 2, 1) := dk_28 (dk_at dksX3_in_0 6 rfl rfl)
theorem dX3_in_7 : decode cX3_in 7 = .ok (.if_icmp .gt 7, 3) := dk_163 0 7 (dk_at dksX3_in_0 7 rfl rfl)
theorem dX3_in_10 : decode cX3_in 10 = .ok (.iconst 1, 1) := dk_4 (dk_at dksX3_in_0 10 rfl rfl)
theorem dX3_in_11 : decode cX3_in 11 = .ok (.goto 4, 3) := dk_167 0 4 (dk_at dksX3_in_0 11 rfl rfl)
theorem dX3_in_14 : decode cX3_in 14 = .ok (.iconst 0, 1) := dk_3 (dk_at dksX3_in_0 14 rfl rfl)
theorem dX3_in_15 : decode cX3_in 15 = .ok (.ireturn, 1) := dk_172 (dk_at dksX3_in_0 15 rfl rfl)
abbrev cX3_blocks : ByteArray := prog_19_method_31_code
def yX3_blocks : MethodName := ⟨RX3, "blocks", "(IZ)I"⟩
def dkwX3_blocks_2 : List UInt8 := [153, 0, 7, 4, 167, 0, 4, 3, 79, 42, 180, 0, 7, 3, 29, 4, 96, 79, 42, 29, 182, 0, 113, 172]
abbrev dktX3_blocks_2 : List UInt8 := dkwX3_blocks_2 ++ []
def dkwX3_blocks_1 : List UInt8 := [180, 0, 7, 16, 7, 7, 29, 104, 96, 27, 79, 42, 180, 0, 7, 16, 7, 7, 29, 104, 96, 4, 96, 28]
abbrev dktX3_blocks_1 : List UInt8 := dkwX3_blocks_1 ++ dktX3_blocks_2
def dkwX3_blocks_0 : List UInt8 := [42, 180, 0, 7, 3, 46, 62, 29, 16, 6, 160, 0, 11, 42, 4, 16, 6, 182, 0, 95, 172, 42]
abbrev dktX3_blocks_0 : List UInt8 := dkwX3_blocks_0 ++ dktX3_blocks_1
theorem dksX3_blocks_0 : cX3_blocks.data.toList.drop 0 = dktX3_blocks_0 := by decide +kernel
theorem dksX3_blocks_1 : cX3_blocks.data.toList.drop 22 = dktX3_blocks_1 := dk_seg dksX3_blocks_0 22 rfl rfl
theorem dksX3_blocks_2 : cX3_blocks.data.toList.drop 46 = dktX3_blocks_2 := dk_seg dksX3_blocks_1 24 rfl rfl
theorem dX3_blocks_0 : decode cX3_blocks 0 = .ok (.aload_n 0, 1) := dk_42 (dk_at dksX3_blocks_0 0 rfl rfl)
theorem dX3_blocks_1 : decode cX3_blocks 1 = .ok (.getfield 7, 3) := dk_180 0 7 (dk_at dksX3_blocks_0 1 rfl rfl)
theorem dX3_blocks_4 : decode cX3_blocks 4 = .ok (.iconst 0, 1) := dk_3 (dk_at dksX3_blocks_0 4 rfl rfl)
theorem dX3_blocks_5 : decode cX3_blocks 5 = .ok (.iaload, 1) := dk_46 (dk_at dksX3_blocks_0 5 rfl rfl)
theorem dX3_blocks_6 : decode cX3_blocks 6 = .ok (.istore_n 3, 1) := dk_62 (dk_at dksX3_blocks_0 6 rfl rfl)
theorem dX3_blocks_7 : decode cX3_blocks 7 = .ok (.iload_n 3, 1) := dk_29 (dk_at dksX3_blocks_0 7 rfl rfl)
theorem dX3_blocks_8 : decode cX3_blocks 8 = .ok (.bipush 6, 2) := dk_16 6 (dk_at dksX3_blocks_0 8 rfl rfl)
theorem dX3_blocks_10 : decode cX3_blocks 10 = .ok (.if_icmp .ne 11, 3) := dk_160 0 11 (dk_at dksX3_blocks_0 10 rfl rfl)
theorem dX3_blocks_13 : decode cX3_blocks 13 = .ok (.aload_n 0, 1) := dk_42 (dk_at dksX3_blocks_0 13 rfl rfl)
theorem dX3_blocks_14 : decode cX3_blocks 14 = .ok (.iconst 1, 1) := dk_4 (dk_at dksX3_blocks_0 14 rfl rfl)
theorem dX3_blocks_15 : decode cX3_blocks 15 = .ok (.bipush 6, 2) := dk_16 6 (dk_at dksX3_blocks_0 15 rfl rfl)
theorem dX3_blocks_17 : decode cX3_blocks 17 = .ok (.invokevirtual 95, 3) := dk_182 0 95 (dk_at dksX3_blocks_0 17 rfl rfl)
theorem dX3_blocks_20 : decode cX3_blocks 20 = .ok (.ireturn, 1) := dk_172 (dk_at dksX3_blocks_0 20 rfl rfl)
theorem dX3_blocks_21 : decode cX3_blocks 21 = .ok (.aload_n 0, 1) := dk_42 (dk_at dksX3_blocks_0 21 rfl rfl)
theorem dX3_blocks_22 : decode cX3_blocks 22 = .ok (.getfield 7, 3) := dk_180 0 7 (dk_at dksX3_blocks_1 0 rfl rfl)
theorem dX3_blocks_25 : decode cX3_blocks 25 = .ok (.bipush 7, 2) := dk_16 7 (dk_at dksX3_blocks_1 3 rfl rfl)
theorem dX3_blocks_27 : decode cX3_blocks 27 = .ok (.iconst 4, 1) := dk_7 (dk_at dksX3_blocks_1 5 rfl rfl)
theorem dX3_blocks_28 : decode cX3_blocks 28 = .ok (.iload_n 3, 1) := dk_29 (dk_at dksX3_blocks_1 6 rfl rfl)
theorem dX3_blocks_29 : decode cX3_blocks 29 = .ok (.imul, 1) := dk_104 (dk_at dksX3_blocks_1 7 rfl rfl)
theorem dX3_blocks_30 : decode cX3_blocks 30 = .ok (.iadd, 1) := dk_96 (dk_at dksX3_blocks_1 8 rfl rfl)
theorem dX3_blocks_31 : decode cX3_blocks 31 = .ok (.iload_n 1, 1) := dk_27 (dk_at dksX3_blocks_1 9 rfl rfl)
theorem dX3_blocks_32 : decode cX3_blocks 32 = .ok (.iastore, 1) := dk_79 (dk_at dksX3_blocks_1 10 rfl rfl)
theorem dX3_blocks_33 : decode cX3_blocks 33 = .ok (.aload_n 0, 1) := dk_42 (dk_at dksX3_blocks_1 11 rfl rfl)
theorem dX3_blocks_34 : decode cX3_blocks 34 = .ok (.getfield 7, 3) := dk_180 0 7 (dk_at dksX3_blocks_1 12 rfl rfl)
theorem dX3_blocks_37 : decode cX3_blocks 37 = .ok (.bipush 7, 2) := dk_16 7 (dk_at dksX3_blocks_1 15 rfl rfl)
theorem dX3_blocks_39 : decode cX3_blocks 39 = .ok (.iconst 4, 1) := dk_7 (dk_at dksX3_blocks_1 17 rfl rfl)
theorem dX3_blocks_40 : decode cX3_blocks 40 = .ok (.iload_n 3, 1) := dk_29 (dk_at dksX3_blocks_1 18 rfl rfl)
theorem dX3_blocks_41 : decode cX3_blocks 41 = .ok (.imul, 1) := dk_104 (dk_at dksX3_blocks_1 19 rfl rfl)
theorem dX3_blocks_42 : decode cX3_blocks 42 = .ok (.iadd, 1) := dk_96 (dk_at dksX3_blocks_1 20 rfl rfl)
theorem dX3_blocks_43 : decode cX3_blocks 43 = .ok (.iconst 1, 1) := dk_4 (dk_at dksX3_blocks_1 21 rfl rfl)
theorem dX3_blocks_44 : decode cX3_blocks 44 = .ok (.iadd, 1) := dk_96 (dk_at dksX3_blocks_1 22 rfl rfl)
theorem dX3_blocks_45 : decode cX3_blocks 45 = .ok (.iload_n 2, 1) := dk_28 (dk_at dksX3_blocks_1 23 rfl rfl)
theorem dX3_blocks_46 : decode cX3_blocks 46 = .ok (.ifCond .eq 7, 3) := dk_153 0 7 (dk_at dksX3_blocks_2 0 rfl rfl)
theorem dX3_blocks_49 : decode cX3_blocks 49 = .ok (.iconst 1, 1) := dk_4 (dk_at dksX3_blocks_2 3 rfl rfl)
theorem dX3_blocks_50 : decode cX3_blocks 50 = .ok (.goto 4, 3) := dk_167 0 4 (dk_at dksX3_blocks_2 4 rfl rfl)
theorem dX3_blocks_53 : decode cX3_blocks 53 = .ok (.iconst 0, 1) := dk_3 (dk_at dksX3_blocks_2 7 rfl rfl)
theorem dX3_blocks_54 : decode cX3_blocks 54 = .ok (.iastore, 1) := dk_79 (dk_at dksX3_blocks_2 8 rfl rfl)
theorem dX3_blocks_55 : decode cX3_blocks 55 = .ok (.aload_n 0, 1) := dk_42 (dk_at dksX3_blocks_2 9 rfl rfl)
theorem dX3_blocks_56 : decode cX3_blocks 56 = .ok (.getfield 7, 3) := dk_180 0 7 (dk_at dksX3_blocks_2 10 rfl rfl)
theorem dX3_blocks_59 : decode cX3_blocks 59 = .ok (.iconst 0, 1) := dk_3 (dk_at dksX3_blocks_2 13 rfl rfl)
theorem dX3_blocks_60 : decode cX3_blocks 60 = .ok (.iload_n 3, 1) := dk_29 (dk_at dksX3_blocks_2 14 rfl rfl)
theorem dX3_blocks_61 : decode cX3_blocks 61 = .ok (.iconst 1, 1) := dk_4 (dk_at dksX3_blocks_2 15 rfl rfl)
theorem dX3_blocks_62 : decode cX3_blocks 62 = .ok (.iadd, 1) := dk_96 (dk_at dksX3_blocks_2 16 rfl rfl)
theorem dX3_blocks_63 : decode cX3_blocks 63 = .ok (.iastore, 1) := dk_79 (dk_at dksX3_blocks_2 17 rfl rfl)
theorem dX3_blocks_64 : decode cX3_blocks 64 = .ok (.aload_n 0, 1) := dk_42 (dk_at dksX3_blocks_2 18 rfl rfl)
theorem dX3_blocks_65 : decode cX3_blocks 65 = .ok (.iload_n 3, 1) := dk_29 (dk_at dksX3_blocks_2 19 rfl rfl)
theorem dX3_blocks_66 : decode cX3_blocks 66 = .ok (.invokevirtual 113, 3) := dk_182 0 113 (dk_at dksX3_blocks_2 20 rfl rfl)
theorem dX3_blocks_69 : decode cX3_blocks 69 = .ok (.ireturn, 1) := dk_172 (dk_at dksX3_blocks_2 23 rfl rfl)
abbrev cX3_refused : ByteArray := prog_19_method_7_code
def yX3_refused : MethodName := ⟨RX3, "refused", "(II)I"⟩
def dkwX3_refused_0 : List UInt8 := [42, 28, 181, 0, 44, 27, 172]
abbrev dktX3_refused_0 : List UInt8 := dkwX3_refused_0 ++ []
theorem dksX3_refused_0 : cX3_refused.data.toList.drop 0 = dktX3_refused_0 := by decide +kernel
theorem dX3_refused_0 : decode cX3_refused 0 = .ok (.aload_n 0, 1) := dk_42 (dk_at dksX3_refused_0 0 rfl rfl)
theorem dX3_refused_1 : decode cX3_refused 1 = .ok (.iload_n 2, 1) := dk_28 (dk_at dksX3_refused_0 1 rfl rfl)
theorem dX3_refused_2 : decode cX3_refused 2 = .ok (.putfield 44, 3) := dk_181 0 44 (dk_at dksX3_refused_0 2 rfl rfl)
theorem dX3_refused_5 : decode cX3_refused 5 = .ok (.iload_n 1, 1) := dk_27 (dk_at dksX3_refused_0 5 rfl rfl)
theorem dX3_refused_6 : decode cX3_refused 6 = .ok (.ireturn, 1) := dk_172 (dk_at dksX3_refused_0 6 rfl rfl)
abbrev cX3_done : ByteArray := prog_19_method_8_code
def yX3_done : MethodName := ⟨RX3, "done", "(I)I"⟩
def dkwX3_done_0 : List UInt8 := [42, 27, 181, 0, 47, 3, 172]
abbrev dktX3_done_0 : List UInt8 := dkwX3_done_0 ++ []
theorem dksX3_done_0 : cX3_done.data.toList.drop 0 = dktX3_done_0 := by decide +kernel
theorem dX3_done_0 : decode cX3_done 0 = .ok (.aload_n 0, 1) := dk_42 (dk_at dksX3_done_0 0 rfl rfl)
theorem dX3_done_1 : decode cX3_done 1 = .ok (.iload_n 1, 1) := dk_27 (dk_at dksX3_done_0 1 rfl rfl)
theorem dX3_done_2 : decode cX3_done 2 = .ok (.putfield 47, 3) := dk_181 0 47 (dk_at dksX3_done_0 2 rfl rfl)
theorem dX3_done_5 : decode cX3_done 5 = .ok (.iconst 0, 1) := dk_3 (dk_at dksX3_done_0 5 rfl rfl)
theorem dX3_done_6 : decode cX3_done 6 = .ok (.ireturn, 1) := dk_172 (dk_at dksX3_done_0 6 rfl rfl)
abbrev cX3_ends : ByteArray := prog_19_method_9_code
def yX3_ends : MethodName := ⟨RX3, "ends", "(II)I"⟩
def dkwX3_ends_1 : List UInt8 := [181, 0, 57, 42, 3, 181, 0, 60, 42, 28, 182, 0, 63, 172]
abbrev dktX3_ends_1 : List UInt8 := dkwX3_ends_1 ++ []
def dkwX3_ends_0 : List UInt8 := [27, 154, 0, 12, 42, 42, 180, 0, 47, 182, 0, 50, 172, 42, 27, 181, 0, 54, 42, 42, 180, 0, 44]
abbrev dktX3_ends_0 : List UInt8 := dkwX3_ends_0 ++ dktX3_ends_1
theorem dksX3_ends_0 : cX3_ends.data.toList.drop 0 = dktX3_ends_0 := by decide +kernel
theorem dksX3_ends_1 : cX3_ends.data.toList.drop 23 = dktX3_ends_1 := dk_seg dksX3_ends_0 23 rfl rfl
theorem dX3_ends_0 : decode cX3_ends 0 = .ok (.iload_n 1, 1) := dk_27 (dk_at dksX3_ends_0 0 rfl rfl)
theorem dX3_ends_1 : decode cX3_ends 1 = .ok (.ifCond .ne 12, 3) := dk_154 0 12 (dk_at dksX3_ends_0 1 rfl rfl)
theorem dX3_ends_4 : decode cX3_ends 4 = .ok (.aload_n 0, 1) := dk_42 (dk_at dksX3_ends_0 4 rfl rfl)
theorem dX3_ends_5 : decode cX3_ends 5 = .ok (.aload_n 0, 1) := dk_42 (dk_at dksX3_ends_0 5 rfl rfl)
theorem dX3_ends_6 : decode cX3_ends 6 = .ok (.getfield 47, 3) := dk_180 0 47 (dk_at dksX3_ends_0 6 rfl rfl)
theorem dX3_ends_9 : decode cX3_ends 9 = .ok (.invokevirtual 50, 3) := dk_182 0 50 (dk_at dksX3_ends_0 9 rfl rfl)
theorem dX3_ends_12 : decode cX3_ends 12 = .ok (.ireturn, 1) := dk_172 (dk_at dksX3_ends_0 12 rfl rfl)
theorem dX3_ends_13 : decode cX3_ends 13 = .ok (.aload_n 0, 1) := dk_42 (dk_at dksX3_ends_0 13 rfl rfl)
theorem dX3_ends_14 : decode cX3_ends 14 = .ok (.iload_n 1, 1) := dk_27 (dk_at dksX3_ends_0 14 rfl rfl)
theorem dX3_ends_15 : decode cX3_ends 15 = .ok (.putfield 54, 3) := dk_181 0 54 (dk_at dksX3_ends_0 15 rfl rfl)
theorem dX3_ends_18 : decode cX3_ends 18 = .ok (.aload_n 0, 1) := dk_42 (dk_at dksX3_ends_0 18 rfl rfl)
theorem dX3_ends_19 : decode cX3_ends 19 = .ok (.aload_n 0, 1) := dk_42 (dk_at dksX3_ends_0 19 rfl rfl)
theorem dX3_ends_20 : decode cX3_ends 20 = .ok (.getfield 44, 3) := dk_180 0 44 (dk_at dksX3_ends_0 20 rfl rfl)
theorem dX3_ends_23 : decode cX3_ends 23 = .ok (.putfield 57, 3) := dk_181 0 57 (dk_at dksX3_ends_1 0 rfl rfl)
theorem dX3_ends_26 : decode cX3_ends 26 = .ok (.aload_n 0, 1) := dk_42 (dk_at dksX3_ends_1 3 rfl rfl)
theorem dX3_ends_27 : decode cX3_ends 27 = .ok (.iconst 0, 1) := dk_3 (dk_at dksX3_ends_1 4 rfl rfl)
theorem dX3_ends_28 : decode cX3_ends 28 = .ok (.putfield 60, 3) := dk_181 0 60 (dk_at dksX3_ends_1 5 rfl rfl)
theorem dX3_ends_31 : decode cX3_ends 31 = .ok (.aload_n 0, 1) := dk_42 (dk_at dksX3_ends_1 8 rfl rfl)
theorem dX3_ends_32 : decode cX3_ends 32 = .ok (.iload_n 2, 1) := dk_28 (dk_at dksX3_ends_1 9 rfl rfl)
theorem dX3_ends_33 : decode cX3_ends 33 = .ok (.invokevirtual 63, 3) := dk_182 0 63 (dk_at dksX3_ends_1 10 rfl rfl)
theorem dX3_ends_36 : decode cX3_ends 36 = .ok (.ireturn, 1) := dk_172 (dk_at dksX3_ends_1 13 rfl rfl)
abbrev cX3_changed : ByteArray := prog_19_method_6_code
def yX3_changed : MethodName := ⟨RX3, "changed", "(I)I"⟩
def dkwX3_changed_3 : List UInt8 := [180, 0, 41, 4, 100, 104, 28, 96, 42, 180, 0, 13, 28, 46, 79, 132, 2, 1, 167, 255, 223, 27, 172]
abbrev dktX3_changed_3 : List UInt8 := dkwX3_changed_3 ++ []
def dkwX3_changed_2 : List UInt8 := [4, 96, 181, 0, 41, 3, 61, 28, 17, 3, 25, 162, 0, 32, 42, 180, 0, 19, 17, 3, 25, 42]
abbrev dktX3_changed_2 : List UInt8 := dkwX3_changed_2 ++ dktX3_changed_3
def dkwX3_changed_1 : List UInt8 := [180, 0, 19, 28, 17, 3, 25, 96, 46, 79, 132, 2, 1, 167, 255, 230, 167, 0, 13, 42, 89, 180, 0, 41]
abbrev dktX3_changed_1 : List UInt8 := dkwX3_changed_1 ++ dktX3_changed_2
def dkwX3_changed_0 : List UInt8 := [42, 180, 0, 41, 16, 8, 160, 0, 37, 3, 61, 28, 17, 21, 175, 162, 0, 25, 42, 180, 0, 19, 28, 42]
abbrev dktX3_changed_0 : List UInt8 := dkwX3_changed_0 ++ dktX3_changed_1
theorem dksX3_changed_0 : cX3_changed.data.toList.drop 0 = dktX3_changed_0 := by decide +kernel
theorem dksX3_changed_1 : cX3_changed.data.toList.drop 24 = dktX3_changed_1 := dk_seg dksX3_changed_0 24 rfl rfl
theorem dksX3_changed_2 : cX3_changed.data.toList.drop 48 = dktX3_changed_2 := dk_seg dksX3_changed_1 24 rfl rfl
theorem dksX3_changed_3 : cX3_changed.data.toList.drop 70 = dktX3_changed_3 := dk_seg dksX3_changed_2 22 rfl rfl
theorem dX3_changed_0 : decode cX3_changed 0 = .ok (.aload_n 0, 1) := dk_42 (dk_at dksX3_changed_0 0 rfl rfl)
theorem dX3_changed_1 : decode cX3_changed 1 = .ok (.getfield 41, 3) := dk_180 0 41 (dk_at dksX3_changed_0 1 rfl rfl)
theorem dX3_changed_4 : decode cX3_changed 4 = .ok (.bipush 8, 2) := dk_16 8 (dk_at dksX3_changed_0 4 rfl rfl)
theorem dX3_changed_6 : decode cX3_changed 6 = .ok (.if_icmp .ne 37, 3) := dk_160 0 37 (dk_at dksX3_changed_0 6 rfl rfl)
theorem dX3_changed_9 : decode cX3_changed 9 = .ok (.iconst 0, 1) := dk_3 (dk_at dksX3_changed_0 9 rfl rfl)
theorem dX3_changed_10 : decode cX3_changed 10 = .ok (.istore_n 2, 1) := dk_61 (dk_at dksX3_changed_0 10 rfl rfl)
theorem dX3_changed_11 : decode cX3_changed 11 = .ok (.iload_n 2, 1) := dk_28 (dk_at dksX3_changed_0 11 rfl rfl)
theorem dX3_changed_12 : decode cX3_changed 12 = .ok (.sipush 5551, 3) := dk_17 21 175 (dk_at dksX3_changed_0 12 rfl rfl)
theorem dX3_changed_15 : decode cX3_changed 15 = .ok (.if_icmp .ge 25, 3) := dk_162 0 25 (dk_at dksX3_changed_0 15 rfl rfl)
theorem dX3_changed_18 : decode cX3_changed 18 = .ok (.aload_n 0, 1) := dk_42 (dk_at dksX3_changed_0 18 rfl rfl)
theorem dX3_changed_19 : decode cX3_changed 19 = .ok (.getfield 19, 3) := dk_180 0 19 (dk_at dksX3_changed_0 19 rfl rfl)
theorem dX3_changed_22 : decode cX3_changed 22 = .ok (.iload_n 2, 1) := dk_28 (dk_at dksX3_changed_0 22 rfl rfl)
theorem dX3_changed_23 : decode cX3_changed 23 = .ok (.aload_n 0, 1) := dk_42 (dk_at dksX3_changed_0 23 rfl rfl)
theorem dX3_changed_24 : decode cX3_changed 24 = .ok (.getfield 19, 3) := dk_180 0 19 (dk_at dksX3_changed_1 0 rfl rfl)
theorem dX3_changed_27 : decode cX3_changed 27 = .ok (.iload_n 2, 1) := dk_28 (dk_at dksX3_changed_1 3 rfl rfl)
theorem dX3_changed_28 : decode cX3_changed 28 = .ok (.sipush 793, 3) := dk_17 3 25 (dk_at dksX3_changed_1 4 rfl rfl)
theorem dX3_changed_31 : decode cX3_changed 31 = .ok (.iadd, 1) := dk_96 (dk_at dksX3_changed_1 7 rfl rfl)
theorem dX3_changed_32 : decode cX3_changed 32 = .ok (.iaload, 1) := dk_46 (dk_at dksX3_changed_1 8 rfl rfl)
theorem dX3_changed_33 : decode cX3_changed 33 = .ok (.iastore, 1) := dk_79 (dk_at dksX3_changed_1 9 rfl rfl)
theorem dX3_changed_34 : decode cX3_changed 34 = .ok (.iinc 2 1, 3) := dk_132 2 1 (dk_at dksX3_changed_1 10 rfl rfl)
theorem dX3_changed_37 : decode cX3_changed 37 = .ok (.goto (-26), 3) := dk_167 255 230 (dk_at dksX3_changed_1 13 rfl rfl)
theorem dX3_changed_40 : decode cX3_changed 40 = .ok (.goto 13, 3) := dk_167 0 13 (dk_at dksX3_changed_1 16 rfl rfl)
theorem dX3_changed_43 : decode cX3_changed 43 = .ok (.aload_n 0, 1) := dk_42 (dk_at dksX3_changed_1 19 rfl rfl)
theorem dX3_changed_44 : decode cX3_changed 44 = .ok (.dup, 1) := dk_89 (dk_at dksX3_changed_1 20 rfl rfl)
theorem dX3_changed_45 : decode cX3_changed 45 = .ok (.getfield 41, 3) := dk_180 0 41 (dk_at dksX3_changed_1 21 rfl rfl)
theorem dX3_changed_48 : decode cX3_changed 48 = .ok (.iconst 1, 1) := dk_4 (dk_at dksX3_changed_2 0 rfl rfl)
theorem dX3_changed_49 : decode cX3_changed 49 = .ok (.iadd, 1) := dk_96 (dk_at dksX3_changed_2 1 rfl rfl)
theorem dX3_changed_50 : decode cX3_changed 50 = .ok (.putfield 41, 3) := dk_181 0 41 (dk_at dksX3_changed_2 2 rfl rfl)
theorem dX3_changed_53 : decode cX3_changed 53 = .ok (.iconst 0, 1) := dk_3 (dk_at dksX3_changed_2 5 rfl rfl)
theorem dX3_changed_54 : decode cX3_changed 54 = .ok (.istore_n 2, 1) := dk_61 (dk_at dksX3_changed_2 6 rfl rfl)
theorem dX3_changed_55 : decode cX3_changed 55 = .ok (.iload_n 2, 1) := dk_28 (dk_at dksX3_changed_2 7 rfl rfl)
theorem dX3_changed_56 : decode cX3_changed 56 = .ok (.sipush 793, 3) := dk_17 3 25 (dk_at dksX3_changed_2 8 rfl rfl)
theorem dX3_changed_59 : decode cX3_changed 59 = .ok (.if_icmp .ge 32, 3) := dk_162 0 32 (dk_at dksX3_changed_2 11 rfl rfl)
theorem dX3_changed_62 : decode cX3_changed 62 = .ok (.aload_n 0, 1) := dk_42 (dk_at dksX3_changed_2 14 rfl rfl)
theorem dX3_changed_63 : decode cX3_changed 63 = .ok (.getfield 19, 3) := dk_180 0 19 (dk_at dksX3_changed_2 15 rfl rfl)
theorem dX3_changed_66 : decode cX3_changed 66 = .ok (.sipush 793, 3) := dk_17 3 25 (dk_at dksX3_changed_2 18 rfl rfl)
theorem dX3_changed_69 : decode cX3_changed 69 = .ok (.aload_n 0, 1) := dk_42 (dk_at dksX3_changed_2 21 rfl rfl)
theorem dX3_changed_70 : decode cX3_changed 70 = .ok (.getfield 41, 3) := dk_180 0 41 (dk_at dksX3_changed_3 0 rfl rfl)
theorem dX3_changed_73 : decode cX3_changed 73 = .ok (.iconst 1, 1) := dk_4 (dk_at dksX3_changed_3 3 rfl rfl)
theorem dX3_changed_74 : decode cX3_changed 74 = .ok (.isub, 1) := dk_100 (dk_at dksX3_changed_3 4 rfl rfl)
theorem dX3_changed_75 : decode cX3_changed 75 = .ok (.imul, 1) := dk_104 (dk_at dksX3_changed_3 5 rfl rfl)
theorem dX3_changed_76 : decode cX3_changed 76 = .ok (.iload_n 2, 1) := dk_28 (dk_at dksX3_changed_3 6 rfl rfl)
theorem dX3_changed_77 : decode cX3_changed 77 = .ok (.iadd, 1) := dk_96 (dk_at dksX3_changed_3 7 rfl rfl)
theorem dX3_changed_78 : decode cX3_changed 78 = .ok (.aload_n 0, 1) := dk_42 (dk_at dksX3_changed_3 8 rfl rfl)
theorem dX3_changed_79 : decode cX3_changed 79 = .ok (.getfield 13, 3) := dk_180 0 13 (dk_at dksX3_changed_3 9 rfl rfl)
theorem dX3_changed_82 : decode cX3_changed 82 = .ok (.iload_n 2, 1) := dk_28 (dk_at dksX3_changed_3 12 rfl rfl)
theorem dX3_changed_83 : decode cX3_changed 83 = .ok (.iaload, 1) := dk_46 (dk_at dksX3_changed_3 13 rfl rfl)
theorem dX3_changed_84 : decode cX3_changed 84 = .ok (.iastore, 1) := dk_79 (dk_at dksX3_changed_3 14 rfl rfl)
theorem dX3_changed_85 : decode cX3_changed 85 = .ok (.iinc 2 1, 3) := dk_132 2 1 (dk_at dksX3_changed_3 15 rfl rfl)
theorem dX3_changed_88 : decode cX3_changed 88 = .ok (.goto (-33), 3) := dk_167 255 223 (dk_at dksX3_changed_3 18 rfl rfl)
theorem dX3_changed_91 : decode cX3_changed 91 = .ok (.iload_n 1, 1) := dk_27 (dk_at dksX3_changed_3 21 rfl rfl)
theorem dX3_changed_92 : decode cX3_changed 92 = .ok (.ireturn, 1) := dk_172 (dk_at dksX3_changed_3 22 rfl rfl)
abbrev cX3_fails : ByteArray := prog_19_method_3_code
def yX3_fails : MethodName := ⟨RX3, "fails", "(I)I"⟩
def dkwX3_fails_0 : List UInt8 := [42, 27, 181, 0, 38, 3, 172]
abbrev dktX3_fails_0 : List UInt8 := dkwX3_fails_0 ++ []
theorem dksX3_fails_0 : cX3_fails.data.toList.drop 0 = dktX3_fails_0 := by decide +kernel
theorem dX3_fails_0 : decode cX3_fails 0 = .ok (.aload_n 0, 1) := dk_42 (dk_at dksX3_fails_0 0 rfl rfl)
theorem dX3_fails_1 : decode cX3_fails 1 = .ok (.iload_n 1, 1) := dk_27 (dk_at dksX3_fails_0 1 rfl rfl)
theorem dX3_fails_2 : decode cX3_fails 2 = .ok (.putfield 38, 3) := dk_181 0 38 (dk_at dksX3_fails_0 2 rfl rfl)
theorem dX3_fails_5 : decode cX3_fails 5 = .ok (.iconst 0, 1) := dk_3 (dk_at dksX3_fails_0 5 rfl rfl)
theorem dX3_fails_6 : decode cX3_fails 6 = .ok (.ireturn, 1) := dk_172 (dk_at dksX3_fails_0 6 rfl rfl)
abbrev cX3_blockOf : ByteArray := prog_19_method_40_code
def yX3_blockOf : MethodName := ⟨RX3, "blockOf", "(II)I"⟩
def dkwX3_blockOf_1 : List UInt8 := [184, 0, 66, 153, 0, 12, 42, 27, 28, 182, 0, 89, 167, 0, 8, 42, 5, 182, 0, 63, 172]
abbrev dktX3_blockOf_1 : List UInt8 := dkwX3_blockOf_1 ++ []
def dkwX3_blockOf_0 : List UInt8 := [42, 3, 181, 0, 38, 42, 27, 182, 0, 135, 154, 0, 9, 42, 4, 182, 0, 63, 172, 28, 3, 6]
abbrev dktX3_blockOf_0 : List UInt8 := dkwX3_blockOf_0 ++ dktX3_blockOf_1
theorem dksX3_blockOf_0 : cX3_blockOf.data.toList.drop 0 = dktX3_blockOf_0 := by decide +kernel
theorem dksX3_blockOf_1 : cX3_blockOf.data.toList.drop 22 = dktX3_blockOf_1 := dk_seg dksX3_blockOf_0 22 rfl rfl
theorem dX3_blockOf_0 : decode cX3_blockOf 0 = .ok (.aload_n 0, 1) := dk_42 (dk_at dksX3_blockOf_0 0 rfl rfl)
theorem dX3_blockOf_1 : decode cX3_blockOf 1 = .ok (.iconst 0, 1) := dk_3 (dk_at dksX3_blockOf_0 1 rfl rfl)
theorem dX3_blockOf_2 : decode cX3_blockOf 2 = .ok (.putfield 38, 3) := dk_181 0 38 (dk_at dksX3_blockOf_0 2 rfl rfl)
theorem dX3_blockOf_5 : decode cX3_blockOf 5 = .ok (.aload_n 0, 1) := dk_42 (dk_at dksX3_blockOf_0 5 rfl rfl)
theorem dX3_blockOf_6 : decode cX3_blockOf 6 = .ok (.iload_n 1, 1) := dk_27 (dk_at dksX3_blockOf_0 6 rfl rfl)
theorem dX3_blockOf_7 : decode cX3_blockOf 7 = .ok (.invokevirtual 135, 3) := dk_182 0 135 (dk_at dksX3_blockOf_0 7 rfl rfl)
theorem dX3_blockOf_10 : decode cX3_blockOf 10 = .ok (.ifCond .ne 9, 3) := dk_154 0 9 (dk_at dksX3_blockOf_0 10 rfl rfl)
theorem dX3_blockOf_13 : decode cX3_blockOf 13 = .ok (.aload_n 0, 1) := dk_42 (dk_at dksX3_blockOf_0 13 rfl rfl)
theorem dX3_blockOf_14 : decode cX3_blockOf 14 = .ok (.iconst 1, 1) := dk_4 (dk_at dksX3_blockOf_0 14 rfl rfl)
theorem dX3_blockOf_15 : decode cX3_blockOf 15 = .ok (.invokevirtual 63, 3) := dk_182 0 63 (dk_at dksX3_blockOf_0 15 rfl rfl)
theorem dX3_blockOf_18 : decode cX3_blockOf 18 = .ok (.ireturn, 1) := dk_172 (dk_at dksX3_blockOf_0 18 rfl rfl)
theorem dX3_blockOf_19 : decode cX3_blockOf 19 = .ok (.iload_n 2, 1) := dk_28 (dk_at dksX3_blockOf_0 19 rfl rfl)
theorem dX3_blockOf_20 : decode cX3_blockOf 20 = .ok (.iconst 0, 1) := dk_3 (dk_at dksX3_blockOf_0 20 rfl rfl)
theorem dX3_blockOf_21 : decode cX3_blockOf 21 = .ok (.iconst 3, 1) := dk_6 (dk_at dksX3_blockOf_0 21 rfl rfl)
theorem dX3_blockOf_22 : decode cX3_blockOf 22 = .ok (.invokestatic 66, 3) := dk_184 0 66 (dk_at dksX3_blockOf_1 0 rfl rfl)
theorem dX3_blockOf_25 : decode cX3_blockOf 25 = .ok (.ifCond .eq 12, 3) := dk_153 0 12 (dk_at dksX3_blockOf_1 3 rfl rfl)
theorem dX3_blockOf_28 : decode cX3_blockOf 28 = .ok (.aload_n 0, 1) := dk_42 (dk_at dksX3_blockOf_1 6 rfl rfl)
theorem dX3_blockOf_29 : decode cX3_blockOf 29 = .ok (.iload_n 1, 1) := dk_27 (dk_at dksX3_blockOf_1 7 rfl rfl)
theorem dX3_blockOf_30 : decode cX3_blockOf 30 = .ok (.iload_n 2, 1) := dk_28 (dk_at dksX3_blockOf_1 8 rfl rfl)
theorem dX3_blockOf_31 : decode cX3_blockOf 31 = .ok (.invokevirtual 89, 3) := dk_182 0 89 (dk_at dksX3_blockOf_1 9 rfl rfl)
theorem dX3_blockOf_34 : decode cX3_blockOf 34 = .ok (.goto 8, 3) := dk_167 0 8 (dk_at dksX3_blockOf_1 12 rfl rfl)
theorem dX3_blockOf_37 : decode cX3_blockOf 37 = .ok (.aload_n 0, 1) := dk_42 (dk_at dksX3_blockOf_1 15 rfl rfl)
theorem dX3_blockOf_38 : decode cX3_blockOf 38 = .ok (.iconst 2, 1) := dk_5 (dk_at dksX3_blockOf_1 16 rfl rfl)
theorem dX3_blockOf_39 : decode cX3_blockOf 39 = .ok (.invokevirtual 63, 3) := dk_182 0 63 (dk_at dksX3_blockOf_1 17 rfl rfl)
theorem dX3_blockOf_42 : decode cX3_blockOf 42 = .ok (.ireturn, 1) := dk_172 (dk_at dksX3_blockOf_1 20 rfl rfl)
abbrev cX3_isBlock : ByteArray := prog_19_method_10_code
def yX3_isBlock : MethodName := ⟨RX3, "isBlock", "(I)Z"⟩
def dkwX3_isBlock_0 : List UInt8 := [27, 3, 42, 180, 0, 7, 3, 46, 4, 100, 184, 0, 66, 172]
abbrev dktX3_isBlock_0 : List UInt8 := dkwX3_isBlock_0 ++ []
theorem dksX3_isBlock_0 : cX3_isBlock.data.toList.drop 0 = dktX3_isBlock_0 := by decide +kernel
theorem dX3_isBlock_0 : decode cX3_isBlock 0 = .ok (.iload_n 1, 1) := dk_27 (dk_at dksX3_isBlock_0 0 rfl rfl)
theorem dX3_isBlock_1 : decode cX3_isBlock 1 = .ok (.iconst 0, 1) := dk_3 (dk_at dksX3_isBlock_0 1 rfl rfl)
theorem dX3_isBlock_2 : decode cX3_isBlock 2 = .ok (.aload_n 0, 1) := dk_42 (dk_at dksX3_isBlock_0 2 rfl rfl)
theorem dX3_isBlock_3 : decode cX3_isBlock 3 = .ok (.getfield 7, 3) := dk_180 0 7 (dk_at dksX3_isBlock_0 3 rfl rfl)
theorem dX3_isBlock_6 : decode cX3_isBlock 6 = .ok (.iconst 0, 1) := dk_3 (dk_at dksX3_isBlock_0 6 rfl rfl)
theorem dX3_isBlock_7 : decode cX3_isBlock 7 = .ok (.iaload, 1) := dk_46 (dk_at dksX3_isBlock_0 7 rfl rfl)
theorem dX3_isBlock_8 : decode cX3_isBlock 8 = .ok (.iconst 1, 1) := dk_4 (dk_at dksX3_isBlock_0 8 rfl rfl)
theorem dX3_isBlock_9 : decode cX3_isBlock 9 = .ok (.isub, 1) := dk_100 (dk_at dksX3_isBlock_0 9 rfl rfl)
theorem dX3_isBlock_10 : decode cX3_isBlock 10 = .ok (.invokestatic 66, 3) := dk_184 0 66 (dk_at dksX3_isBlock_0 10 rfl rfl)
theorem dX3_isBlock_13 : decode cX3_isBlock 13 = .ok (.ireturn, 1) := dk_172 (dk_at dksX3_isBlock_0 13 rfl rfl)
abbrev cX3_blockRow : ByteArray := prog_19_method_14_code
def yX3_blockRow : MethodName := ⟨RX3, "blockRow", "(II)I"⟩
def dkwX3_blockRow_0 : List UInt8 := [42, 180, 0, 7, 16, 7, 7, 27, 104, 96, 28, 96, 46, 172]
abbrev dktX3_blockRow_0 : List UInt8 := dkwX3_blockRow_0 ++ []
theorem dksX3_blockRow_0 : cX3_blockRow.data.toList.drop 0 = dktX3_blockRow_0 := by decide +kernel
theorem dX3_blockRow_0 : decode cX3_blockRow 0 = .ok (.aload_n 0, 1) := dk_42 (dk_at dksX3_blockRow_0 0 rfl rfl)
theorem dX3_blockRow_1 : decode cX3_blockRow 1 = .ok (.getfield 7, 3) := dk_180 0 7 (dk_at dksX3_blockRow_0 1 rfl rfl)
theorem dX3_blockRow_4 : decode cX3_blockRow 4 = .ok (.bipush 7, 2) := dk_16 7 (dk_at dksX3_blockRow_0 4 rfl rfl)
theorem dX3_blockRow_6 : decode cX3_blockRow 6 = .ok (.iconst 4, 1) := dk_7 (dk_at dksX3_blockRow_0 6 rfl rfl)
theorem dX3_blockRow_7 : decode cX3_blockRow 7 = .ok (.iload_n 1, 1) := dk_27 (dk_at dksX3_blockRow_0 7 rfl rfl)
theorem dX3_blockRow_8 : decode cX3_blockRow 8 = .ok (.imul, 1) := dk_104 (dk_at dksX3_blockRow_0 8 rfl rfl)
theorem dX3_blockRow_9 : decode cX3_blockRow 9 = .ok (.iadd, 1) := dk_96 (dk_at dksX3_blockRow_0 9 rfl rfl)
theorem dX3_blockRow_10 : decode cX3_blockRow 10 = .ok (.iload_n 2, 1) := dk_28 (dk_at dksX3_blockRow_0 10 rfl rfl)
theorem dX3_blockRow_11 : decode cX3_blockRow 11 = .ok (.iadd, 1) := dk_96 (dk_at dksX3_blockRow_0 11 rfl rfl)
theorem dX3_blockRow_12 : decode cX3_blockRow 12 = .ok (.iaload, 1) := dk_46 (dk_at dksX3_blockRow_0 12 rfl rfl)
theorem dX3_blockRow_13 : decode cX3_blockRow 13 = .ok (.ireturn, 1) := dk_172 (dk_at dksX3_blockRow_0 13 rfl rfl)
abbrev cX3_carve : ByteArray := prog_19_method_41_code
def yX3_carve : MethodName := ⟨RX3, "carve", "(I)I"⟩
def dkwX3_carve_1 : List UInt8 := [182, 0, 132, 167, 0, 8, 42, 4, 182, 0, 63, 172]
abbrev dktX3_carve_1 : List UInt8 := dkwX3_carve_1 ++ []
def dkwX3_carve_0 : List UInt8 := [42, 3, 181, 0, 38, 42, 182, 0, 125, 42, 27, 182, 0, 135, 153, 0, 16, 42, 42, 27, 182, 0, 139, 4]
abbrev dktX3_carve_0 : List UInt8 := dkwX3_carve_0 ++ dktX3_carve_1
theorem dksX3_carve_0 : cX3_carve.data.toList.drop 0 = dktX3_carve_0 := by decide +kernel
theorem dksX3_carve_1 : cX3_carve.data.toList.drop 24 = dktX3_carve_1 := dk_seg dksX3_carve_0 24 rfl rfl
theorem dX3_carve_0 : decode cX3_carve 0 = .ok (.aload_n 0, 1) := dk_42 (dk_at dksX3_carve_0 0 rfl rfl)
theorem dX3_carve_1 : decode cX3_carve 1 = .ok (.iconst 0, 1) := dk_3 (dk_at dksX3_carve_0 1 rfl rfl)
theorem dX3_carve_2 : decode cX3_carve 2 = .ok (.putfield 38, 3) := dk_181 0 38 (dk_at dksX3_carve_0 2 rfl rfl)
theorem dX3_carve_5 : decode cX3_carve 5 = .ok (.aload_n 0, 1) := dk_42 (dk_at dksX3_carve_0 5 rfl rfl)
theorem dX3_carve_6 : decode cX3_carve 6 = .ok (.invokevirtual 125, 3) := dk_182 0 125 (dk_at dksX3_carve_0 6 rfl rfl)
theorem dX3_carve_9 : decode cX3_carve 9 = .ok (.aload_n 0, 1) := dk_42 (dk_at dksX3_carve_0 9 rfl rfl)
theorem dX3_carve_10 : decode cX3_carve 10 = .ok (.iload_n 1, 1) := dk_27 (dk_at dksX3_carve_0 10 rfl rfl)
theorem dX3_carve_11 : decode cX3_carve 11 = .ok (.invokevirtual 135, 3) := dk_182 0 135 (dk_at dksX3_carve_0 11 rfl rfl)
theorem dX3_carve_14 : decode cX3_carve 14 = .ok (.ifCond .eq 16, 3) := dk_153 0 16 (dk_at dksX3_carve_0 14 rfl rfl)
theorem dX3_carve_17 : decode cX3_carve 17 = .ok (.aload_n 0, 1) := dk_42 (dk_at dksX3_carve_0 17 rfl rfl)
theorem dX3_carve_18 : decode cX3_carve 18 = .ok (.aload_n 0, 1) := dk_42 (dk_at dksX3_carve_0 18 rfl rfl)
theorem dX3_carve_19 : decode cX3_carve 19 = .ok (.iload_n 1, 1) := dk_27 (dk_at dksX3_carve_0 19 rfl rfl)
theorem dX3_carve_20 : decode cX3_carve 20 = .ok (.invokevirtual 139, 3) := dk_182 0 139 (dk_at dksX3_carve_0 20 rfl rfl)
theorem dX3_carve_23 : decode cX3_carve 23 = .ok (.iconst 1, 1) := dk_4 (dk_at dksX3_carve_0 23 rfl rfl)
theorem dX3_carve_24 : decode cX3_carve 24 = .ok (.invokevirtual 132, 3) := dk_182 0 132 (dk_at dksX3_carve_1 0 rfl rfl)
theorem dX3_carve_27 : decode cX3_carve 27 = .ok (.goto 8, 3) := dk_167 0 8 (dk_at dksX3_carve_1 3 rfl rfl)
theorem dX3_carve_30 : decode cX3_carve 30 = .ok (.aload_n 0, 1) := dk_42 (dk_at dksX3_carve_1 6 rfl rfl)
theorem dX3_carve_31 : decode cX3_carve 31 = .ok (.iconst 1, 1) := dk_4 (dk_at dksX3_carve_1 7 rfl rfl)
theorem dX3_carve_32 : decode cX3_carve 32 = .ok (.invokevirtual 63, 3) := dk_182 0 63 (dk_at dksX3_carve_1 8 rfl rfl)
theorem dX3_carve_35 : decode cX3_carve 35 = .ok (.ireturn, 1) := dk_172 (dk_at dksX3_carve_1 11 rfl rfl)
abbrev cX3_carves : ByteArray := prog_19_method_34_code
def yX3_carves : MethodName := ⟨RX3, "carves", "(I)I"⟩
def dkwX3_carves_1 : List UInt8 := [182, 0, 113, 172]
abbrev dktX3_carves_1 : List UInt8 := dkwX3_carves_1 ++ []
def dkwX3_carves_0 : List UInt8 := [42, 27, 5, 182, 0, 89, 61, 42, 180, 0, 7, 16, 7, 7, 27, 104, 96, 5, 96, 3, 79, 42, 28]
abbrev dktX3_carves_0 : List UInt8 := dkwX3_carves_0 ++ dktX3_carves_1
theorem dksX3_carves_0 : cX3_carves.data.toList.drop 0 = dktX3_carves_0 := by decide +kernel
theorem dksX3_carves_1 : cX3_carves.data.toList.drop 23 = dktX3_carves_1 := dk_seg dksX3_carves_0 23 rfl rfl
theorem dX3_carves_0 : decode cX3_carves 0 = .ok (.aload_n 0, 1) := dk_42 (dk_at dksX3_carves_0 0 rfl rfl)
theorem dX3_carves_1 : decode cX3_carves 1 = .ok (.iload_n 1, 1) := dk_27 (dk_at dksX3_carves_0 1 rfl rfl)
theorem dX3_carves_2 : decode cX3_carves 2 = .ok (.iconst 2, 1) := dk_5 (dk_at dksX3_carves_0 2 rfl rfl)
theorem dX3_carves_3 : decode cX3_carves 3 = .ok (.invokevirtual 89, 3) := dk_182 0 89 (dk_at dksX3_carves_0 3 rfl rfl)
theorem dX3_carves_6 : decode cX3_carves 6 = .ok (.istore_n 2, 1) := dk_61 (dk_at dksX3_carves_0 6 rfl rfl)
theorem dX3_carves_7 : decode cX3_carves 7 = .ok (.aload_n 0, 1) := dk_42 (dk_at dksX3_carves_0 7 rfl rfl)
theorem dX3_carves_8 : decode cX3_carves 8 = .ok (.getfield 7, 3) := dk_180 0 7 (dk_at dksX3_carves_0 8 rfl rfl)
theorem dX3_carves_11 : decode cX3_carves 11 = .ok (.bipush 7, 2) := dk_16 7 (dk_at dksX3_carves_0 11 rfl rfl)
theorem dX3_carves_13 : decode cX3_carves 13 = .ok (.iconst 4, 1) := dk_7 (dk_at dksX3_carves_0 13 rfl rfl)
theorem dX3_carves_14 : decode cX3_carves 14 = .ok (.iload_n 1, 1) := dk_27 (dk_at dksX3_carves_0 14 rfl rfl)
theorem dX3_carves_15 : decode cX3_carves 15 = .ok (.imul, 1) := dk_104 (dk_at dksX3_carves_0 15 rfl rfl)
theorem dX3_carves_16 : decode cX3_carves 16 = .ok (.iadd, 1) := dk_96 (dk_at dksX3_carves_0 16 rfl rfl)
theorem dX3_carves_17 : decode cX3_carves 17 = .ok (.iconst 2, 1) := dk_5 (dk_at dksX3_carves_0 17 rfl rfl)
theorem dX3_carves_18 : decode cX3_carves 18 = .ok (.iadd, 1) := dk_96 (dk_at dksX3_carves_0 18 rfl rfl)
theorem dX3_carves_19 : decode cX3_carves 19 = .ok (.iconst 0, 1) := dk_3 (dk_at dksX3_carves_0 19 rfl rfl)
theorem dX3_carves_20 : decode cX3_carves 20 = .ok (.iastore, 1) := dk_79 (dk_at dksX3_carves_0 20 rfl rfl)
theorem dX3_carves_21 : decode cX3_carves 21 = .ok (.aload_n 0, 1) := dk_42 (dk_at dksX3_carves_0 21 rfl rfl)
theorem dX3_carves_22 : decode cX3_carves 22 = .ok (.iload_n 2, 1) := dk_28 (dk_at dksX3_carves_0 22 rfl rfl)
theorem dX3_carves_23 : decode cX3_carves 23 = .ok (.invokevirtual 113, 3) := dk_182 0 113 (dk_at dksX3_carves_1 0 rfl rfl)
theorem dX3_carves_26 : decode cX3_carves 26 = .ok (.ireturn, 1) := dk_172 (dk_at dksX3_carves_1 3 rfl rfl)
abbrev cX3_ink : ByteArray := prog_19_method_42_code
def yX3_ink : MethodName := ⟨RX3, "ink", "(III)I"⟩
def dkwX3_ink_2 : List UInt8 := [182, 0, 142, 5, 182, 0, 132, 167, 0, 8, 42, 4, 182, 0, 63, 172]
abbrev dktX3_ink_2 : List UInt8 := dkwX3_ink_2 ++ []
def dkwX3_ink_1 : List UInt8 := [184, 0, 66, 153, 0, 29, 29, 4, 17, 3, 231, 184, 0, 66, 153, 0, 18, 42, 42, 27, 28, 29]
abbrev dktX3_ink_1 : List UInt8 := dkwX3_ink_1 ++ dktX3_ink_2
def dkwX3_ink_0 : List UInt8 := [42, 3, 181, 0, 38, 42, 182, 0, 125, 27, 3, 8, 184, 0, 66, 153, 0, 39, 28, 3, 16, 9]
abbrev dktX3_ink_0 : List UInt8 := dkwX3_ink_0 ++ dktX3_ink_1
theorem dksX3_ink_0 : cX3_ink.data.toList.drop 0 = dktX3_ink_0 := by decide +kernel
theorem dksX3_ink_1 : cX3_ink.data.toList.drop 22 = dktX3_ink_1 := dk_seg dksX3_ink_0 22 rfl rfl
theorem dksX3_ink_2 : cX3_ink.data.toList.drop 44 = dktX3_ink_2 := dk_seg dksX3_ink_1 22 rfl rfl
theorem dX3_ink_0 : decode cX3_ink 0 = .ok (.aload_n 0, 1) := dk_42 (dk_at dksX3_ink_0 0 rfl rfl)
theorem dX3_ink_1 : decode cX3_ink 1 = .ok (.iconst 0, 1) := dk_3 (dk_at dksX3_ink_0 1 rfl rfl)
theorem dX3_ink_2 : decode cX3_ink 2 = .ok (.putfield 38, 3) := dk_181 0 38 (dk_at dksX3_ink_0 2 rfl rfl)
theorem dX3_ink_5 : decode cX3_ink 5 = .ok (.aload_n 0, 1) := dk_42 (dk_at dksX3_ink_0 5 rfl rfl)
theorem dX3_ink_6 : decode cX3_ink 6 = .ok (.invokevirtual 125, 3) := dk_182 0 125 (dk_at dksX3_ink_0 6 rfl rfl)
theorem dX3_ink_9 : decode cX3_ink 9 = .ok (.iload_n 1, 1) := dk_27 (dk_at dksX3_ink_0 9 rfl rfl)
theorem dX3_ink_10 : decode cX3_ink 10 = .ok (.iconst 0, 1) := dk_3 (dk_at dksX3_ink_0 10 rfl rfl)
theorem dX3_ink_11 : decode cX3_ink 11 = .ok (.iconst 5, 1) := dk_8 (dk_at dksX3_ink_0 11 rfl rfl)
theorem dX3_ink_12 : decode cX3_ink 12 = .ok (.invokestatic 66, 3) := dk_184 0 66 (dk_at dksX3_ink_0 12 rfl rfl)
theorem dX3_ink_15 : decode cX3_ink 15 = .ok (.ifCond .eq 39, 3) := dk_153 0 39 (dk_at dksX3_ink_0 15 rfl rfl)
theorem dX3_ink_18 : decode cX3_ink 18 = .ok (.iload_n 2, 1) := dk_28 (dk_at dksX3_ink_0 18 rfl rfl)
theorem dX3_ink_19 : decode cX3_ink 19 = .ok (.iconst 0, 1) := dk_3 (dk_at dksX3_ink_0 19 rfl rfl)
theorem dX3_ink_20 : decode cX3_ink 20 = .ok (.bipush 9, 2) := dk_16 9 (dk_at dksX3_ink_0 20 rfl rfl)
theorem dX3_ink_22 : decode cX3_ink 22 = .ok (.invokestatic 66, 3) := dk_184 0 66 (dk_at dksX3_ink_1 0 rfl rfl)
theorem dX3_ink_25 : decode cX3_ink 25 = .ok (.ifCond .eq 29, 3) := dk_153 0 29 (dk_at dksX3_ink_1 3 rfl rfl)
theorem dX3_ink_28 : decode cX3_ink 28 = .ok (.iload_n 3, 1) := dk_29 (dk_at dksX3_ink_1 6 rfl rfl)
theorem dX3_ink_29 : decode cX3_ink 29 = .ok (.iconst 1, 1) := dk_4 (dk_at dksX3_ink_1 7 rfl rfl)
theorem dX3_ink_30 : decode cX3_ink 30 = .ok (.sipush 999, 3) := dk_17 3 231 (dk_at dksX3_ink_1 8 rfl rfl)
theorem dX3_ink_33 : decode cX3_ink 33 = .ok (.invokestatic 66, 3) := dk_184 0 66 (dk_at dksX3_ink_1 11 rfl rfl)
theorem dX3_ink_36 : decode cX3_ink 36 = .ok (.ifCond .eq 18, 3) := dk_153 0 18 (dk_at dksX3_ink_1 14 rfl rfl)
theorem dX3_ink_39 : decode cX3_ink 39 = .ok (.aload_n 0, 1) := dk_42 (dk_at dksX3_ink_1 17 rfl rfl)
theorem dX3_ink_40 : decode cX3_ink 40 = .ok (.aload_n 0, 1) := dk_42 (dk_at dksX3_ink_1 18 rfl rfl)
theorem dX3_ink_41 : decode cX3_ink 41 = .ok (.iload_n 1, 1) := dk_27 (dk_at dksX3_ink_1 19 rfl rfl)
theorem dX3_ink_42 : decode cX3_ink 42 = .ok (.iload_n 2, 1) := dk_28 (dk_at dksX3_ink_1 20 rfl rfl)
theorem dX3_ink_43 : decode cX3_ink 43 = .ok (.iload_n 3, 1) := dk_29 (dk_at dksX3_ink_1 21 rfl rfl)
theorem dX3_ink_44 : decode cX3_ink 44 = .ok (.invokevirtual 142, 3) := dk_182 0 142 (dk_at dksX3_ink_2 0 rfl rfl)
theorem dX3_ink_47 : decode cX3_ink 47 = .ok (.iconst 2, 1) := dk_5 (dk_at dksX3_ink_2 3 rfl rfl)
theorem dX3_ink_48 : decode cX3_ink 48 = .ok (.invokevirtual 132, 3) := dk_182 0 132 (dk_at dksX3_ink_2 4 rfl rfl)
theorem dX3_ink_51 : decode cX3_ink 51 = .ok (.goto 8, 3) := dk_167 0 8 (dk_at dksX3_ink_2 7 rfl rfl)
theorem dX3_ink_54 : decode cX3_ink 54 = .ok (.aload_n 0, 1) := dk_42 (dk_at dksX3_ink_2 10 rfl rfl)
theorem dX3_ink_55 : decode cX3_ink 55 = .ok (.iconst 1, 1) := dk_4 (dk_at dksX3_ink_2 11 rfl rfl)
theorem dX3_ink_56 : decode cX3_ink 56 = .ok (.invokevirtual 63, 3) := dk_182 0 63 (dk_at dksX3_ink_2 12 rfl rfl)
theorem dX3_ink_59 : decode cX3_ink 59 = .ok (.ireturn, 1) := dk_172 (dk_at dksX3_ink_2 15 rfl rfl)
abbrev cX3_inks : ByteArray := prog_19_method_32_code
def yX3_inks : MethodName := ⟨RX3, "inks", "(III)I"⟩
def dkwX3_inks_3 : List UInt8 := [21, 4, 4, 96, 79, 42, 21, 4, 182, 0, 113, 172]
abbrev dktX3_inks_3 : List UInt8 := dkwX3_inks_3 ++ []
def dkwX3_inks_2 : List UInt8 := [96, 28, 79, 42, 180, 0, 7, 16, 31, 7, 21, 4, 104, 96, 5, 96, 29, 79, 42, 180, 0, 7, 4]
abbrev dktX3_inks_2 : List UInt8 := dkwX3_inks_2 ++ dktX3_inks_3
def dkwX3_inks_1 : List UInt8 := [180, 0, 7, 16, 31, 7, 21, 4, 104, 96, 27, 79, 42, 180, 0, 7, 16, 31, 7, 21, 4, 104, 96, 4]
abbrev dktX3_inks_1 : List UInt8 := dkwX3_inks_1 ++ dktX3_inks_2
def dkwX3_inks_0 : List UInt8 := [42, 180, 0, 7, 4, 46, 54, 4, 21, 4, 16, 12, 160, 0, 11, 42, 4, 16, 12, 182, 0, 95, 172, 42]
abbrev dktX3_inks_0 : List UInt8 := dkwX3_inks_0 ++ dktX3_inks_1
theorem dksX3_inks_0 : cX3_inks.data.toList.drop 0 = dktX3_inks_0 := by decide +kernel
theorem dksX3_inks_1 : cX3_inks.data.toList.drop 24 = dktX3_inks_1 := dk_seg dksX3_inks_0 24 rfl rfl
theorem dksX3_inks_2 : cX3_inks.data.toList.drop 48 = dktX3_inks_2 := dk_seg dksX3_inks_1 24 rfl rfl
theorem dksX3_inks_3 : cX3_inks.data.toList.drop 71 = dktX3_inks_3 := dk_seg dksX3_inks_2 23 rfl rfl
theorem dX3_inks_0 : decode cX3_inks 0 = .ok (.aload_n 0, 1) := dk_42 (dk_at dksX3_inks_0 0 rfl rfl)
theorem dX3_inks_1 : decode cX3_inks 1 = .ok (.getfield 7, 3) := dk_180 0 7 (dk_at dksX3_inks_0 1 rfl rfl)
theorem dX3_inks_4 : decode cX3_inks 4 = .ok (.iconst 1, 1) := dk_4 (dk_at dksX3_inks_0 4 rfl rfl)
theorem dX3_inks_5 : decode cX3_inks 5 = .ok (.iaload, 1) := dk_46 (dk_at dksX3_inks_0 5 rfl rfl)
theorem dX3_inks_6 : decode cX3_inks 6 = .ok (.istore 4, 2) := dk_54 4 (dk_at dksX3_inks_0 6 rfl rfl)
theorem dX3_inks_8 : decode cX3_inks 8 = .ok (.iload 4, 2) := dk_21 4 (dk_at dksX3_inks_0 8 rfl rfl)
theorem dX3_inks_10 : decode cX3_inks 10 = .ok (.bipush 12, 2) := dk_16 12 (dk_at dksX3_inks_0 10 rfl rfl)
theorem dX3_inks_12 : decode cX3_inks 12 = .ok (.if_icmp .ne 11, 3) := dk_160 0 11 (dk_at dksX3_inks_0 12 rfl rfl)
theorem dX3_inks_15 : decode cX3_inks 15 = .ok (.aload_n 0, 1) := dk_42 (dk_at dksX3_inks_0 15 rfl rfl)
theorem dX3_inks_16 : decode cX3_inks 16 = .ok (.iconst 1, 1) := dk_4 (dk_at dksX3_inks_0 16 rfl rfl)
theorem dX3_inks_17 : decode cX3_inks 17 = .ok (.bipush 12, 2) := dk_16 12 (dk_at dksX3_inks_0 17 rfl rfl)
theorem dX3_inks_19 : decode cX3_inks 19 = .ok (.invokevirtual 95, 3) := dk_182 0 95 (dk_at dksX3_inks_0 19 rfl rfl)
theorem dX3_inks_22 : decode cX3_inks 22 = .ok (.ireturn, 1) := dk_172 (dk_at dksX3_inks_0 22 rfl rfl)
theorem dX3_inks_23 : decode cX3_inks 23 = .ok (.aload_n 0, 1) := dk_42 (dk_at dksX3_inks_0 23 rfl rfl)
theorem dX3_inks_24 : decode cX3_inks 24 = .ok (.getfield 7, 3) := dk_180 0 7 (dk_at dksX3_inks_1 0 rfl rfl)
theorem dX3_inks_27 : decode cX3_inks 27 = .ok (.bipush 31, 2) := dk_16 31 (dk_at dksX3_inks_1 3 rfl rfl)
theorem dX3_inks_29 : decode cX3_inks 29 = .ok (.iconst 4, 1) := dk_7 (dk_at dksX3_inks_1 5 rfl rfl)
theorem dX3_inks_30 : decode cX3_inks 30 = .ok (.iload 4, 2) := dk_21 4 (dk_at dksX3_inks_1 6 rfl rfl)
theorem dX3_inks_32 : decode cX3_inks 32 = .ok (.imul, 1) := dk_104 (dk_at dksX3_inks_1 8 rfl rfl)
theorem dX3_inks_33 : decode cX3_inks 33 = .ok (.iadd, 1) := dk_96 (dk_at dksX3_inks_1 9 rfl rfl)
theorem dX3_inks_34 : decode cX3_inks 34 = .ok (.iload_n 1, 1) := dk_27 (dk_at dksX3_inks_1 10 rfl rfl)
theorem dX3_inks_35 : decode cX3_inks 35 = .ok (.iastore, 1) := dk_79 (dk_at dksX3_inks_1 11 rfl rfl)
theorem dX3_inks_36 : decode cX3_inks 36 = .ok (.aload_n 0, 1) := dk_42 (dk_at dksX3_inks_1 12 rfl rfl)
theorem dX3_inks_37 : decode cX3_inks 37 = .ok (.getfield 7, 3) := dk_180 0 7 (dk_at dksX3_inks_1 13 rfl rfl)
theorem dX3_inks_40 : decode cX3_inks 40 = .ok (.bipush 31, 2) := dk_16 31 (dk_at dksX3_inks_1 16 rfl rfl)
theorem dX3_inks_42 : decode cX3_inks 42 = .ok (.iconst 4, 1) := dk_7 (dk_at dksX3_inks_1 18 rfl rfl)
theorem dX3_inks_43 : decode cX3_inks 43 = .ok (.iload 4, 2) := dk_21 4 (dk_at dksX3_inks_1 19 rfl rfl)
theorem dX3_inks_45 : decode cX3_inks 45 = .ok (.imul, 1) := dk_104 (dk_at dksX3_inks_1 21 rfl rfl)
theorem dX3_inks_46 : decode cX3_inks 46 = .ok (.iadd, 1) := dk_96 (dk_at dksX3_inks_1 22 rfl rfl)
theorem dX3_inks_47 : decode cX3_inks 47 = .ok (.iconst 1, 1) := dk_4 (dk_at dksX3_inks_1 23 rfl rfl)
theorem dX3_inks_48 : decode cX3_inks 48 = .ok (.iadd, 1) := dk_96 (dk_at dksX3_inks_2 0 rfl rfl)
theorem dX3_inks_49 : decode cX3_inks 49 = .ok (.iload_n 2, 1) := dk_28 (dk_at dksX3_inks_2 1 rfl rfl)
theorem dX3_inks_50 : decode cX3_inks 50 = .ok (.iastore, 1) := dk_79 (dk_at dksX3_inks_2 2 rfl rfl)
theorem dX3_inks_51 : decode cX3_inks 51 = .ok (.aload_n 0, 1) := dk_42 (dk_at dksX3_inks_2 3 rfl rfl)
theorem dX3_inks_52 : decode cX3_inks 52 = .ok (.getfield 7, 3) := dk_180 0 7 (dk_at dksX3_inks_2 4 rfl rfl)
theorem dX3_inks_55 : decode cX3_inks 55 = .ok (.bipush 31, 2) := dk_16 31 (dk_at dksX3_inks_2 7 rfl rfl)
theorem dX3_inks_57 : decode cX3_inks 57 = .ok (.iconst 4, 1) := dk_7 (dk_at dksX3_inks_2 9 rfl rfl)
theorem dX3_inks_58 : decode cX3_inks 58 = .ok (.iload 4, 2) := dk_21 4 (dk_at dksX3_inks_2 10 rfl rfl)
theorem dX3_inks_60 : decode cX3_inks 60 = .ok (.imul, 1) := dk_104 (dk_at dksX3_inks_2 12 rfl rfl)
theorem dX3_inks_61 : decode cX3_inks 61 = .ok (.iadd, 1) := dk_96 (dk_at dksX3_inks_2 13 rfl rfl)
theorem dX3_inks_62 : decode cX3_inks 62 = .ok (.iconst 2, 1) := dk_5 (dk_at dksX3_inks_2 14 rfl rfl)
theorem dX3_inks_63 : decode cX3_inks 63 = .ok (.iadd, 1) := dk_96 (dk_at dksX3_inks_2 15 rfl rfl)
theorem dX3_inks_64 : decode cX3_inks 64 = .ok (.iload_n 3, 1) := dk_29 (dk_at dksX3_inks_2 16 rfl rfl)
theorem dX3_inks_65 : decode cX3_inks 65 = .ok (.iastore, 1) := dk_79 (dk_at dksX3_inks_2 17 rfl rfl)
theorem dX3_inks_66 : decode cX3_inks 66 = .ok (.aload_n 0, 1) := dk_42 (dk_at dksX3_inks_2 18 rfl rfl)
theorem dX3_inks_67 : decode cX3_inks 67 = .ok (.getfield 7, 3) := dk_180 0 7 (dk_at dksX3_inks_2 19 rfl rfl)
theorem dX3_inks_70 : decode cX3_inks 70 = .ok (.iconst 1, 1) := dk_4 (dk_at dksX3_inks_2 22 rfl rfl)
theorem dX3_inks_71 : decode cX3_inks 71 = .ok (.iload 4, 2) := dk_21 4 (dk_at dksX3_inks_3 0 rfl rfl)
theorem dX3_inks_73 : decode cX3_inks 73 = .ok (.iconst 1, 1) := dk_4 (dk_at dksX3_inks_3 2 rfl rfl)
theorem dX3_inks_74 : decode cX3_inks 74 = .ok (.iadd, 1) := dk_96 (dk_at dksX3_inks_3 3 rfl rfl)
theorem dX3_inks_75 : decode cX3_inks 75 = .ok (.iastore, 1) := dk_79 (dk_at dksX3_inks_3 4 rfl rfl)
theorem dX3_inks_76 : decode cX3_inks 76 = .ok (.aload_n 0, 1) := dk_42 (dk_at dksX3_inks_3 5 rfl rfl)
theorem dX3_inks_77 : decode cX3_inks 77 = .ok (.iload 4, 2) := dk_21 4 (dk_at dksX3_inks_3 6 rfl rfl)
theorem dX3_inks_79 : decode cX3_inks 79 = .ok (.invokevirtual 113, 3) := dk_182 0 113 (dk_at dksX3_inks_3 8 rfl rfl)
theorem dX3_inks_82 : decode cX3_inks 82 = .ok (.ireturn, 1) := dk_172 (dk_at dksX3_inks_3 11 rfl rfl)
abbrev cX3_inkOf : ByteArray := prog_19_method_43_code
def yX3_inkOf : MethodName := ⟨RX3, "inkOf", "(II)I"⟩
def dkwX3_inkOf_1 : List UInt8 := [184, 0, 66, 153, 0, 12, 42, 27, 28, 182, 0, 74, 167, 0, 8, 42, 5, 182, 0, 63, 172]
abbrev dktX3_inkOf_1 : List UInt8 := dkwX3_inkOf_1 ++ []
def dkwX3_inkOf_0 : List UInt8 := [42, 3, 181, 0, 38, 42, 27, 182, 0, 146, 154, 0, 9, 42, 4, 182, 0, 63, 172, 28, 3, 6]
abbrev dktX3_inkOf_0 : List UInt8 := dkwX3_inkOf_0 ++ dktX3_inkOf_1
theorem dksX3_inkOf_0 : cX3_inkOf.data.toList.drop 0 = dktX3_inkOf_0 := by decide +kernel
theorem dksX3_inkOf_1 : cX3_inkOf.data.toList.drop 22 = dktX3_inkOf_1 := dk_seg dksX3_inkOf_0 22 rfl rfl
theorem dX3_inkOf_0 : decode cX3_inkOf 0 = .ok (.aload_n 0, 1) := dk_42 (dk_at dksX3_inkOf_0 0 rfl rfl)
theorem dX3_inkOf_1 : decode cX3_inkOf 1 = .ok (.iconst 0, 1) := dk_3 (dk_at dksX3_inkOf_0 1 rfl rfl)
theorem dX3_inkOf_2 : decode cX3_inkOf 2 = .ok (.putfield 38, 3) := dk_181 0 38 (dk_at dksX3_inkOf_0 2 rfl rfl)
theorem dX3_inkOf_5 : decode cX3_inkOf 5 = .ok (.aload_n 0, 1) := dk_42 (dk_at dksX3_inkOf_0 5 rfl rfl)
theorem dX3_inkOf_6 : decode cX3_inkOf 6 = .ok (.iload_n 1, 1) := dk_27 (dk_at dksX3_inkOf_0 6 rfl rfl)
theorem dX3_inkOf_7 : decode cX3_inkOf 7 = .ok (.invokevirtual 146, 3) := dk_182 0 146 (dk_at dksX3_inkOf_0 7 rfl rfl)
theorem dX3_inkOf_10 : decode cX3_inkOf 10 = .ok (.ifCond .ne 9, 3) := dk_154 0 9 (dk_at dksX3_inkOf_0 10 rfl rfl)
theorem dX3_inkOf_13 : decode cX3_inkOf 13 = .ok (.aload_n 0, 1) := dk_42 (dk_at dksX3_inkOf_0 13 rfl rfl)
theorem dX3_inkOf_14 : decode cX3_inkOf 14 = .ok (.iconst 1, 1) := dk_4 (dk_at dksX3_inkOf_0 14 rfl rfl)
theorem dX3_inkOf_15 : decode cX3_inkOf 15 = .ok (.invokevirtual 63, 3) := dk_182 0 63 (dk_at dksX3_inkOf_0 15 rfl rfl)
theorem dX3_inkOf_18 : decode cX3_inkOf 18 = .ok (.ireturn, 1) := dk_172 (dk_at dksX3_inkOf_0 18 rfl rfl)
theorem dX3_inkOf_19 : decode cX3_inkOf 19 = .ok (.iload_n 2, 1) := dk_28 (dk_at dksX3_inkOf_0 19 rfl rfl)
theorem dX3_inkOf_20 : decode cX3_inkOf 20 = .ok (.iconst 0, 1) := dk_3 (dk_at dksX3_inkOf_0 20 rfl rfl)
theorem dX3_inkOf_21 : decode cX3_inkOf 21 = .ok (.iconst 3, 1) := dk_6 (dk_at dksX3_inkOf_0 21 rfl rfl)
theorem dX3_inkOf_22 : decode cX3_inkOf 22 = .ok (.invokestatic 66, 3) := dk_184 0 66 (dk_at dksX3_inkOf_1 0 rfl rfl)
theorem dX3_inkOf_25 : decode cX3_inkOf 25 = .ok (.ifCond .eq 12, 3) := dk_153 0 12 (dk_at dksX3_inkOf_1 3 rfl rfl)
theorem dX3_inkOf_28 : decode cX3_inkOf 28 = .ok (.aload_n 0, 1) := dk_42 (dk_at dksX3_inkOf_1 6 rfl rfl)
theorem dX3_inkOf_29 : decode cX3_inkOf 29 = .ok (.iload_n 1, 1) := dk_27 (dk_at dksX3_inkOf_1 7 rfl rfl)
theorem dX3_inkOf_30 : decode cX3_inkOf 30 = .ok (.iload_n 2, 1) := dk_28 (dk_at dksX3_inkOf_1 8 rfl rfl)
theorem dX3_inkOf_31 : decode cX3_inkOf 31 = .ok (.invokevirtual 74, 3) := dk_182 0 74 (dk_at dksX3_inkOf_1 9 rfl rfl)
theorem dX3_inkOf_34 : decode cX3_inkOf 34 = .ok (.goto 8, 3) := dk_167 0 8 (dk_at dksX3_inkOf_1 12 rfl rfl)
theorem dX3_inkOf_37 : decode cX3_inkOf 37 = .ok (.aload_n 0, 1) := dk_42 (dk_at dksX3_inkOf_1 15 rfl rfl)
theorem dX3_inkOf_38 : decode cX3_inkOf 38 = .ok (.iconst 2, 1) := dk_5 (dk_at dksX3_inkOf_1 16 rfl rfl)
theorem dX3_inkOf_39 : decode cX3_inkOf 39 = .ok (.invokevirtual 63, 3) := dk_182 0 63 (dk_at dksX3_inkOf_1 17 rfl rfl)
theorem dX3_inkOf_42 : decode cX3_inkOf 42 = .ok (.ireturn, 1) := dk_172 (dk_at dksX3_inkOf_1 20 rfl rfl)
abbrev cX3_isInk : ByteArray := prog_19_method_11_code
def yX3_isInk : MethodName := ⟨RX3, "isInk", "(I)Z"⟩
def dkwX3_isInk_0 : List UInt8 := [27, 3, 42, 180, 0, 7, 4, 46, 4, 100, 184, 0, 66, 172]
abbrev dktX3_isInk_0 : List UInt8 := dkwX3_isInk_0 ++ []
theorem dksX3_isInk_0 : cX3_isInk.data.toList.drop 0 = dktX3_isInk_0 := by decide +kernel
theorem dX3_isInk_0 : decode cX3_isInk 0 = .ok (.iload_n 1, 1) := dk_27 (dk_at dksX3_isInk_0 0 rfl rfl)
theorem dX3_isInk_1 : decode cX3_isInk 1 = .ok (.iconst 0, 1) := dk_3 (dk_at dksX3_isInk_0 1 rfl rfl)
theorem dX3_isInk_2 : decode cX3_isInk 2 = .ok (.aload_n 0, 1) := dk_42 (dk_at dksX3_isInk_0 2 rfl rfl)
theorem dX3_isInk_3 : decode cX3_isInk 3 = .ok (.getfield 7, 3) := dk_180 0 7 (dk_at dksX3_isInk_0 3 rfl rfl)
theorem dX3_isInk_6 : decode cX3_isInk 6 = .ok (.iconst 1, 1) := dk_4 (dk_at dksX3_isInk_0 6 rfl rfl)
theorem dX3_isInk_7 : decode cX3_isInk 7 = .ok (.iaload, 1) := dk_46 (dk_at dksX3_isInk_0 7 rfl rfl)
theorem dX3_isInk_8 : decode cX3_isInk 8 = .ok (.iconst 1, 1) := dk_4 (dk_at dksX3_isInk_0 8 rfl rfl)
theorem dX3_isInk_9 : decode cX3_isInk 9 = .ok (.isub, 1) := dk_100 (dk_at dksX3_isInk_0 9 rfl rfl)
theorem dX3_isInk_10 : decode cX3_isInk 10 = .ok (.invokestatic 66, 3) := dk_184 0 66 (dk_at dksX3_isInk_0 10 rfl rfl)
theorem dX3_isInk_13 : decode cX3_isInk 13 = .ok (.ireturn, 1) := dk_172 (dk_at dksX3_isInk_0 13 rfl rfl)
abbrev cX3_inkRow : ByteArray := prog_19_method_15_code
def yX3_inkRow : MethodName := ⟨RX3, "inkRow", "(II)I"⟩
def dkwX3_inkRow_0 : List UInt8 := [42, 180, 0, 7, 16, 31, 7, 27, 104, 96, 28, 96, 46, 172]
abbrev dktX3_inkRow_0 : List UInt8 := dkwX3_inkRow_0 ++ []
theorem dksX3_inkRow_0 : cX3_inkRow.data.toList.drop 0 = dktX3_inkRow_0 := by decide +kernel
theorem dX3_inkRow_0 : decode cX3_inkRow 0 = .ok (.aload_n 0, 1) := dk_42 (dk_at dksX3_inkRow_0 0 rfl rfl)
theorem dX3_inkRow_1 : decode cX3_inkRow 1 = .ok (.getfield 7, 3) := dk_180 0 7 (dk_at dksX3_inkRow_0 1 rfl rfl)
theorem dX3_inkRow_4 : decode cX3_inkRow 4 = .ok (.bipush 31, 2) := dk_16 31 (dk_at dksX3_inkRow_0 4 rfl rfl)
theorem dX3_inkRow_6 : decode cX3_inkRow 6 = .ok (.iconst 4, 1) := dk_7 (dk_at dksX3_inkRow_0 6 rfl rfl)
theorem dX3_inkRow_7 : decode cX3_inkRow 7 = .ok (.iload_n 1, 1) := dk_27 (dk_at dksX3_inkRow_0 7 rfl rfl)
theorem dX3_inkRow_8 : decode cX3_inkRow 8 = .ok (.imul, 1) := dk_104 (dk_at dksX3_inkRow_0 8 rfl rfl)
theorem dX3_inkRow_9 : decode cX3_inkRow 9 = .ok (.iadd, 1) := dk_96 (dk_at dksX3_inkRow_0 9 rfl rfl)
theorem dX3_inkRow_10 : decode cX3_inkRow 10 = .ok (.iload_n 2, 1) := dk_28 (dk_at dksX3_inkRow_0 10 rfl rfl)
theorem dX3_inkRow_11 : decode cX3_inkRow 11 = .ok (.iadd, 1) := dk_96 (dk_at dksX3_inkRow_0 11 rfl rfl)
theorem dX3_inkRow_12 : decode cX3_inkRow 12 = .ok (.iaload, 1) := dk_46 (dk_at dksX3_inkRow_0 12 rfl rfl)
theorem dX3_inkRow_13 : decode cX3_inkRow 13 = .ok (.ireturn, 1) := dk_172 (dk_at dksX3_inkRow_0 13 rfl rfl)
abbrev cX3_mix : ByteArray := prog_19_method_44_code
def yX3_mix : MethodName := ⟨RX3, "mix", "(III)I"⟩
def dkwX3_mix_2 : List UInt8 := [154, 0, 9, 42, 5, 182, 0, 63, 172, 42, 42, 27, 28, 29, 182, 0, 149, 6, 182, 0, 132, 172]
abbrev dktX3_mix_2 : List UInt8 := dkwX3_mix_2 ++ []
def dkwX3_mix_1 : List UInt8 := [154, 0, 9, 42, 4, 182, 0, 63, 172, 27, 28, 159, 0, 14, 29, 4, 17, 3, 231, 184, 0, 66]
abbrev dktX3_mix_1 : List UInt8 := dkwX3_mix_1 ++ dktX3_mix_2
def dkwX3_mix_0 : List UInt8 := [42, 3, 181, 0, 38, 42, 182, 0, 125, 42, 27, 182, 0, 146, 153, 0, 11, 42, 28, 182, 0, 146]
abbrev dktX3_mix_0 : List UInt8 := dkwX3_mix_0 ++ dktX3_mix_1
theorem dksX3_mix_0 : cX3_mix.data.toList.drop 0 = dktX3_mix_0 := by decide +kernel
theorem dksX3_mix_1 : cX3_mix.data.toList.drop 22 = dktX3_mix_1 := dk_seg dksX3_mix_0 22 rfl rfl
theorem dksX3_mix_2 : cX3_mix.data.toList.drop 44 = dktX3_mix_2 := dk_seg dksX3_mix_1 22 rfl rfl
theorem dX3_mix_0 : decode cX3_mix 0 = .ok (.aload_n 0, 1) := dk_42 (dk_at dksX3_mix_0 0 rfl rfl)
theorem dX3_mix_1 : decode cX3_mix 1 = .ok (.iconst 0, 1) := dk_3 (dk_at dksX3_mix_0 1 rfl rfl)
theorem dX3_mix_2 : decode cX3_mix 2 = .ok (.putfield 38, 3) := dk_181 0 38 (dk_at dksX3_mix_0 2 rfl rfl)
theorem dX3_mix_5 : decode cX3_mix 5 = .ok (.aload_n 0, 1) := dk_42 (dk_at dksX3_mix_0 5 rfl rfl)
theorem dX3_mix_6 : decode cX3_mix 6 = .ok (.invokevirtual 125, 3) := dk_182 0 125 (dk_at dksX3_mix_0 6 rfl rfl)
theorem dX3_mix_9 : decode cX3_mix 9 = .ok (.aload_n 0, 1) := dk_42 (dk_at dksX3_mix_0 9 rfl rfl)
theorem dX3_mix_10 : decode cX3_mix 10 = .ok (.iload_n 1, 1) := dk_27 (dk_at dksX3_mix_0 10 rfl rfl)
theorem dX3_mix_11 : decode cX3_mix 11 = .ok (.invokevirtual 146, 3) := dk_182 0 146 (dk_at dksX3_mix_0 11 rfl rfl)
theorem dX3_mix_14 : decode cX3_mix 14 = .ok (.ifCond .eq 11, 3) := dk_153 0 11 (dk_at dksX3_mix_0 14 rfl rfl)
theorem dX3_mix_17 : decode cX3_mix 17 = .ok (.aload_n 0, 1) := dk_42 (dk_at dksX3_mix_0 17 rfl rfl)
theorem dX3_mix_18 : decode cX3_mix 18 = .ok (.iload_n 2, 1) := dk_28 (dk_at dksX3_mix_0 18 rfl rfl)
theorem dX3_mix_19 : decode cX3_mix 19 = .ok (.invokevirtual 146, 3) := dk_182 0 146 (dk_at dksX3_mix_0 19 rfl rfl)
theorem dX3_mix_22 : decode cX3_mix 22 = .ok (.ifCond .ne 9, 3) := dk_154 0 9 (dk_at dksX3_mix_1 0 rfl rfl)
theorem dX3_mix_25 : decode cX3_mix 25 = .ok (.aload_n 0, 1) := dk_42 (dk_at dksX3_mix_1 3 rfl rfl)
theorem dX3_mix_26 : decode cX3_mix 26 = .ok (.iconst 1, 1) := dk_4 (dk_at dksX3_mix_1 4 rfl rfl)
theorem dX3_mix_27 : decode cX3_mix 27 = .ok (.invokevirtual 63, 3) := dk_182 0 63 (dk_at dksX3_mix_1 5 rfl rfl)
theorem dX3_mix_30 : decode cX3_mix 30 = .ok (.ireturn, 1) := dk_172 (dk_at dksX3_mix_1 8 rfl rfl)
theorem dX3_mix_31 : decode cX3_mix 31 = .ok (.iload_n 1, 1) := dk_27 (dk_at dksX3_mix_1 9 rfl rfl)
theorem dX3_mix_32 : decode cX3_mix 32 = .ok (.iload_n 2, 1) := dk_28 (dk_at dksX3_mix_1 10 rfl rfl)
theorem dX3_mix_33 : decode cX3_mix 33 = .ok (.if_icmp .eq 14, 3) := dk_159 0 14 (dk_at dksX3_mix_1 11 rfl rfl)
theorem dX3_mix_36 : decode cX3_mix 36 = .ok (.iload_n 3, 1) := dk_29 (dk_at dksX3_mix_1 14 rfl rfl)
theorem dX3_mix_37 : decode cX3_mix 37 = .ok (.iconst 1, 1) := dk_4 (dk_at dksX3_mix_1 15 rfl rfl)
theorem dX3_mix_38 : decode cX3_mix 38 = .ok (.sipush 999, 3) := dk_17 3 231 (dk_at dksX3_mix_1 16 rfl rfl)
theorem dX3_mix_41 : decode cX3_mix 41 = .ok (.invokestatic 66, 3) := dk_184 0 66 (dk_at dksX3_mix_1 19 rfl rfl)
theorem dX3_mix_44 : decode cX3_mix 44 = .ok (.ifCond .ne 9, 3) := dk_154 0 9 (dk_at dksX3_mix_2 0 rfl rfl)
theorem dX3_mix_47 : decode cX3_mix 47 = .ok (.aload_n 0, 1) := dk_42 (dk_at dksX3_mix_2 3 rfl rfl)
theorem dX3_mix_48 : decode cX3_mix 48 = .ok (.iconst 2, 1) := dk_5 (dk_at dksX3_mix_2 4 rfl rfl)
theorem dX3_mix_49 : decode cX3_mix 49 = .ok (.invokevirtual 63, 3) := dk_182 0 63 (dk_at dksX3_mix_2 5 rfl rfl)
theorem dX3_mix_52 : decode cX3_mix 52 = .ok (.ireturn, 1) := dk_172 (dk_at dksX3_mix_2 8 rfl rfl)
theorem dX3_mix_53 : decode cX3_mix 53 = .ok (.aload_n 0, 1) := dk_42 (dk_at dksX3_mix_2 9 rfl rfl)
theorem dX3_mix_54 : decode cX3_mix 54 = .ok (.aload_n 0, 1) := dk_42 (dk_at dksX3_mix_2 10 rfl rfl)
theorem dX3_mix_55 : decode cX3_mix 55 = .ok (.iload_n 1, 1) := dk_27 (dk_at dksX3_mix_2 11 rfl rfl)
theorem dX3_mix_56 : decode cX3_mix 56 = .ok (.iload_n 2, 1) := dk_28 (dk_at dksX3_mix_2 12 rfl rfl)
theorem dX3_mix_57 : decode cX3_mix 57 = .ok (.iload_n 3, 1) := dk_29 (dk_at dksX3_mix_2 13 rfl rfl)
theorem dX3_mix_58 : decode cX3_mix 58 = .ok (.invokevirtual 149, 3) := dk_182 0 149 (dk_at dksX3_mix_2 14 rfl rfl)
theorem dX3_mix_61 : decode cX3_mix 61 = .ok (.iconst 3, 1) := dk_6 (dk_at dksX3_mix_2 17 rfl rfl)
theorem dX3_mix_62 : decode cX3_mix 62 = .ok (.invokevirtual 132, 3) := dk_182 0 132 (dk_at dksX3_mix_2 18 rfl rfl)
theorem dX3_mix_65 : decode cX3_mix 65 = .ok (.ireturn, 1) := dk_172 (dk_at dksX3_mix_2 21 rfl rfl)
abbrev cX3_mixes : ByteArray := prog_19_method_35_code
def yX3_mixes : MethodName := ⟨RX3, "mixes", "(III)I"⟩
def dkwX3_mixes_6 : List UInt8 := [100, 79, 42, 42, 28, 4, 182, 0, 74, 182, 0, 113, 172]
abbrev dktX3_mixes_6 : List UInt8 := dkwX3_mixes_6 ++ []
def dkwX3_mixes_5 : List UInt8 := [17, 3, 231, 167, 0, 5, 21, 4, 79, 42, 180, 0, 7, 16, 31, 7, 27, 104, 96, 5, 96, 92, 46, 29]
abbrev dktX3_mixes_5 : List UInt8 := dkwX3_mixes_5 ++ dktX3_mixes_6
def dkwX3_mixes_4 : List UInt8 := [21, 4, 108, 79, 42, 180, 0, 7, 16, 31, 7, 28, 104, 96, 5, 96, 21, 4, 17, 3, 231, 164, 0, 9]
abbrev dktX3_mixes_4 : List UInt8 := dkwX3_mixes_4 ++ dktX3_mixes_5
def dkwX3_mixes_3 : List UInt8 := [4, 96, 42, 28, 4, 182, 0, 74, 42, 28, 5, 182, 0, 74, 104, 42, 27, 4, 182, 0, 74, 29, 104, 96]
abbrev dktX3_mixes_3 : List UInt8 := dkwX3_mixes_3 ++ dktX3_mixes_4
def dkwX3_mixes_2 : List UInt8 := [182, 0, 95, 172, 42, 28, 5, 182, 0, 74, 29, 96, 54, 4, 42, 180, 0, 7, 16, 31, 7, 28, 104, 96]
abbrev dktX3_mixes_2 : List UInt8 := dkwX3_mixes_2 ++ dktX3_mixes_3
def dkwX3_mixes_1 : List UInt8 := [182, 0, 95, 172, 42, 27, 5, 182, 0, 74, 29, 162, 0, 15, 42, 6, 42, 27, 5, 182, 0, 74]
abbrev dktX3_mixes_1 : List UInt8 := dkwX3_mixes_1 ++ dktX3_mixes_2
def dkwX3_mixes_0 : List UInt8 := [42, 27, 3, 182, 0, 74, 42, 28, 3, 182, 0, 74, 159, 0, 16, 42, 16, 13, 42, 28, 3, 182, 0, 74]
abbrev dktX3_mixes_0 : List UInt8 := dkwX3_mixes_0 ++ dktX3_mixes_1
theorem dksX3_mixes_0 : cX3_mixes.data.toList.drop 0 = dktX3_mixes_0 := by decide +kernel
theorem dksX3_mixes_1 : cX3_mixes.data.toList.drop 24 = dktX3_mixes_1 := dk_seg dksX3_mixes_0 24 rfl rfl
theorem dksX3_mixes_2 : cX3_mixes.data.toList.drop 46 = dktX3_mixes_2 := dk_seg dksX3_mixes_1 22 rfl rfl
theorem dksX3_mixes_3 : cX3_mixes.data.toList.drop 70 = dktX3_mixes_3 := dk_seg dksX3_mixes_2 24 rfl rfl
theorem dksX3_mixes_4 : cX3_mixes.data.toList.drop 94 = dktX3_mixes_4 := dk_seg dksX3_mixes_3 24 rfl rfl
theorem dksX3_mixes_5 : cX3_mixes.data.toList.drop 118 = dktX3_mixes_5 := dk_seg dksX3_mixes_4 24 rfl rfl
theorem dksX3_mixes_6 : cX3_mixes.data.toList.drop 142 = dktX3_mixes_6 := dk_seg dksX3_mixes_5 24 rfl rfl
theorem dX3_mixes_0 : decode cX3_mixes 0 = .ok (.aload_n 0, 1) := dk_42 (dk_at dksX3_mixes_0 0 rfl rfl)
theorem dX3_mixes_1 : decode cX3_mixes 1 = .ok (.iload_n 1, 1) := dk_27 (dk_at dksX3_mixes_0 1 rfl rfl)
theorem dX3_mixes_2 : decode cX3_mixes 2 = .ok (.iconst 0, 1) := dk_3 (dk_at dksX3_mixes_0 2 rfl rfl)
theorem dX3_mixes_3 : decode cX3_mixes 3 = .ok (.invokevirtual 74, 3) := dk_182 0 74 (dk_at dksX3_mixes_0 3 rfl rfl)
theorem dX3_mixes_6 : decode cX3_mixes 6 = .ok (.aload_n 0, 1) := dk_42 (dk_at dksX3_mixes_0 6 rfl rfl)
theorem dX3_mixes_7 : decode cX3_mixes 7 = .ok (.iload_n 2, 1) := dk_28 (dk_at dksX3_mixes_0 7 rfl rfl)
theorem dX3_mixes_8 : decode cX3_mixes 8 = .ok (.iconst 0, 1) := dk_3 (dk_at dksX3_mixes_0 8 rfl rfl)
theorem dX3_mixes_9 : decode cX3_mixes 9 = .ok (.invokevirtual 74, 3) := dk_182 0 74 (dk_at dksX3_mixes_0 9 rfl rfl)
theorem dX3_mixes_12 : decode cX3_mixes 12 = .ok (.if_icmp .eq 16, 3) := dk_159 0 16 (dk_at dksX3_mixes_0 12 rfl rfl)
theorem dX3_mixes_15 : decode cX3_mixes 15 = .ok (.aload_n 0, 1) := dk_42 (dk_at dksX3_mixes_0 15 rfl rfl)
theorem dX3_mixes_16 : decode cX3_mixes 16 = .ok (.bipush 13, 2) := dk_16 13 (dk_at dksX3_mixes_0 16 rfl rfl)
theorem dX3_mixes_18 : decode cX3_mixes 18 = .ok (.aload_n 0, 1) := dk_42 (dk_at dksX3_mixes_0 18 rfl rfl)
theorem dX3_mixes_19 : decode cX3_mixes 19 = .ok (.iload_n 2, 1) := dk_28 (dk_at dksX3_mixes_0 19 rfl rfl)
theorem dX3_mixes_20 : decode cX3_mixes 20 = .ok (.iconst 0, 1) := dk_3 (dk_at dksX3_mixes_0 20 rfl rfl)
theorem dX3_mixes_21 : decode cX3_mixes 21 = .ok (.invokevirtual 74, 3) := dk_182 0 74 (dk_at dksX3_mixes_0 21 rfl rfl)
theorem dX3_mixes_24 : decode cX3_mixes 24 = .ok (.invokevirtual 95, 3) := dk_182 0 95 (dk_at dksX3_mixes_1 0 rfl rfl)
theorem dX3_mixes_27 : decode cX3_mixes 27 = .ok (.ireturn, 1) := dk_172 (dk_at dksX3_mixes_1 3 rfl rfl)
theorem dX3_mixes_28 : decode cX3_mixes 28 = .ok (.aload_n 0, 1) := dk_42 (dk_at dksX3_mixes_1 4 rfl rfl)
theorem dX3_mixes_29 : decode cX3_mixes 29 = .ok (.iload_n 1, 1) := dk_27 (dk_at dksX3_mixes_1 5 rfl rfl)
theorem dX3_mixes_30 : decode cX3_mixes 30 = .ok (.iconst 2, 1) := dk_5 (dk_at dksX3_mixes_1 6 rfl rfl)
theorem dX3_mixes_31 : decode cX3_mixes 31 = .ok (.invokevirtual 74, 3) := dk_182 0 74 (dk_at dksX3_mixes_1 7 rfl rfl)
theorem dX3_mixes_34 : decode cX3_mixes 34 = .ok (.iload_n 3, 1) := dk_29 (dk_at dksX3_mixes_1 10 rfl rfl)
theorem dX3_mixes_35 : decode cX3_mixes 35 = .ok (.if_icmp .ge 15, 3) := dk_162 0 15 (dk_at dksX3_mixes_1 11 rfl rfl)
theorem dX3_mixes_38 : decode cX3_mixes 38 = .ok (.aload_n 0, 1) := dk_42 (dk_at dksX3_mixes_1 14 rfl rfl)
theorem dX3_mixes_39 : decode cX3_mixes 39 = .ok (.iconst 3, 1) := dk_6 (dk_at dksX3_mixes_1 15 rfl rfl)
theorem dX3_mixes_40 : decode cX3_mixes 40 = .ok (.aload_n 0, 1) := dk_42 (dk_at dksX3_mixes_1 16 rfl rfl)
theorem dX3_mixes_41 : decode cX3_mixes 41 = .ok (.iload_n 1, 1) := dk_27 (dk_at dksX3_mixes_1 17 rfl rfl)
theorem dX3_mixes_42 : decode cX3_mixes 42 = .ok (.iconst 2, 1) := dk_5 (dk_at dksX3_mixes_1 18 rfl rfl)
theorem dX3_mixes_43 : decode cX3_mixes 43 = .ok (.invokevirtual 74, 3) := dk_182 0 74 (dk_at dksX3_mixes_1 19 rfl rfl)
theorem dX3_mixes_46 : decode cX3_mixes 46 = .ok (.invokevirtual 95, 3) := dk_182 0 95 (dk_at dksX3_mixes_2 0 rfl rfl)
theorem dX3_mixes_49 : decode cX3_mixes 49 = .ok (.ireturn, 1) := dk_172 (dk_at dksX3_mixes_2 3 rfl rfl)
theorem dX3_mixes_50 : decode cX3_mixes 50 = .ok (.aload_n 0, 1) := dk_42 (dk_at dksX3_mixes_2 4 rfl rfl)
theorem dX3_mixes_51 : decode cX3_mixes 51 = .ok (.iload_n 2, 1) := dk_28 (dk_at dksX3_mixes_2 5 rfl rfl)
theorem dX3_mixes_52 : decode cX3_mixes 52 = .ok (.iconst 2, 1) := dk_5 (dk_at dksX3_mixes_2 6 rfl rfl)
theorem dX3_mixes_53 : decode cX3_mixes 53 = .ok (.invokevirtual 74, 3) := dk_182 0 74 (dk_at dksX3_mixes_2 7 rfl rfl)
theorem dX3_mixes_56 : decode cX3_mixes 56 = .ok (.iload_n 3, 1) := dk_29 (dk_at dksX3_mixes_2 10 rfl rfl)
theorem dX3_mixes_57 : decode cX3_mixes 57 = .ok (.iadd, 1) := dk_96 (dk_at dksX3_mixes_2 11 rfl rfl)
theorem dX3_mixes_58 : decode cX3_mixes 58 = .ok (.istore 4, 2) := dk_54 4 (dk_at dksX3_mixes_2 12 rfl rfl)
theorem dX3_mixes_60 : decode cX3_mixes 60 = .ok (.aload_n 0, 1) := dk_42 (dk_at dksX3_mixes_2 14 rfl rfl)
theorem dX3_mixes_61 : decode cX3_mixes 61 = .ok (.getfield 7, 3) := dk_180 0 7 (dk_at dksX3_mixes_2 15 rfl rfl)
theorem dX3_mixes_64 : decode cX3_mixes 64 = .ok (.bipush 31, 2) := dk_16 31 (dk_at dksX3_mixes_2 18 rfl rfl)
theorem dX3_mixes_66 : decode cX3_mixes 66 = .ok (.iconst 4, 1) := dk_7 (dk_at dksX3_mixes_2 20 rfl rfl)
theorem dX3_mixes_67 : decode cX3_mixes 67 = .ok (.iload_n 2, 1) := dk_28 (dk_at dksX3_mixes_2 21 rfl rfl)
theorem dX3_mixes_68 : decode cX3_mixes 68 = .ok (.imul, 1) := dk_104 (dk_at dksX3_mixes_2 22 rfl rfl)
theorem dX3_mixes_69 : decode cX3_mixes 69 = .ok (.iadd, 1) := dk_96 (dk_at dksX3_mixes_2 23 rfl rfl)
theorem dX3_mixes_70 : decode cX3_mixes 70 = .ok (.iconst 1, 1) := dk_4 (dk_at dksX3_mixes_3 0 rfl rfl)
theorem dX3_mixes_71 : decode cX3_mixes 71 = .ok (.iadd, 1) := dk_96 (dk_at dksX3_mixes_3 1 rfl rfl)
theorem dX3_mixes_72 : decode cX3_mixes 72 = .ok (.aload_n 0, 1) := dk_42 (dk_at dksX3_mixes_3 2 rfl rfl)
theorem dX3_mixes_73 : decode cX3_mixes 73 = .ok (.iload_n 2, 1) := dk_28 (dk_at dksX3_mixes_3 3 rfl rfl)
theorem dX3_mixes_74 : decode cX3_mixes 74 = .ok (.iconst 1, 1) := dk_4 (dk_at dksX3_mixes_3 4 rfl rfl)
theorem dX3_mixes_75 : decode cX3_mixes 75 = .ok (.invokevirtual 74, 3) := dk_182 0 74 (dk_at dksX3_mixes_3 5 rfl rfl)
theorem dX3_mixes_78 : decode cX3_mixes 78 = .ok (.aload_n 0, 1) := dk_42 (dk_at dksX3_mixes_3 8 rfl rfl)
theorem dX3_mixes_79 : decode cX3_mixes 79 = .ok (.iload_n 2, 1) := dk_28 (dk_at dksX3_mixes_3 9 rfl rfl)
theorem dX3_mixes_80 : decode cX3_mixes 80 = .ok (.iconst 2, 1) := dk_5 (dk_at dksX3_mixes_3 10 rfl rfl)
theorem dX3_mixes_81 : decode cX3_mixes 81 = .ok (.invokevirtual 74, 3) := dk_182 0 74 (dk_at dksX3_mixes_3 11 rfl rfl)
theorem dX3_mixes_84 : decode cX3_mixes 84 = .ok (.imul, 1) := dk_104 (dk_at dksX3_mixes_3 14 rfl rfl)
theorem dX3_mixes_85 : decode cX3_mixes 85 = .ok (.aload_n 0, 1) := dk_42 (dk_at dksX3_mixes_3 15 rfl rfl)
theorem dX3_mixes_86 : decode cX3_mixes 86 = .ok (.iload_n 1, 1) := dk_27 (dk_at dksX3_mixes_3 16 rfl rfl)
theorem dX3_mixes_87 : decode cX3_mixes 87 = .ok (.iconst 1, 1) := dk_4 (dk_at dksX3_mixes_3 17 rfl rfl)
theorem dX3_mixes_88 : decode cX3_mixes 88 = .ok (.invokevirtual 74, 3) := dk_182 0 74 (dk_at dksX3_mixes_3 18 rfl rfl)
theorem dX3_mixes_91 : decode cX3_mixes 91 = .ok (.iload_n 3, 1) := dk_29 (dk_at dksX3_mixes_3 21 rfl rfl)
theorem dX3_mixes_92 : decode cX3_mixes 92 = .ok (.imul, 1) := dk_104 (dk_at dksX3_mixes_3 22 rfl rfl)
theorem dX3_mixes_93 : decode cX3_mixes 93 = .ok (.iadd, 1) := dk_96 (dk_at dksX3_mixes_3 23 rfl rfl)
theorem dX3_mixes_94 : decode cX3_mixes 94 = .ok (.iload 4, 2) := dk_21 4 (dk_at dksX3_mixes_4 0 rfl rfl)
theorem dX3_mixes_96 : decode cX3_mixes 96 = .ok (.idiv, 1) := dk_108 (dk_at dksX3_mixes_4 2 rfl rfl)
theorem dX3_mixes_97 : decode cX3_mixes 97 = .ok (.iastore, 1) := dk_79 (dk_at dksX3_mixes_4 3 rfl rfl)
theorem dX3_mixes_98 : decode cX3_mixes 98 = .ok (.aload_n 0, 1) := dk_42 (dk_at dksX3_mixes_4 4 rfl rfl)
theorem dX3_mixes_99 : decode cX3_mixes 99 = .ok (.getfield 7, 3) := dk_180 0 7 (dk_at dksX3_mixes_4 5 rfl rfl)
theorem dX3_mixes_102 : decode cX3_mixes 102 = .ok (.bipush 31, 2) := dk_16 31 (dk_at dksX3_mixes_4 8 rfl rfl)
theorem dX3_mixes_104 : decode cX3_mixes 104 = .ok (.iconst 4, 1) := dk_7 (dk_at dksX3_mixes_4 10 rfl rfl)
theorem dX3_mixes_105 : decode cX3_mixes 105 = .ok (.iload_n 2, 1) := dk_28 (dk_at dksX3_mixes_4 11 rfl rfl)
theorem dX3_mixes_106 : decode cX3_mixes 106 = .ok (.imul, 1) := dk_104 (dk_at dksX3_mixes_4 12 rfl rfl)
theorem dX3_mixes_107 : decode cX3_mixes 107 = .ok (.iadd, 1) := dk_96 (dk_at dksX3_mixes_4 13 rfl rfl)
theorem dX3_mixes_108 : decode cX3_mixes 108 = .ok (.iconst 2, 1) := dk_5 (dk_at dksX3_mixes_4 14 rfl rfl)
theorem dX3_mixes_109 : decode cX3_mixes 109 = .ok (.iadd, 1) := dk_96 (dk_at dksX3_mixes_4 15 rfl rfl)
theorem dX3_mixes_110 : decode cX3_mixes 110 = .ok (.iload 4, 2) := dk_21 4 (dk_at dksX3_mixes_4 16 rfl rfl)
theorem dX3_mixes_112 : decode cX3_mixes 112 = .ok (.sipush 999, 3) := dk_17 3 231 (dk_at dksX3_mixes_4 18 rfl rfl)
theorem dX3_mixes_115 : decode cX3_mixes 115 = .ok (.if_icmp .le 9, 3) := dk_164 0 9 (dk_at dksX3_mixes_4 21 rfl rfl)
theorem dX3_mixes_118 : decode cX3_mixes 118 = .ok (.sipush 999, 3) := dk_17 3 231 (dk_at dksX3_mixes_5 0 rfl rfl)
theorem dX3_mixes_121 : decode cX3_mixes 121 = .ok (.goto 5, 3) := dk_167 0 5 (dk_at dksX3_mixes_5 3 rfl rfl)
theorem dX3_mixes_124 : decode cX3_mixes 124 = .ok (.iload 4, 2) := dk_21 4 (dk_at dksX3_mixes_5 6 rfl rfl)
theorem dX3_mixes_126 : decode cX3_mixes 126 = .ok (.iastore, 1) := dk_79 (dk_at dksX3_mixes_5 8 rfl rfl)
theorem dX3_mixes_127 : decode cX3_mixes 127 = .ok (.aload_n 0, 1) := dk_42 (dk_at dksX3_mixes_5 9 rfl rfl)
theorem dX3_mixes_128 : decode cX3_mixes 128 = .ok (.getfield 7, 3) := dk_180 0 7 (dk_at dksX3_mixes_5 10 rfl rfl)
theorem dX3_mixes_131 : decode cX3_mixes 131 = .ok (.bipush 31, 2) := dk_16 31 (dk_at dksX3_mixes_5 13 rfl rfl)
theorem dX3_mixes_133 : decode cX3_mixes 133 = .ok (.iconst 4, 1) := dk_7 (dk_at dksX3_mixes_5 15 rfl rfl)
theorem dX3_mixes_134 : decode cX3_mixes 134 = .ok (.iload_n 1, 1) := dk_27 (dk_at dksX3_mixes_5 16 rfl rfl)
theorem dX3_mixes_135 : decode cX3_mixes 135 = .ok (.imul, 1) := dk_104 (dk_at dksX3_mixes_5 17 rfl rfl)
theorem dX3_mixes_136 : decode cX3_mixes 136 = .ok (.iadd, 1) := dk_96 (dk_at dksX3_mixes_5 18 rfl rfl)
theorem dX3_mixes_137 : decode cX3_mixes 137 = .ok (.iconst 2, 1) := dk_5 (dk_at dksX3_mixes_5 19 rfl rfl)
theorem dX3_mixes_138 : decode cX3_mixes 138 = .ok (.iadd, 1) := dk_96 (dk_at dksX3_mixes_5 20 rfl rfl)
theorem dX3_mixes_139 : decode cX3_mixes 139 = .ok (.dup2, 1) := dk_92 (dk_at dksX3_mixes_5 21 rfl rfl)
theorem dX3_mixes_140 : decode cX3_mixes 140 = .ok (.iaload, 1) := dk_46 (dk_at dksX3_mixes_5 22 rfl rfl)
theorem dX3_mixes_141 : decode cX3_mixes 141 = .ok (.iload_n 3, 1) := dk_29 (dk_at dksX3_mixes_5 23 rfl rfl)
theorem dX3_mixes_142 : decode cX3_mixes 142 = .ok (.isub, 1) := dk_100 (dk_at dksX3_mixes_6 0 rfl rfl)
theorem dX3_mixes_143 : decode cX3_mixes 143 = .ok (.iastore, 1) := dk_79 (dk_at dksX3_mixes_6 1 rfl rfl)
theorem dX3_mixes_144 : decode cX3_mixes 144 = .ok (.aload_n 0, 1) := dk_42 (dk_at dksX3_mixes_6 2 rfl rfl)
theorem dX3_mixes_145 : decode cX3_mixes 145 = .ok (.aload_n 0, 1) := dk_42 (dk_at dksX3_mixes_6 3 rfl rfl)
theorem dX3_mixes_146 : decode cX3_mixes 146 = .ok (.iload_n 2, 1) := dk_28 (dk_at dksX3_mixes_6 4 rfl rfl)
theorem dX3_mixes_147 : decode cX3_mixes 147 = .ok (.iconst 1, 1) := dk_4 (dk_at dksX3_mixes_6 5 rfl rfl)
theorem dX3_mixes_148 : decode cX3_mixes 148 = .ok (.invokevirtual 74, 3) := dk_182 0 74 (dk_at dksX3_mixes_6 6 rfl rfl)
theorem dX3_mixes_151 : decode cX3_mixes 151 = .ok (.invokevirtual 113, 3) := dk_182 0 113 (dk_at dksX3_mixes_6 9 rfl rfl)
theorem dX3_mixes_154 : decode cX3_mixes 154 = .ok (.ireturn, 1) := dk_172 (dk_at dksX3_mixes_6 12 rfl rfl)
abbrev cX3_print : ByteArray := prog_19_method_45_code
def yX3_print : MethodName := ⟨RX3, "print", "(III)I"⟩
def dkwX3_print_2 : List UInt8 := [28, 29, 182, 0, 152, 6, 182, 0, 132, 167, 0, 8, 42, 5, 182, 0, 63, 172]
abbrev dktX3_print_2 : List UInt8 := dkwX3_print_2 ++ []
def dkwX3_print_1 : List UInt8 := [154, 0, 9, 42, 4, 182, 0, 63, 172, 29, 16, 100, 17, 3, 232, 184, 0, 66, 153, 0, 18, 42, 42, 27]
abbrev dktX3_print_1 : List UInt8 := dkwX3_print_1 ++ dktX3_print_2
def dkwX3_print_0 : List UInt8 := [42, 3, 181, 0, 38, 42, 182, 0, 125, 42, 27, 182, 0, 135, 153, 0, 11, 42, 28, 182, 0, 146]
abbrev dktX3_print_0 : List UInt8 := dkwX3_print_0 ++ dktX3_print_1
theorem dksX3_print_0 : cX3_print.data.toList.drop 0 = dktX3_print_0 := by decide +kernel
theorem dksX3_print_1 : cX3_print.data.toList.drop 22 = dktX3_print_1 := dk_seg dksX3_print_0 22 rfl rfl
theorem dksX3_print_2 : cX3_print.data.toList.drop 46 = dktX3_print_2 := dk_seg dksX3_print_1 24 rfl rfl
theorem dX3_print_0 : decode cX3_print 0 = .ok (.aload_n 0, 1) := dk_42 (dk_at dksX3_print_0 0 rfl rfl)
theorem dX3_print_1 : decode cX3_print 1 = .ok (.iconst 0, 1) := dk_3 (dk_at dksX3_print_0 1 rfl rfl)
theorem dX3_print_2 : decode cX3_print 2 = .ok (.putfield 38, 3) := dk_181 0 38 (dk_at dksX3_print_0 2 rfl rfl)
theorem dX3_print_5 : decode cX3_print 5 = .ok (.aload_n 0, 1) := dk_42 (dk_at dksX3_print_0 5 rfl rfl)
theorem dX3_print_6 : decode cX3_print 6 = .ok (.invokevirtual 125, 3) := dk_182 0 125 (dk_at dksX3_print_0 6 rfl rfl)
theorem dX3_print_9 : decode cX3_print 9 = .ok (.aload_n 0, 1) := dk_42 (dk_at dksX3_print_0 9 rfl rfl)
theorem dX3_print_10 : decode cX3_print 10 = .ok (.iload_n 1, 1) := dk_27 (dk_at dksX3_print_0 10 rfl rfl)
theorem dX3_print_11 : decode cX3_print 11 = .ok (.invokevirtual 135, 3) := dk_182 0 135 (dk_at dksX3_print_0 11 rfl rfl)
theorem dX3_print_14 : decode cX3_print 14 = .ok (.ifCond .eq 11, 3) := dk_153 0 11 (dk_at dksX3_print_0 14 rfl rfl)
theorem dX3_print_17 : decode cX3_print 17 = .ok (.aload_n 0, 1) := dk_42 (dk_at dksX3_print_0 17 rfl rfl)
theorem dX3_print_18 : decode cX3_print 18 = .ok (.iload_n 2, 1) := dk_28 (dk_at dksX3_print_0 18 rfl rfl)
theorem dX3_print_19 : decode cX3_print 19 = .ok (.invokevirtual 146, 3) := dk_182 0 146 (dk_at dksX3_print_0 19 rfl rfl)
theorem dX3_print_22 : decode cX3_print 22 = .ok (.ifCond .ne 9, 3) := dk_154 0 9 (dk_at dksX3_print_1 0 rfl rfl)
theorem dX3_print_25 : decode cX3_print 25 = .ok (.aload_n 0, 1) := dk_42 (dk_at dksX3_print_1 3 rfl rfl)
theorem dX3_print_26 : decode cX3_print 26 = .ok (.iconst 1, 1) := dk_4 (dk_at dksX3_print_1 4 rfl rfl)
theorem dX3_print_27 : decode cX3_print 27 = .ok (.invokevirtual 63, 3) := dk_182 0 63 (dk_at dksX3_print_1 5 rfl rfl)
theorem dX3_print_30 : decode cX3_print 30 = .ok (.ireturn, 1) := dk_172 (dk_at dksX3_print_1 8 rfl rfl)
theorem dX3_print_31 : decode cX3_print 31 = .ok (.iload_n 3, 1) := dk_29 (dk_at dksX3_print_1 9 rfl rfl)
theorem dX3_print_32 : decode cX3_print 32 = .ok (.bipush 100, 2) := dk_16 100 (dk_at dksX3_print_1 10 rfl rfl)
theorem dX3_print_34 : decode cX3_print 34 = .ok (.sipush 1000, 3) := dk_17 3 232 (dk_at dksX3_print_1 12 rfl rfl)
theorem dX3_print_37 : decode cX3_print 37 = .ok (.invokestatic 66, 3) := dk_184 0 66 (dk_at dksX3_print_1 15 rfl rfl)
theorem dX3_print_40 : decode cX3_print 40 = .ok (.ifCond .eq 18, 3) := dk_153 0 18 (dk_at dksX3_print_1 18 rfl rfl)
theorem dX3_print_43 : decode cX3_print 43 = .ok (.aload_n 0, 1) := dk_42 (dk_at dksX3_print_1 21 rfl rfl)
theorem dX3_print_44 : decode cX3_print 44 = .ok (.aload_n 0, 1) := dk_42 (dk_at dksX3_print_1 22 rfl rfl)
theorem dX3_print_45 : decode cX3_print 45 = .ok (.iload_n 1, 1) := dk_27 (dk_at dksX3_print_1 23 rfl rfl)
theorem dX3_print_46 : decode cX3_print 46 = .ok (.iload_n 2, 1) := dk_28 (dk_at dksX3_print_2 0 rfl rfl)
theorem dX3_print_47 : decode cX3_print 47 = .ok (.iload_n 3, 1) := dk_29 (dk_at dksX3_print_2 1 rfl rfl)
theorem dX3_print_48 : decode cX3_print 48 = .ok (.invokevirtual 152, 3) := dk_182 0 152 (dk_at dksX3_print_2 2 rfl rfl)
theorem dX3_print_51 : decode cX3_print 51 = .ok (.iconst 3, 1) := dk_6 (dk_at dksX3_print_2 5 rfl rfl)
theorem dX3_print_52 : decode cX3_print 52 = .ok (.invokevirtual 132, 3) := dk_182 0 132 (dk_at dksX3_print_2 6 rfl rfl)
theorem dX3_print_55 : decode cX3_print 55 = .ok (.goto 8, 3) := dk_167 0 8 (dk_at dksX3_print_2 9 rfl rfl)
theorem dX3_print_58 : decode cX3_print 58 = .ok (.aload_n 0, 1) := dk_42 (dk_at dksX3_print_2 12 rfl rfl)
theorem dX3_print_59 : decode cX3_print 59 = .ok (.iconst 2, 1) := dk_5 (dk_at dksX3_print_2 13 rfl rfl)
theorem dX3_print_60 : decode cX3_print 60 = .ok (.invokevirtual 63, 3) := dk_182 0 63 (dk_at dksX3_print_2 14 rfl rfl)
theorem dX3_print_63 : decode cX3_print 63 = .ok (.ireturn, 1) := dk_172 (dk_at dksX3_print_2 17 rfl rfl)
abbrev cX3_prints : ByteArray := prog_19_method_36_code
def yX3_prints : MethodName := ⟨RX3, "prints", "(III)I"⟩
def dkwX3_prints_11 : List UInt8 := [182, 0, 113, 172]
abbrev dktX3_prints_11 : List UInt8 := dkwX3_prints_11 ++ []
def dkwX3_prints_10 : List UInt8 := [79, 42, 180, 0, 7, 7, 92, 46, 29, 96, 79, 42, 180, 0, 7, 5, 21, 6, 4, 96, 79, 42, 21, 6]
abbrev dktX3_prints_10 : List UInt8 := dkwX3_prints_10 ++ dktX3_prints_11
def dkwX3_prints_9 : List UInt8 := [21, 4, 29, 16, 100, 108, 96, 79, 42, 180, 0, 7, 16, 7, 7, 27, 104, 96, 6, 96, 92, 46, 4, 96]
abbrev dktX3_prints_9 : List UInt8 := dkwX3_prints_9 ++ dktX3_prints_10
def dkwX3_prints_8 : List UInt8 := [7, 27, 104, 96, 5, 96, 21, 4, 29, 16, 100, 108, 96, 16, 100, 164, 0, 8, 16, 100, 167, 0, 10]
abbrev dktX3_prints_8 : List UInt8 := dkwX3_prints_8 ++ dktX3_prints_9
def dkwX3_prints_7 : List UInt8 := [79, 42, 180, 0, 7, 16, 31, 7, 28, 104, 96, 6, 96, 92, 46, 4, 96, 79, 42, 180, 0, 7, 16, 7]
abbrev dktX3_prints_7 : List UInt8 := dkwX3_prints_7 ++ dktX3_prints_8
def dkwX3_prints_6 : List UInt8 := [21, 4, 16, 25, 108, 96, 79, 42, 180, 0, 7, 16, 31, 7, 28, 104, 96, 5, 96, 92, 46, 21, 5, 100]
abbrev dktX3_prints_6 : List UInt8 := dkwX3_prints_6 ++ dktX3_prints_7
def dkwX3_prints_5 : List UInt8 := [5, 96, 29, 79, 42, 180, 0, 7, 16, 79, 16, 6, 21, 6, 104, 96, 6, 96, 42, 28, 4, 182, 0, 74]
abbrev dktX3_prints_5 : List UInt8 := dkwX3_prints_5 ++ dktX3_prints_6
def dkwX3_prints_4 : List UInt8 := [16, 79, 16, 6, 21, 6, 104, 96, 4, 96, 28, 79, 42, 180, 0, 7, 16, 79, 16, 6, 21, 6, 104, 96]
abbrev dktX3_prints_4 : List UInt8 := dkwX3_prints_4 ++ dktX3_prints_5
def dkwX3_prints_3 : List UInt8 := [16, 24, 182, 0, 95, 172, 42, 180, 0, 7, 16, 79, 16, 6, 21, 6, 104, 96, 27, 79, 42, 180, 0, 7]
abbrev dktX3_prints_3 : List UInt8 := dkwX3_prints_3 ++ dktX3_prints_4
def dkwX3_prints_2 : List UInt8 := [182, 0, 74, 182, 0, 95, 172, 42, 180, 0, 7, 5, 46, 54, 6, 21, 6, 16, 24, 160, 0, 11, 42, 4]
abbrev dktX3_prints_2 : List UInt8 := dkwX3_prints_2 ++ dktX3_prints_3
def dkwX3_prints_1 : List UInt8 := [5, 16, 100, 182, 0, 95, 172, 42, 28, 5, 182, 0, 74, 21, 5, 162, 0, 15, 42, 6, 42, 28, 5]
abbrev dktX3_prints_1 : List UInt8 := dkwX3_prints_1 ++ dktX3_prints_2
def dkwX3_prints_0 : List UInt8 := [42, 27, 5, 182, 0, 89, 54, 4, 4, 29, 16, 20, 108, 96, 54, 5, 21, 4, 16, 100, 160, 0, 11, 42]
abbrev dktX3_prints_0 : List UInt8 := dkwX3_prints_0 ++ dktX3_prints_1
theorem dksX3_prints_0 : cX3_prints.data.toList.drop 0 = dktX3_prints_0 := by decide +kernel
theorem dksX3_prints_1 : cX3_prints.data.toList.drop 24 = dktX3_prints_1 := dk_seg dksX3_prints_0 24 rfl rfl
theorem dksX3_prints_2 : cX3_prints.data.toList.drop 47 = dktX3_prints_2 := dk_seg dksX3_prints_1 23 rfl rfl
theorem dksX3_prints_3 : cX3_prints.data.toList.drop 71 = dktX3_prints_3 := dk_seg dksX3_prints_2 24 rfl rfl
theorem dksX3_prints_4 : cX3_prints.data.toList.drop 95 = dktX3_prints_4 := dk_seg dksX3_prints_3 24 rfl rfl
theorem dksX3_prints_5 : cX3_prints.data.toList.drop 119 = dktX3_prints_5 := dk_seg dksX3_prints_4 24 rfl rfl
theorem dksX3_prints_6 : cX3_prints.data.toList.drop 143 = dktX3_prints_6 := dk_seg dksX3_prints_5 24 rfl rfl
theorem dksX3_prints_7 : cX3_prints.data.toList.drop 167 = dktX3_prints_7 := dk_seg dksX3_prints_6 24 rfl rfl
theorem dksX3_prints_8 : cX3_prints.data.toList.drop 191 = dktX3_prints_8 := dk_seg dksX3_prints_7 24 rfl rfl
theorem dksX3_prints_9 : cX3_prints.data.toList.drop 214 = dktX3_prints_9 := dk_seg dksX3_prints_8 23 rfl rfl
theorem dksX3_prints_10 : cX3_prints.data.toList.drop 238 = dktX3_prints_10 := dk_seg dksX3_prints_9 24 rfl rfl
theorem dksX3_prints_11 : cX3_prints.data.toList.drop 262 = dktX3_prints_11 := dk_seg dksX3_prints_10 24 rfl rfl
theorem dX3_prints_0 : decode cX3_prints 0 = .ok (.aload_n 0, 1) := dk_42 (dk_at dksX3_prints_0 0 rfl rfl)
theorem dX3_prints_1 : decode cX3_prints 1 = .ok (.iload_n 1, 1) := dk_27 (dk_at dksX3_prints_0 1 rfl rfl)
theorem dX3_prints_2 : decode cX3_prints 2 = .ok (.iconst 2, 1) := dk_5 (dk_at dksX3_prints_0 2 rfl rfl)
theorem dX3_prints_3 : decode cX3_prints 3 = .ok (.invokevirtual 89, 3) := dk_182 0 89 (dk_at dksX3_prints_0 3 rfl rfl)
theorem dX3_prints_6 : decode cX3_prints 6 = .ok (.istore 4, 2) := dk_54 4 (dk_at dksX3_prints_0 6 rfl rfl)
theorem dX3_prints_8 : decode cX3_prints 8 = .ok (.iconst 1, 1) := dk_4 (dk_at dksX3_prints_0 8 rfl rfl)
theorem dX3_prints_9 : decode cX3_prints 9 = .ok (.iload_n 3, 1) := dk_29 (dk_at dksX3_prints_0 9 rfl rfl)
theorem dX3_prints_10 : decode cX3_prints 10 = .ok (.bipush 20, 2) := dk_16 20 (dk_at dksX3_prints_0 10 rfl rfl)
theorem dX3_prints_12 : decode cX3_prints 12 = .ok (.idiv, 1) := dk_108 (dk_at dksX3_prints_0 12 rfl rfl)
theorem dX3_prints_13 : decode cX3_prints 13 = .ok (.iadd, 1) := dk_96 (dk_at dksX3_prints_0 13 rfl rfl)
theorem dX3_prints_14 : decode cX3_prints 14 = .ok (.istore 5, 2) := dk_54 5 (dk_at dksX3_prints_0 14 rfl rfl)
theorem dX3_prints_16 : decode cX3_prints 16 = .ok (.iload 4, 2) := dk_21 4 (dk_at dksX3_prints_0 16 rfl rfl)
theorem dX3_prints_18 : decode cX3_prints 18 = .ok (.bipush 100, 2) := dk_16 100 (dk_at dksX3_prints_0 18 rfl rfl)
theorem dX3_prints_20 : decode cX3_prints 20 = .ok (.if_icmp .ne 11, 3) := dk_160 0 11 (dk_at dksX3_prints_0 20 rfl rfl)
theorem dX3_prints_23 : decode cX3_prints 23 = .ok (.aload_n 0, 1) := dk_42 (dk_at dksX3_prints_0 23 rfl rfl)
theorem dX3_prints_24 : decode cX3_prints 24 = .ok (.iconst 2, 1) := dk_5 (dk_at dksX3_prints_1 0 rfl rfl)
theorem dX3_prints_25 : decode cX3_prints 25 = .ok (.bipush 100, 2) := dk_16 100 (dk_at dksX3_prints_1 1 rfl rfl)
theorem dX3_prints_27 : decode cX3_prints 27 = .ok (.invokevirtual 95, 3) := dk_182 0 95 (dk_at dksX3_prints_1 3 rfl rfl)
theorem dX3_prints_30 : decode cX3_prints 30 = .ok (.ireturn, 1) := dk_172 (dk_at dksX3_prints_1 6 rfl rfl)
theorem dX3_prints_31 : decode cX3_prints 31 = .ok (.aload_n 0, 1) := dk_42 (dk_at dksX3_prints_1 7 rfl rfl)
theorem dX3_prints_32 : decode cX3_prints 32 = .ok (.iload_n 2, 1) := dk_28 (dk_at dksX3_prints_1 8 rfl rfl)
theorem dX3_prints_33 : decode cX3_prints 33 = .ok (.iconst 2, 1) := dk_5 (dk_at dksX3_prints_1 9 rfl rfl)
theorem dX3_prints_34 : decode cX3_prints 34 = .ok (.invokevirtual 74, 3) := dk_182 0 74 (dk_at dksX3_prints_1 10 rfl rfl)
theorem dX3_prints_37 : decode cX3_prints 37 = .ok (.iload 5, 2) := dk_21 5 (dk_at dksX3_prints_1 13 rfl rfl)
theorem dX3_prints_39 : decode cX3_prints 39 = .ok (.if_icmp .ge 15, 3) := dk_162 0 15 (dk_at dksX3_prints_1 15 rfl rfl)
theorem dX3_prints_42 : decode cX3_prints 42 = .ok (.aload_n 0, 1) := dk_42 (dk_at dksX3_prints_1 18 rfl rfl)
theorem dX3_prints_43 : decode cX3_prints 43 = .ok (.iconst 3, 1) := dk_6 (dk_at dksX3_prints_1 19 rfl rfl)
theorem dX3_prints_44 : decode cX3_prints 44 = .ok (.aload_n 0, 1) := dk_42 (dk_at dksX3_prints_1 20 rfl rfl)
theorem dX3_prints_45 : decode cX3_prints 45 = .ok (.iload_n 2, 1) := dk_28 (dk_at dksX3_prints_1 21 rfl rfl)
theorem dX3_prints_46 : decode cX3_prints 46 = .ok (.iconst 2, 1) := dk_5 (dk_at dksX3_prints_1 22 rfl rfl)
theorem dX3_prints_47 : decode cX3_prints 47 = .ok (.invokevirtual 74, 3) := dk_182 0 74 (dk_at dksX3_prints_2 0 rfl rfl)
theorem dX3_prints_50 : decode cX3_prints 50 = .ok (.invokevirtual 95, 3) := dk_182 0 95 (dk_at dksX3_prints_2 3 rfl rfl)
theorem dX3_prints_53 : decode cX3_prints 53 = .ok (.ireturn, 1) := dk_172 (dk_at dksX3_prints_2 6 rfl rfl)
theorem dX3_prints_54 : decode cX3_prints 54 = .ok (.aload_n 0, 1) := dk_42 (dk_at dksX3_prints_2 7 rfl rfl)
theorem dX3_prints_55 : decode cX3_prints 55 = .ok (.getfield 7, 3) := dk_180 0 7 (dk_at dksX3_prints_2 8 rfl rfl)
theorem dX3_prints_58 : decode cX3_prints 58 = .ok (.iconst 2, 1) := dk_5 (dk_at dksX3_prints_2 11 rfl rfl)
theorem dX3_prints_59 : decode cX3_prints 59 = .ok (.iaload, 1) := dk_46 (dk_at dksX3_prints_2 12 rfl rfl)
theorem dX3_prints_60 : decode cX3_prints 60 = .ok (.istore 6, 2) := dk_54 6 (dk_at dksX3_prints_2 13 rfl rfl)
theorem dX3_prints_62 : decode cX3_prints 62 = .ok (.iload 6, 2) := dk_21 6 (dk_at dksX3_prints_2 15 rfl rfl)
theorem dX3_prints_64 : decode cX3_prints 64 = .ok (.bipush 24, 2) := dk_16 24 (dk_at dksX3_prints_2 17 rfl rfl)
theorem dX3_prints_66 : decode cX3_prints 66 = .ok (.if_icmp .ne 11, 3) := dk_160 0 11 (dk_at dksX3_prints_2 19 rfl rfl)
theorem dX3_prints_69 : decode cX3_prints 69 = .ok (.aload_n 0, 1) := dk_42 (dk_at dksX3_prints_2 22 rfl rfl)
theorem dX3_prints_70 : decode cX3_prints 70 = .ok (.iconst 1, 1) := dk_4 (dk_at dksX3_prints_2 23 rfl rfl)
theorem dX3_prints_71 : decode cX3_prints 71 = .ok (.bipush 24, 2) := dk_16 24 (dk_at dksX3_prints_3 0 rfl rfl)
theorem dX3_prints_73 : decode cX3_prints 73 = .ok (.invokevirtual 95, 3) := dk_182 0 95 (dk_at dksX3_prints_3 2 rfl rfl)
theorem dX3_prints_76 : decode cX3_prints 76 = .ok (.ireturn, 1) := dk_172 (dk_at dksX3_prints_3 5 rfl rfl)
theorem dX3_prints_77 : decode cX3_prints 77 = .ok (.aload_n 0, 1) := dk_42 (dk_at dksX3_prints_3 6 rfl rfl)
theorem dX3_prints_78 : decode cX3_prints 78 = .ok (.getfield 7, 3) := dk_180 0 7 (dk_at dksX3_prints_3 7 rfl rfl)
theorem dX3_prints_81 : decode cX3_prints 81 = .ok (.bipush 79, 2) := dk_16 79 (dk_at dksX3_prints_3 10 rfl rfl)
theorem dX3_prints_83 : decode cX3_prints 83 = .ok (.bipush 6, 2) := dk_16 6 (dk_at dksX3_prints_3 12 rfl rfl)
theorem dX3_prints_85 : decode cX3_prints 85 = .ok (.iload 6, 2) := dk_21 6 (dk_at dksX3_prints_3 14 rfl rfl)
theorem dX3_prints_87 : decode cX3_prints 87 = .ok (.imul, 1) := dk_104 (dk_at dksX3_prints_3 16 rfl rfl)
theorem dX3_prints_88 : decode cX3_prints 88 = .ok (.iadd, 1) := dk_96 (dk_at dksX3_prints_3 17 rfl rfl)
theorem dX3_prints_89 : decode cX3_prints 89 = .ok (.iload_n 1, 1) := dk_27 (dk_at dksX3_prints_3 18 rfl rfl)
theorem dX3_prints_90 : decode cX3_prints 90 = .ok (.iastore, 1) := dk_79 (dk_at dksX3_prints_3 19 rfl rfl)
theorem dX3_prints_91 : decode cX3_prints 91 = .ok (.aload_n 0, 1) := dk_42 (dk_at dksX3_prints_3 20 rfl rfl)
theorem dX3_prints_92 : decode cX3_prints 92 = .ok (.getfield 7, 3) := dk_180 0 7 (dk_at dksX3_prints_3 21 rfl rfl)
theorem dX3_prints_95 : decode cX3_prints 95 = .ok (.bipush 79, 2) := dk_16 79 (dk_at dksX3_prints_4 0 rfl rfl)
theorem dX3_prints_97 : decode cX3_prints 97 = .ok (.bipush 6, 2) := dk_16 6 (dk_at dksX3_prints_4 2 rfl rfl)
theorem dX3_prints_99 : decode cX3_prints 99 = .ok (.iload 6, 2) := dk_21 6 (dk_at dksX3_prints_4 4 rfl rfl)
theorem dX3_prints_101 : decode cX3_prints 101 = .ok (.imul, 1) := dk_104 (dk_at dksX3_prints_4 6 rfl rfl)
theorem dX3_prints_102 : decode cX3_prints 102 = .ok (.iadd, 1) := dk_96 (dk_at dksX3_prints_4 7 rfl rfl)
theorem dX3_prints_103 : decode cX3_prints 103 = .ok (.iconst 1, 1) := dk_4 (dk_at dksX3_prints_4 8 rfl rfl)
theorem dX3_prints_104 : decode cX3_prints 104 = .ok (.iadd, 1) := dk_96 (dk_at dksX3_prints_4 9 rfl rfl)
theorem dX3_prints_105 : decode cX3_prints 105 = .ok (.iload_n 2, 1) := dk_28 (dk_at dksX3_prints_4 10 rfl rfl)
theorem dX3_prints_106 : decode cX3_prints 106 = .ok (.iastore, 1) := dk_79 (dk_at dksX3_prints_4 11 rfl rfl)
theorem dX3_prints_107 : decode cX3_prints 107 = .ok (.aload_n 0, 1) := dk_42 (dk_at dksX3_prints_4 12 rfl rfl)
theorem dX3_prints_108 : decode cX3_prints 108 = .ok (.getfield 7, 3) := dk_180 0 7 (dk_at dksX3_prints_4 13 rfl rfl)
theorem dX3_prints_111 : decode cX3_prints 111 = .ok (.bipush 79, 2) := dk_16 79 (dk_at dksX3_prints_4 16 rfl rfl)
theorem dX3_prints_113 : decode cX3_prints 113 = .ok (.bipush 6, 2) := dk_16 6 (dk_at dksX3_prints_4 18 rfl rfl)
theorem dX3_prints_115 : decode cX3_prints 115 = .ok (.iload 6, 2) := dk_21 6 (dk_at dksX3_prints_4 20 rfl rfl)
theorem dX3_prints_117 : decode cX3_prints 117 = .ok (.imul, 1) := dk_104 (dk_at dksX3_prints_4 22 rfl rfl)
theorem dX3_prints_118 : decode cX3_prints 118 = .ok (.iadd, 1) := dk_96 (dk_at dksX3_prints_4 23 rfl rfl)
theorem dX3_prints_119 : decode cX3_prints 119 = .ok (.iconst 2, 1) := dk_5 (dk_at dksX3_prints_5 0 rfl rfl)
theorem dX3_prints_120 : decode cX3_prints 120 = .ok (.iadd, 1) := dk_96 (dk_at dksX3_prints_5 1 rfl rfl)
theorem dX3_prints_121 : decode cX3_prints 121 = .ok (.iload_n 3, 1) := dk_29 (dk_at dksX3_prints_5 2 rfl rfl)
theorem dX3_prints_122 : decode cX3_prints 122 = .ok (.iastore, 1) := dk_79 (dk_at dksX3_prints_5 3 rfl rfl)
theorem dX3_prints_123 : decode cX3_prints 123 = .ok (.aload_n 0, 1) := dk_42 (dk_at dksX3_prints_5 4 rfl rfl)
theorem dX3_prints_124 : decode cX3_prints 124 = .ok (.getfield 7, 3) := dk_180 0 7 (dk_at dksX3_prints_5 5 rfl rfl)
theorem dX3_prints_127 : decode cX3_prints 127 = .ok (.bipush 79, 2) := dk_16 79 (dk_at dksX3_prints_5 8 rfl rfl)
theorem dX3_prints_129 : decode cX3_prints 129 = .ok (.bipush 6, 2) := dk_16 6 (dk_at dksX3_prints_5 10 rfl rfl)
theorem dX3_prints_131 : decode cX3_prints 131 = .ok (.iload 6, 2) := dk_21 6 (dk_at dksX3_prints_5 12 rfl rfl)
theorem dX3_prints_133 : decode cX3_prints 133 = .ok (.imul, 1) := dk_104 (dk_at dksX3_prints_5 14 rfl rfl)
theorem dX3_prints_134 : decode cX3_prints 134 = .ok (.iadd, 1) := dk_96 (dk_at dksX3_prints_5 15 rfl rfl)
theorem dX3_prints_135 : decode cX3_prints 135 = .ok (.iconst 3, 1) := dk_6 (dk_at dksX3_prints_5 16 rfl rfl)
theorem dX3_prints_136 : decode cX3_prints 136 = .ok (.iadd, 1) := dk_96 (dk_at dksX3_prints_5 17 rfl rfl)
theorem dX3_prints_137 : decode cX3_prints 137 = .ok (.aload_n 0, 1) := dk_42 (dk_at dksX3_prints_5 18 rfl rfl)
theorem dX3_prints_138 : decode cX3_prints 138 = .ok (.iload_n 2, 1) := dk_28 (dk_at dksX3_prints_5 19 rfl rfl)
theorem dX3_prints_139 : decode cX3_prints 139 = .ok (.iconst 1, 1) := dk_4 (dk_at dksX3_prints_5 20 rfl rfl)
theorem dX3_prints_140 : decode cX3_prints 140 = .ok (.invokevirtual 74, 3) := dk_182 0 74 (dk_at dksX3_prints_5 21 rfl rfl)
theorem dX3_prints_143 : decode cX3_prints 143 = .ok (.iload 4, 2) := dk_21 4 (dk_at dksX3_prints_6 0 rfl rfl)
theorem dX3_prints_145 : decode cX3_prints 145 = .ok (.bipush 25, 2) := dk_16 25 (dk_at dksX3_prints_6 2 rfl rfl)
theorem dX3_prints_147 : decode cX3_prints 147 = .ok (.idiv, 1) := dk_108 (dk_at dksX3_prints_6 4 rfl rfl)
theorem dX3_prints_148 : decode cX3_prints 148 = .ok (.iadd, 1) := dk_96 (dk_at dksX3_prints_6 5 rfl rfl)
theorem dX3_prints_149 : decode cX3_prints 149 = .ok (.iastore, 1) := dk_79 (dk_at dksX3_prints_6 6 rfl rfl)
theorem dX3_prints_150 : decode cX3_prints 150 = .ok (.aload_n 0, 1) := dk_42 (dk_at dksX3_prints_6 7 rfl rfl)
theorem dX3_prints_151 : decode cX3_prints 151 = .ok (.getfield 7, 3) := dk_180 0 7 (dk_at dksX3_prints_6 8 rfl rfl)
theorem dX3_prints_154 : decode cX3_prints 154 = .ok (.bipush 31, 2) := dk_16 31 (dk_at dksX3_prints_6 11 rfl rfl)
theorem dX3_prints_156 : decode cX3_prints 156 = .ok (.iconst 4, 1) := dk_7 (dk_at dksX3_prints_6 13 rfl rfl)
theorem dX3_prints_157 : decode cX3_prints 157 = .ok (.iload_n 2, 1) := dk_28 (dk_at dksX3_prints_6 14 rfl rfl)
theorem dX3_prints_158 : decode cX3_prints 158 = .ok (.imul, 1) := dk_104 (dk_at dksX3_prints_6 15 rfl rfl)
theorem dX3_prints_159 : decode cX3_prints 159 = .ok (.iadd, 1) := dk_96 (dk_at dksX3_prints_6 16 rfl rfl)
theorem dX3_prints_160 : decode cX3_prints 160 = .ok (.iconst 2, 1) := dk_5 (dk_at dksX3_prints_6 17 rfl rfl)
theorem dX3_prints_161 : decode cX3_prints 161 = .ok (.iadd, 1) := dk_96 (dk_at dksX3_prints_6 18 rfl rfl)
theorem dX3_prints_162 : decode cX3_prints 162 = .ok (.dup2, 1) := dk_92 (dk_at dksX3_prints_6 19 rfl rfl)
theorem dX3_prints_163 : decode cX3_prints 163 = .ok (.iaload, 1) := dk_46 (dk_at dksX3_prints_6 20 rfl rfl)
theorem dX3_prints_164 : decode cX3_prints 164 = .ok (.iload 5, 2) := dk_21 5 (dk_at dksX3_prints_6 21 rfl rfl)
theorem dX3_prints_166 : decode cX3_prints 166 = .ok (.isub, 1) := dk_100 (dk_at dksX3_prints_6 23 rfl rfl)
theorem dX3_prints_167 : decode cX3_prints 167 = .ok (.iastore, 1) := dk_79 (dk_at dksX3_prints_7 0 rfl rfl)
theorem dX3_prints_168 : decode cX3_prints 168 = .ok (.aload_n 0, 1) := dk_42 (dk_at dksX3_prints_7 1 rfl rfl)
theorem dX3_prints_169 : decode cX3_prints 169 = .ok (.getfield 7, 3) := dk_180 0 7 (dk_at dksX3_prints_7 2 rfl rfl)
theorem dX3_prints_172 : decode cX3_prints 172 = .ok (.bipush 31, 2) := dk_16 31 (dk_at dksX3_prints_7 5 rfl rfl)
theorem dX3_prints_174 : decode cX3_prints 174 = .ok (.iconst 4, 1) := dk_7 (dk_at dksX3_prints_7 7 rfl rfl)
theorem dX3_prints_175 : decode cX3_prints 175 = .ok (.iload_n 2, 1) := dk_28 (dk_at dksX3_prints_7 8 rfl rfl)
theorem dX3_prints_176 : decode cX3_prints 176 = .ok (.imul, 1) := dk_104 (dk_at dksX3_prints_7 9 rfl rfl)
theorem dX3_prints_177 : decode cX3_prints 177 = .ok (.iadd, 1) := dk_96 (dk_at dksX3_prints_7 10 rfl rfl)
theorem dX3_prints_178 : decode cX3_prints 178 = .ok (.iconst 3, 1) := dk_6 (dk_at dksX3_prints_7 11 rfl rfl)
theorem dX3_prints_179 : decode cX3_prints 179 = .ok (.iadd, 1) := dk_96 (dk_at dksX3_prints_7 12 rfl rfl)
theorem dX3_prints_180 : decode cX3_prints 180 = .ok (.dup2, 1) := dk_92 (dk_at dksX3_prints_7 13 rfl rfl)
theorem dX3_prints_181 : decode cX3_prints 181 = .ok (.iaload, 1) := dk_46 (dk_at dksX3_prints_7 14 rfl rfl)
theorem dX3_prints_182 : decode cX3_prints 182 = .ok (.iconst 1, 1) := dk_4 (dk_at dksX3_prints_7 15 rfl rfl)
theorem dX3_prints_183 : decode cX3_prints 183 = .ok (.iadd, 1) := dk_96 (dk_at dksX3_prints_7 16 rfl rfl)
theorem dX3_prints_184 : decode cX3_prints 184 = .ok (.iastore, 1) := dk_79 (dk_at dksX3_prints_7 17 rfl rfl)
theorem dX3_prints_185 : decode cX3_prints 185 = .ok (.aload_n 0, 1) := dk_42 (dk_at dksX3_prints_7 18 rfl rfl)
theorem dX3_prints_186 : decode cX3_prints 186 = .ok (.getfield 7, 3) := dk_180 0 7 (dk_at dksX3_prints_7 19 rfl rfl)
theorem dX3_prints_189 : decode cX3_prints 189 = .ok (.bipush 7, 2) := dk_16 7 (dk_at dksX3_prints_7 22 rfl rfl)
theorem dX3_prints_191 : decode cX3_prints 191 = .ok (.iconst 4, 1) := dk_7 (dk_at dksX3_prints_8 0 rfl rfl)
theorem dX3_prints_192 : decode cX3_prints 192 = .ok (.iload_n 1, 1) := dk_27 (dk_at dksX3_prints_8 1 rfl rfl)
theorem dX3_prints_193 : decode cX3_prints 193 = .ok (.imul, 1) := dk_104 (dk_at dksX3_prints_8 2 rfl rfl)
theorem dX3_prints_194 : decode cX3_prints 194 = .ok (.iadd, 1) := dk_96 (dk_at dksX3_prints_8 3 rfl rfl)
theorem dX3_prints_195 : decode cX3_prints 195 = .ok (.iconst 2, 1) := dk_5 (dk_at dksX3_prints_8 4 rfl rfl)
theorem dX3_prints_196 : decode cX3_prints 196 = .ok (.iadd, 1) := dk_96 (dk_at dksX3_prints_8 5 rfl rfl)
theorem dX3_prints_197 : decode cX3_prints 197 = .ok (.iload 4, 2) := dk_21 4 (dk_at dksX3_prints_8 6 rfl rfl)
theorem dX3_prints_199 : decode cX3_prints 199 = .ok (.iload_n 3, 1) := dk_29 (dk_at dksX3_prints_8 8 rfl rfl)
theorem dX3_prints_200 : decode cX3_prints 200 = .ok (.bipush 100, 2) := dk_16 100 (dk_at dksX3_prints_8 9 rfl rfl)
theorem dX3_prints_202 : decode cX3_prints 202 = .ok (.idiv, 1) := dk_108 (dk_at dksX3_prints_8 11 rfl rfl)
theorem dX3_prints_203 : decode cX3_prints 203 = .ok (.iadd, 1) := dk_96 (dk_at dksX3_prints_8 12 rfl rfl)
theorem dX3_prints_204 : decode cX3_prints 204 = .ok (.bipush 100, 2) := dk_16 100 (dk_at dksX3_prints_8 13 rfl rfl)
theorem dX3_prints_206 : decode cX3_prints 206 = .ok (.if_icmp .le 8, 3) := dk_164 0 8 (dk_at dksX3_prints_8 15 rfl rfl)
theorem dX3_prints_209 : decode cX3_prints 209 = .ok (.bipush 100, 2) := dk_16 100 (dk_at dksX3_prints_8 18 rfl rfl)
theorem dX3_prints_211 : decode cX3_prints 211 = .ok (.goto 10, 3) := dk_167 0 10 (dk_at dksX3_prints_8 20 rfl rfl)
theorem dX3_prints_214 : decode cX3_prints 214 = .ok (.iload 4, 2) := dk_21 4 (dk_at dksX3_prints_9 0 rfl rfl)
theorem dX3_prints_216 : decode cX3_prints 216 = .ok (.iload_n 3, 1) := dk_29 (dk_at dksX3_prints_9 2 rfl rfl)
theorem dX3_prints_217 : decode cX3_prints 217 = .ok (.bipush 100, 2) := dk_16 100 (dk_at dksX3_prints_9 3 rfl rfl)
theorem dX3_prints_219 : decode cX3_prints 219 = .ok (.idiv, 1) := dk_108 (dk_at dksX3_prints_9 5 rfl rfl)
theorem dX3_prints_220 : decode cX3_prints 220 = .ok (.iadd, 1) := dk_96 (dk_at dksX3_prints_9 6 rfl rfl)
theorem dX3_prints_221 : decode cX3_prints 221 = .ok (.iastore, 1) := dk_79 (dk_at dksX3_prints_9 7 rfl rfl)
theorem dX3_prints_222 : decode cX3_prints 222 = .ok (.aload_n 0, 1) := dk_42 (dk_at dksX3_prints_9 8 rfl rfl)
theorem dX3_prints_223 : decode cX3_prints 223 = .ok (.getfield 7, 3) := dk_180 0 7 (dk_at dksX3_prints_9 9 rfl rfl)
theorem dX3_prints_226 : decode cX3_prints 226 = .ok (.bipush 7, 2) := dk_16 7 (dk_at dksX3_prints_9 12 rfl rfl)
theorem dX3_prints_228 : decode cX3_prints 228 = .ok (.iconst 4, 1) := dk_7 (dk_at dksX3_prints_9 14 rfl rfl)
theorem dX3_prints_229 : decode cX3_prints 229 = .ok (.iload_n 1, 1) := dk_27 (dk_at dksX3_prints_9 15 rfl rfl)
theorem dX3_prints_230 : decode cX3_prints 230 = .ok (.imul, 1) := dk_104 (dk_at dksX3_prints_9 16 rfl rfl)
theorem dX3_prints_231 : decode cX3_prints 231 = .ok (.iadd, 1) := dk_96 (dk_at dksX3_prints_9 17 rfl rfl)
theorem dX3_prints_232 : decode cX3_prints 232 = .ok (.iconst 3, 1) := dk_6 (dk_at dksX3_prints_9 18 rfl rfl)
theorem dX3_prints_233 : decode cX3_prints 233 = .ok (.iadd, 1) := dk_96 (dk_at dksX3_prints_9 19 rfl rfl)
theorem dX3_prints_234 : decode cX3_prints 234 = .ok (.dup2, 1) := dk_92 (dk_at dksX3_prints_9 20 rfl rfl)
theorem dX3_prints_235 : decode cX3_prints 235 = .ok (.iaload, 1) := dk_46 (dk_at dksX3_prints_9 21 rfl rfl)
theorem dX3_prints_236 : decode cX3_prints 236 = .ok (.iconst 1, 1) := dk_4 (dk_at dksX3_prints_9 22 rfl rfl)
theorem dX3_prints_237 : decode cX3_prints 237 = .ok (.iadd, 1) := dk_96 (dk_at dksX3_prints_9 23 rfl rfl)
theorem dX3_prints_238 : decode cX3_prints 238 = .ok (.iastore, 1) := dk_79 (dk_at dksX3_prints_10 0 rfl rfl)
theorem dX3_prints_239 : decode cX3_prints 239 = .ok (.aload_n 0, 1) := dk_42 (dk_at dksX3_prints_10 1 rfl rfl)
theorem dX3_prints_240 : decode cX3_prints 240 = .ok (.getfield 7, 3) := dk_180 0 7 (dk_at dksX3_prints_10 2 rfl rfl)
theorem dX3_prints_243 : decode cX3_prints 243 = .ok (.iconst 4, 1) := dk_7 (dk_at dksX3_prints_10 5 rfl rfl)
theorem dX3_prints_244 : decode cX3_prints 244 = .ok (.dup2, 1) := dk_92 (dk_at dksX3_prints_10 6 rfl rfl)
theorem dX3_prints_245 : decode cX3_prints 245 = .ok (.iaload, 1) := dk_46 (dk_at dksX3_prints_10 7 rfl rfl)
theorem dX3_prints_246 : decode cX3_prints 246 = .ok (.iload_n 3, 1) := dk_29 (dk_at dksX3_prints_10 8 rfl rfl)
theorem dX3_prints_247 : decode cX3_prints 247 = .ok (.iadd, 1) := dk_96 (dk_at dksX3_prints_10 9 rfl rfl)
theorem dX3_prints_248 : decode cX3_prints 248 = .ok (.iastore, 1) := dk_79 (dk_at dksX3_prints_10 10 rfl rfl)
theorem dX3_prints_249 : decode cX3_prints 249 = .ok (.aload_n 0, 1) := dk_42 (dk_at dksX3_prints_10 11 rfl rfl)
theorem dX3_prints_250 : decode cX3_prints 250 = .ok (.getfield 7, 3) := dk_180 0 7 (dk_at dksX3_prints_10 12 rfl rfl)
theorem dX3_prints_253 : decode cX3_prints 253 = .ok (.iconst 2, 1) := dk_5 (dk_at dksX3_prints_10 15 rfl rfl)
theorem dX3_prints_254 : decode cX3_prints 254 = .ok (.iload 6, 2) := dk_21 6 (dk_at dksX3_prints_10 16 rfl rfl)
theorem dX3_prints_256 : decode cX3_prints 256 = .ok (.iconst 1, 1) := dk_4 (dk_at dksX3_prints_10 18 rfl rfl)
theorem dX3_prints_257 : decode cX3_prints 257 = .ok (.iadd, 1) := dk_96 (dk_at dksX3_prints_10 19 rfl rfl)
theorem dX3_prints_258 : decode cX3_prints 258 = .ok (.iastore, 1) := dk_79 (dk_at dksX3_prints_10 20 rfl rfl)
theorem dX3_prints_259 : decode cX3_prints 259 = .ok (.aload_n 0, 1) := dk_42 (dk_at dksX3_prints_10 21 rfl rfl)
theorem dX3_prints_260 : decode cX3_prints 260 = .ok (.iload 6, 2) := dk_21 6 (dk_at dksX3_prints_10 22 rfl rfl)
theorem dX3_prints_262 : decode cX3_prints 262 = .ok (.invokevirtual 113, 3) := dk_182 0 113 (dk_at dksX3_prints_11 0 rfl rfl)
theorem dX3_prints_265 : decode cX3_prints 265 = .ok (.ireturn, 1) := dk_172 (dk_at dksX3_prints_11 3 rfl rfl)
abbrev cX3_rollOf : ByteArray := prog_19_method_47_code
def yX3_rollOf : MethodName := ⟨RX3, "rollOf", "(II)I"⟩
def dkwX3_rollOf_3 : List UInt8 := [182, 0, 107, 172, 42, 27, 8, 182, 0, 70, 172, 42, 27, 182, 0, 158, 172, 42, 5, 182, 0, 63, 172]
abbrev dktX3_rollOf_3 : List UInt8 := dkwX3_rollOf_3 ++ []
def dkwX3_rollOf_2 : List UInt8 := [42, 27, 28, 182, 0, 70, 172, 42, 27, 182, 0, 98, 172, 42, 27, 7, 182, 0, 70, 172, 42, 27]
abbrev dktX3_rollOf_2 : List UInt8 := dkwX3_rollOf_2 ++ dktX3_rollOf_3
def dkwX3_rollOf_1 : List UInt8 := [170, 0, 0, 0, 0, 0, 0, 91, 0, 0, 0, 0, 0, 0, 0, 8, 0, 0, 0, 52, 0, 0, 0, 52, 0, 0, 0, 52, 0, 0, 0, 52, 0, 0, 0, 59, 0, 0, 0, 65, 0, 0, 0, 72, 0, 0, 0, 78, 0, 0, 0, 85]
abbrev dktX3_rollOf_1 : List UInt8 := dkwX3_rollOf_1 ++ dktX3_rollOf_2
def dkwX3_rollOf_0 : List UInt8 := [42, 3, 181, 0, 38, 42, 27, 182, 0, 155, 154, 0, 9, 42, 4, 182, 0, 63, 172, 28]
abbrev dktX3_rollOf_0 : List UInt8 := dkwX3_rollOf_0 ++ dktX3_rollOf_1
theorem dksX3_rollOf_0 : cX3_rollOf.data.toList.drop 0 = dktX3_rollOf_0 := by decide +kernel
theorem dksX3_rollOf_1 : cX3_rollOf.data.toList.drop 20 = dktX3_rollOf_1 := dk_seg dksX3_rollOf_0 20 rfl rfl
theorem dksX3_rollOf_2 : cX3_rollOf.data.toList.drop 72 = dktX3_rollOf_2 := dk_seg dksX3_rollOf_1 52 rfl rfl
theorem dksX3_rollOf_3 : cX3_rollOf.data.toList.drop 94 = dktX3_rollOf_3 := dk_seg dksX3_rollOf_2 22 rfl rfl
theorem dX3_rollOf_0 : decode cX3_rollOf 0 = .ok (.aload_n 0, 1) := dk_42 (dk_at dksX3_rollOf_0 0 rfl rfl)
theorem dX3_rollOf_1 : decode cX3_rollOf 1 = .ok (.iconst 0, 1) := dk_3 (dk_at dksX3_rollOf_0 1 rfl rfl)
theorem dX3_rollOf_2 : decode cX3_rollOf 2 = .ok (.putfield 38, 3) := dk_181 0 38 (dk_at dksX3_rollOf_0 2 rfl rfl)
theorem dX3_rollOf_5 : decode cX3_rollOf 5 = .ok (.aload_n 0, 1) := dk_42 (dk_at dksX3_rollOf_0 5 rfl rfl)
theorem dX3_rollOf_6 : decode cX3_rollOf 6 = .ok (.iload_n 1, 1) := dk_27 (dk_at dksX3_rollOf_0 6 rfl rfl)
theorem dX3_rollOf_7 : decode cX3_rollOf 7 = .ok (.invokevirtual 155, 3) := dk_182 0 155 (dk_at dksX3_rollOf_0 7 rfl rfl)
theorem dX3_rollOf_10 : decode cX3_rollOf 10 = .ok (.ifCond .ne 9, 3) := dk_154 0 9 (dk_at dksX3_rollOf_0 10 rfl rfl)
theorem dX3_rollOf_13 : decode cX3_rollOf 13 = .ok (.aload_n 0, 1) := dk_42 (dk_at dksX3_rollOf_0 13 rfl rfl)
theorem dX3_rollOf_14 : decode cX3_rollOf 14 = .ok (.iconst 1, 1) := dk_4 (dk_at dksX3_rollOf_0 14 rfl rfl)
theorem dX3_rollOf_15 : decode cX3_rollOf 15 = .ok (.invokevirtual 63, 3) := dk_182 0 63 (dk_at dksX3_rollOf_0 15 rfl rfl)
theorem dX3_rollOf_18 : decode cX3_rollOf 18 = .ok (.ireturn, 1) := dk_172 (dk_at dksX3_rollOf_0 18 rfl rfl)
theorem dX3_rollOf_19 : decode cX3_rollOf 19 = .ok (.iload_n 2, 1) := dk_28 (dk_at dksX3_rollOf_0 19 rfl rfl)
theorem dX3_rollOf_20 : decode cX3_rollOf 20 = .ok (.tableswitch 91 0 8 #[52, 52, 52, 52, 59, 65, 72, 78, 85], 52) := by decide +kernel
theorem dX3_rollOf_72 : decode cX3_rollOf 72 = .ok (.aload_n 0, 1) := dk_42 (dk_at dksX3_rollOf_2 0 rfl rfl)
theorem dX3_rollOf_73 : decode cX3_rollOf 73 = .ok (.iload_n 1, 1) := dk_27 (dk_at dksX3_rollOf_2 1 rfl rfl)
theorem dX3_rollOf_74 : decode cX3_rollOf 74 = .ok (.iload_n 2, 1) := dk_28 (dk_at dksX3_rollOf_2 2 rfl rfl)
theorem dX3_rollOf_75 : decode cX3_rollOf 75 = .ok (.invokevirtual 70, 3) := dk_182 0 70 (dk_at dksX3_rollOf_2 3 rfl rfl)
theorem dX3_rollOf_78 : decode cX3_rollOf 78 = .ok (.ireturn, 1) := dk_172 (dk_at dksX3_rollOf_2 6 rfl rfl)
theorem dX3_rollOf_79 : decode cX3_rollOf 79 = .ok (.aload_n 0, 1) := dk_42 (dk_at dksX3_rollOf_2 7 rfl rfl)
theorem dX3_rollOf_80 : decode cX3_rollOf 80 = .ok (.iload_n 1, 1) := dk_27 (dk_at dksX3_rollOf_2 8 rfl rfl)
theorem dX3_rollOf_81 : decode cX3_rollOf 81 = .ok (.invokevirtual 98, 3) := dk_182 0 98 (dk_at dksX3_rollOf_2 9 rfl rfl)
theorem dX3_rollOf_84 : decode cX3_rollOf 84 = .ok (.ireturn, 1) := dk_172 (dk_at dksX3_rollOf_2 12 rfl rfl)
theorem dX3_rollOf_85 : decode cX3_rollOf 85 = .ok (.aload_n 0, 1) := dk_42 (dk_at dksX3_rollOf_2 13 rfl rfl)
theorem dX3_rollOf_86 : decode cX3_rollOf 86 = .ok (.iload_n 1, 1) := dk_27 (dk_at dksX3_rollOf_2 14 rfl rfl)
theorem dX3_rollOf_87 : decode cX3_rollOf 87 = .ok (.iconst 4, 1) := dk_7 (dk_at dksX3_rollOf_2 15 rfl rfl)
theorem dX3_rollOf_88 : decode cX3_rollOf 88 = .ok (.invokevirtual 70, 3) := dk_182 0 70 (dk_at dksX3_rollOf_2 16 rfl rfl)
theorem dX3_rollOf_91 : decode cX3_rollOf 91 = .ok (.ireturn, 1) := dk_172 (dk_at dksX3_rollOf_2 19 rfl rfl)
theorem dX3_rollOf_92 : decode cX3_rollOf 92 = .ok (.aload_n 0, 1) := dk_42 (dk_at dksX3_rollOf_2 20 rfl rfl)
theorem dX3_rollOf_93 : decode cX3_rollOf 93 = .ok (.iload_n 1, 1) := dk_27 (dk_at dksX3_rollOf_2 21 rfl rfl)
theorem dX3_rollOf_94 : decode cX3_rollOf 94 = .ok (.invokevirtual 107, 3) := dk_182 0 107 (dk_at dksX3_rollOf_3 0 rfl rfl)
theorem dX3_rollOf_97 : decode cX3_rollOf 97 = .ok (.ireturn, 1) := dk_172 (dk_at dksX3_rollOf_3 3 rfl rfl)
theorem dX3_rollOf_98 : decode cX3_rollOf 98 = .ok (.aload_n 0, 1) := dk_42 (dk_at dksX3_rollOf_3 4 rfl rfl)
theorem dX3_rollOf_99 : decode cX3_rollOf 99 = .ok (.iload_n 1, 1) := dk_27 (dk_at dksX3_rollOf_3 5 rfl rfl)
theorem dX3_rollOf_100 : decode cX3_rollOf 100 = .ok (.iconst 5, 1) := dk_8 (dk_at dksX3_rollOf_3 6 rfl rfl)
theorem dX3_rollOf_101 : decode cX3_rollOf 101 = .ok (.invokevirtual 70, 3) := dk_182 0 70 (dk_at dksX3_rollOf_3 7 rfl rfl)
theorem dX3_rollOf_104 : decode cX3_rollOf 104 = .ok (.ireturn, 1) := dk_172 (dk_at dksX3_rollOf_3 10 rfl rfl)
theorem dX3_rollOf_105 : decode cX3_rollOf 105 = .ok (.aload_n 0, 1) := dk_42 (dk_at dksX3_rollOf_3 11 rfl rfl)
theorem dX3_rollOf_106 : decode cX3_rollOf 106 = .ok (.iload_n 1, 1) := dk_27 (dk_at dksX3_rollOf_3 12 rfl rfl)
theorem dX3_rollOf_107 : decode cX3_rollOf 107 = .ok (.invokevirtual 158, 3) := dk_182 0 158 (dk_at dksX3_rollOf_3 13 rfl rfl)
theorem dX3_rollOf_110 : decode cX3_rollOf 110 = .ok (.ireturn, 1) := dk_172 (dk_at dksX3_rollOf_3 16 rfl rfl)
theorem dX3_rollOf_111 : decode cX3_rollOf 111 = .ok (.aload_n 0, 1) := dk_42 (dk_at dksX3_rollOf_3 17 rfl rfl)
theorem dX3_rollOf_112 : decode cX3_rollOf 112 = .ok (.iconst 2, 1) := dk_5 (dk_at dksX3_rollOf_3 18 rfl rfl)
theorem dX3_rollOf_113 : decode cX3_rollOf 113 = .ok (.invokevirtual 63, 3) := dk_182 0 63 (dk_at dksX3_rollOf_3 19 rfl rfl)
theorem dX3_rollOf_116 : decode cX3_rollOf 116 = .ok (.ireturn, 1) := dk_172 (dk_at dksX3_rollOf_3 22 rfl rfl)
abbrev cX3_isRoll : ByteArray := prog_19_method_12_code
def yX3_isRoll : MethodName := ⟨RX3, "isRoll", "(I)Z"⟩
def dkwX3_isRoll_0 : List UInt8 := [27, 3, 42, 180, 0, 7, 5, 46, 4, 100, 184, 0, 66, 172]
abbrev dktX3_isRoll_0 : List UInt8 := dkwX3_isRoll_0 ++ []
theorem dksX3_isRoll_0 : cX3_isRoll.data.toList.drop 0 = dktX3_isRoll_0 := by decide +kernel
theorem dX3_isRoll_0 : decode cX3_isRoll 0 = .ok (.iload_n 1, 1) := dk_27 (dk_at dksX3_isRoll_0 0 rfl rfl)
theorem dX3_isRoll_1 : decode cX3_isRoll 1 = .ok (.iconst 0, 1) := dk_3 (dk_at dksX3_isRoll_0 1 rfl rfl)
theorem dX3_isRoll_2 : decode cX3_isRoll 2 = .ok (.aload_n 0, 1) := dk_42 (dk_at dksX3_isRoll_0 2 rfl rfl)
theorem dX3_isRoll_3 : decode cX3_isRoll 3 = .ok (.getfield 7, 3) := dk_180 0 7 (dk_at dksX3_isRoll_0 3 rfl rfl)
theorem dX3_isRoll_6 : decode cX3_isRoll 6 = .ok (.iconst 2, 1) := dk_5 (dk_at dksX3_isRoll_0 6 rfl rfl)
theorem dX3_isRoll_7 : decode cX3_isRoll 7 = .ok (.iaload, 1) := dk_46 (dk_at dksX3_isRoll_0 7 rfl rfl)
theorem dX3_isRoll_8 : decode cX3_isRoll 8 = .ok (.iconst 1, 1) := dk_4 (dk_at dksX3_isRoll_0 8 rfl rfl)
theorem dX3_isRoll_9 : decode cX3_isRoll 9 = .ok (.isub, 1) := dk_100 (dk_at dksX3_isRoll_0 9 rfl rfl)
theorem dX3_isRoll_10 : decode cX3_isRoll 10 = .ok (.invokestatic 66, 3) := dk_184 0 66 (dk_at dksX3_isRoll_0 10 rfl rfl)
theorem dX3_isRoll_13 : decode cX3_isRoll 13 = .ok (.ireturn, 1) := dk_172 (dk_at dksX3_isRoll_0 13 rfl rfl)
abbrev cX3_rollRow : ByteArray := prog_19_method_16_code
def yX3_rollRow : MethodName := ⟨RX3, "rollRow", "(II)I"⟩
def dkwX3_rollRow_0 : List UInt8 := [42, 180, 0, 7, 16, 79, 16, 6, 27, 104, 96, 28, 96, 46, 172]
abbrev dktX3_rollRow_0 : List UInt8 := dkwX3_rollRow_0 ++ []
theorem dksX3_rollRow_0 : cX3_rollRow.data.toList.drop 0 = dktX3_rollRow_0 := by decide +kernel
theorem dX3_rollRow_0 : decode cX3_rollRow 0 = .ok (.aload_n 0, 1) := dk_42 (dk_at dksX3_rollRow_0 0 rfl rfl)
theorem dX3_rollRow_1 : decode cX3_rollRow 1 = .ok (.getfield 7, 3) := dk_180 0 7 (dk_at dksX3_rollRow_0 1 rfl rfl)
theorem dX3_rollRow_4 : decode cX3_rollRow 4 = .ok (.bipush 79, 2) := dk_16 79 (dk_at dksX3_rollRow_0 4 rfl rfl)
theorem dX3_rollRow_6 : decode cX3_rollRow 6 = .ok (.bipush 6, 2) := dk_16 6 (dk_at dksX3_rollRow_0 6 rfl rfl)
theorem dX3_rollRow_8 : decode cX3_rollRow 8 = .ok (.iload_n 1, 1) := dk_27 (dk_at dksX3_rollRow_0 8 rfl rfl)
theorem dX3_rollRow_9 : decode cX3_rollRow 9 = .ok (.imul, 1) := dk_104 (dk_at dksX3_rollRow_0 9 rfl rfl)
theorem dX3_rollRow_10 : decode cX3_rollRow 10 = .ok (.iadd, 1) := dk_96 (dk_at dksX3_rollRow_0 10 rfl rfl)
theorem dX3_rollRow_11 : decode cX3_rollRow 11 = .ok (.iload_n 2, 1) := dk_28 (dk_at dksX3_rollRow_0 11 rfl rfl)
theorem dX3_rollRow_12 : decode cX3_rollRow 12 = .ok (.iadd, 1) := dk_96 (dk_at dksX3_rollRow_0 12 rfl rfl)
theorem dX3_rollRow_13 : decode cX3_rollRow 13 = .ok (.iaload, 1) := dk_46 (dk_at dksX3_rollRow_0 13 rfl rfl)
theorem dX3_rollRow_14 : decode cX3_rollRow 14 = .ok (.ireturn, 1) := dk_172 (dk_at dksX3_rollRow_0 14 rfl rfl)
abbrev cX3_colourOf : ByteArray := prog_19_method_19_code
def yX3_colourOf : MethodName := ⟨RX3, "colourOf", "(I)I"⟩
def dkwX3_colourOf_0 : List UInt8 := [42, 42, 27, 4, 182, 0, 70, 3, 182, 0, 74, 172]
abbrev dktX3_colourOf_0 : List UInt8 := dkwX3_colourOf_0 ++ []
theorem dksX3_colourOf_0 : cX3_colourOf.data.toList.drop 0 = dktX3_colourOf_0 := by decide +kernel
theorem dX3_colourOf_0 : decode cX3_colourOf 0 = .ok (.aload_n 0, 1) := dk_42 (dk_at dksX3_colourOf_0 0 rfl rfl)
theorem dX3_colourOf_1 : decode cX3_colourOf 1 = .ok (.aload_n 0, 1) := dk_42 (dk_at dksX3_colourOf_0 1 rfl rfl)
theorem dX3_colourOf_2 : decode cX3_colourOf 2 = .ok (.iload_n 1, 1) := dk_27 (dk_at dksX3_colourOf_0 2 rfl rfl)
theorem dX3_colourOf_3 : decode cX3_colourOf 3 = .ok (.iconst 1, 1) := dk_4 (dk_at dksX3_colourOf_0 3 rfl rfl)
theorem dX3_colourOf_4 : decode cX3_colourOf 4 = .ok (.invokevirtual 70, 3) := dk_182 0 70 (dk_at dksX3_colourOf_0 4 rfl rfl)
theorem dX3_colourOf_7 : decode cX3_colourOf 7 = .ok (.iconst 0, 1) := dk_3 (dk_at dksX3_colourOf_0 7 rfl rfl)
theorem dX3_colourOf_8 : decode cX3_colourOf 8 = .ok (.invokevirtual 74, 3) := dk_182 0 74 (dk_at dksX3_colourOf_0 8 rfl rfl)
theorem dX3_colourOf_11 : decode cX3_colourOf 11 = .ok (.ireturn, 1) := dk_172 (dk_at dksX3_colourOf_0 11 rfl rfl)
abbrev cX3_leftOf : ByteArray := prog_19_method_20_code
def yX3_leftOf : MethodName := ⟨RX3, "leftOf", "(I)I"⟩
def dkwX3_leftOf_1 : List UInt8 := [182, 0, 70, 100, 172]
abbrev dktX3_leftOf_1 : List UInt8 := dkwX3_leftOf_1 ++ []
def dkwX3_leftOf_0 : List UInt8 := [42, 27, 8, 182, 0, 70, 4, 160, 0, 7, 3, 167, 0, 16, 42, 27, 5, 182, 0, 70, 42, 27, 7]
abbrev dktX3_leftOf_0 : List UInt8 := dkwX3_leftOf_0 ++ dktX3_leftOf_1
theorem dksX3_leftOf_0 : cX3_leftOf.data.toList.drop 0 = dktX3_leftOf_0 := by decide +kernel
theorem dksX3_leftOf_1 : cX3_leftOf.data.toList.drop 23 = dktX3_leftOf_1 := dk_seg dksX3_leftOf_0 23 rfl rfl
theorem dX3_leftOf_0 : decode cX3_leftOf 0 = .ok (.aload_n 0, 1) := dk_42 (dk_at dksX3_leftOf_0 0 rfl rfl)
theorem dX3_leftOf_1 : decode cX3_leftOf 1 = .ok (.iload_n 1, 1) := dk_27 (dk_at dksX3_leftOf_0 1 rfl rfl)
theorem dX3_leftOf_2 : decode cX3_leftOf 2 = .ok (.iconst 5, 1) := dk_8 (dk_at dksX3_leftOf_0 2 rfl rfl)
theorem dX3_leftOf_3 : decode cX3_leftOf 3 = .ok (.invokevirtual 70, 3) := dk_182 0 70 (dk_at dksX3_leftOf_0 3 rfl rfl)
theorem dX3_leftOf_6 : decode cX3_leftOf 6 = .ok (.iconst 1, 1) := dk_4 (dk_at dksX3_leftOf_0 6 rfl rfl)
theorem dX3_leftOf_7 : decode cX3_leftOf 7 = .ok (.if_icmp .ne 7, 3) := dk_160 0 7 (dk_at dksX3_leftOf_0 7 rfl rfl)
theorem dX3_leftOf_10 : decode cX3_leftOf 10 = .ok (.iconst 0, 1) := dk_3 (dk_at dksX3_leftOf_0 10 rfl rfl)
theorem dX3_leftOf_11 : decode cX3_leftOf 11 = .ok (.goto 16, 3) := dk_167 0 16 (dk_at dksX3_leftOf_0 11 rfl rfl)
theorem dX3_leftOf_14 : decode cX3_leftOf 14 = .ok (.aload_n 0, 1) := dk_42 (dk_at dksX3_leftOf_0 14 rfl rfl)
theorem dX3_leftOf_15 : decode cX3_leftOf 15 = .ok (.iload_n 1, 1) := dk_27 (dk_at dksX3_leftOf_0 15 rfl rfl)
theorem dX3_leftOf_16 : decode cX3_leftOf 16 = .ok (.iconst 2, 1) := dk_5 (dk_at dksX3_leftOf_0 16 rfl rfl)
theorem dX3_leftOf_17 : decode cX3_leftOf 17 = .ok (.invokevirtual 70, 3) := dk_182 0 70 (dk_at dksX3_leftOf_0 17 rfl rfl)
theorem dX3_leftOf_20 : decode cX3_leftOf 20 = .ok (.aload_n 0, 1) := dk_42 (dk_at dksX3_leftOf_0 20 rfl rfl)
theorem dX3_leftOf_21 : decode cX3_leftOf 21 = .ok (.iload_n 1, 1) := dk_27 (dk_at dksX3_leftOf_0 21 rfl rfl)
theorem dX3_leftOf_22 : decode cX3_leftOf 22 = .ok (.iconst 4, 1) := dk_7 (dk_at dksX3_leftOf_0 22 rfl rfl)
theorem dX3_leftOf_23 : decode cX3_leftOf 23 = .ok (.invokevirtual 70, 3) := dk_182 0 70 (dk_at dksX3_leftOf_1 0 rfl rfl)
theorem dX3_leftOf_26 : decode cX3_leftOf 26 = .ok (.isub, 1) := dk_100 (dk_at dksX3_leftOf_1 3 rfl rfl)
theorem dX3_leftOf_27 : decode cX3_leftOf 27 = .ok (.ireturn, 1) := dk_172 (dk_at dksX3_leftOf_1 4 rfl rfl)
abbrev cX3_hangingOf : ByteArray := prog_19_method_46_code
def yX3_hangingOf : MethodName := ⟨RX3, "hangingOf", "(I)I"⟩
def dkwX3_hangingOf_2 : List UInt8 := [167, 0, 4, 3, 96, 61, 132, 4, 1, 167, 255, 219, 132, 3, 1, 167, 255, 200, 28, 172]
abbrev dktX3_hangingOf_2 : List UInt8 := dkwX3_hangingOf_2 ++ []
def dkwX3_hangingOf_1 : List UInt8 := [182, 0, 80, 162, 0, 32, 28, 42, 180, 0, 7, 29, 21, 4, 184, 0, 77, 46, 27, 160, 0, 7, 4]
abbrev dktX3_hangingOf_1 : List UInt8 := dkwX3_hangingOf_1 ++ dktX3_hangingOf_2
def dkwX3_hangingOf_0 : List UInt8 := [3, 61, 3, 62, 29, 42, 180, 0, 7, 6, 46, 162, 0, 52, 3, 54, 4, 21, 4, 42, 29, 5]
abbrev dktX3_hangingOf_0 : List UInt8 := dkwX3_hangingOf_0 ++ dktX3_hangingOf_1
theorem dksX3_hangingOf_0 : cX3_hangingOf.data.toList.drop 0 = dktX3_hangingOf_0 := by decide +kernel
theorem dksX3_hangingOf_1 : cX3_hangingOf.data.toList.drop 22 = dktX3_hangingOf_1 := dk_seg dksX3_hangingOf_0 22 rfl rfl
theorem dksX3_hangingOf_2 : cX3_hangingOf.data.toList.drop 45 = dktX3_hangingOf_2 := dk_seg dksX3_hangingOf_1 23 rfl rfl
theorem dX3_hangingOf_0 : decode cX3_hangingOf 0 = .ok (.iconst 0, 1) := dk_3 (dk_at dksX3_hangingOf_0 0 rfl rfl)
theorem dX3_hangingOf_1 : decode cX3_hangingOf 1 = .ok (.istore_n 2, 1) := dk_61 (dk_at dksX3_hangingOf_0 1 rfl rfl)
theorem dX3_hangingOf_2 : decode cX3_hangingOf 2 = .ok (.iconst 0, 1) := dk_3 (dk_at dksX3_hangingOf_0 2 rfl rfl)
theorem dX3_hangingOf_3 : decode cX3_hangingOf 3 = .ok (.istore_n 3, 1) := dk_62 (dk_at dksX3_hangingOf_0 3 rfl rfl)
theorem dX3_hangingOf_4 : decode cX3_hangingOf 4 = .ok (.iload_n 3, 1) := dk_29 (dk_at dksX3_hangingOf_0 4 rfl rfl)
theorem dX3_hangingOf_5 : decode cX3_hangingOf 5 = .ok (.aload_n 0, 1) := dk_42 (dk_at dksX3_hangingOf_0 5 rfl rfl)
theorem dX3_hangingOf_6 : decode cX3_hangingOf 6 = .ok (.getfield 7, 3) := dk_180 0 7 (dk_at dksX3_hangingOf_0 6 rfl rfl)
theorem dX3_hangingOf_9 : decode cX3_hangingOf 9 = .ok (.iconst 3, 1) := dk_6 (dk_at dksX3_hangingOf_0 9 rfl rfl)
theorem dX3_hangingOf_10 : decode cX3_hangingOf 10 = .ok (.iaload, 1) := dk_46 (dk_at dksX3_hangingOf_0 10 rfl rfl)
theorem dX3_hangingOf_11 : decode cX3_hangingOf 11 = .ok (.if_icmp .ge 52, 3) := dk_162 0 52 (dk_at dksX3_hangingOf_0 11 rfl rfl)
theorem dX3_hangingOf_14 : decode cX3_hangingOf 14 = .ok (.iconst 0, 1) := dk_3 (dk_at dksX3_hangingOf_0 14 rfl rfl)
theorem dX3_hangingOf_15 : decode cX3_hangingOf 15 = .ok (.istore 4, 2) := dk_54 4 (dk_at dksX3_hangingOf_0 15 rfl rfl)
theorem dX3_hangingOf_17 : decode cX3_hangingOf 17 = .ok (.iload 4, 2) := dk_21 4 (dk_at dksX3_hangingOf_0 17 rfl rfl)
theorem dX3_hangingOf_19 : decode cX3_hangingOf 19 = .ok (.aload_n 0, 1) := dk_42 (dk_at dksX3_hangingOf_0 19 rfl rfl)
theorem dX3_hangingOf_20 : decode cX3_hangingOf 20 = .ok (.iload_n 3, 1) := dk_29 (dk_at dksX3_hangingOf_0 20 rfl rfl)
theorem dX3_hangingOf_21 : decode cX3_hangingOf 21 = .ok (.iconst 2, 1) := dk_5 (dk_at dksX3_hangingOf_0 21 rfl rfl)
theorem dX3_hangingOf_22 : decode cX3_hangingOf 22 = .ok (.invokevirtual 80, 3) := dk_182 0 80 (dk_at dksX3_hangingOf_1 0 rfl rfl)
theorem dX3_hangingOf_25 : decode cX3_hangingOf 25 = .ok (.if_icmp .ge 32, 3) := dk_162 0 32 (dk_at dksX3_hangingOf_1 3 rfl rfl)
theorem dX3_hangingOf_28 : decode cX3_hangingOf 28 = .ok (.iload_n 2, 1) := dk_28 (dk_at dksX3_hangingOf_1 6 rfl rfl)
theorem dX3_hangingOf_29 : decode cX3_hangingOf 29 = .ok (.aload_n 0, 1) := dk_42 (dk_at dksX3_hangingOf_1 7 rfl rfl)
theorem dX3_hangingOf_30 : decode cX3_hangingOf 30 = .ok (.getfield 7, 3) := dk_180 0 7 (dk_at dksX3_hangingOf_1 8 rfl rfl)
theorem dX3_hangingOf_33 : decode cX3_hangingOf 33 = .ok (.iload_n 3, 1) := dk_29 (dk_at dksX3_hangingOf_1 11 rfl rfl)
theorem dX3_hangingOf_34 : decode cX3_hangingOf 34 = .ok (.iload 4, 2) := dk_21 4 (dk_at dksX3_hangingOf_1 12 rfl rfl)
theorem dX3_hangingOf_36 : decode cX3_hangingOf 36 = .ok (.invokestatic 77, 3) := dk_184 0 77 (dk_at dksX3_hangingOf_1 14 rfl rfl)
theorem dX3_hangingOf_39 : decode cX3_hangingOf 39 = .ok (.iaload, 1) := dk_46 (dk_at dksX3_hangingOf_1 17 rfl rfl)
theorem dX3_hangingOf_40 : decode cX3_hangingOf 40 = .ok (.iload_n 1, 1) := dk_27 (dk_at dksX3_hangingOf_1 18 rfl rfl)
theorem dX3_hangingOf_41 : decode cX3_hangingOf 41 = .ok (.if_icmp .ne 7, 3) := dk_160 0 7 (dk_at dksX3_hangingOf_1 19 rfl rfl)
theorem dX3_hangingOf_44 : decode cX3_hangingOf 44 = .ok (.iconst 1, 1) := dk_4 (dk_at dksX3_hangingOf_1 22 rfl rfl)
theorem dX3_hangingOf_45 : decode cX3_hangingOf 45 = .ok (.goto 4, 3) := dk_167 0 4 (dk_at dksX3_hangingOf_2 0 rfl rfl)
theorem dX3_hangingOf_48 : decode cX3_hangingOf 48 = .ok (.iconst 0, 1) := dk_3 (dk_at dksX3_hangingOf_2 3 rfl rfl)
theorem dX3_hangingOf_49 : decode cX3_hangingOf 49 = .ok (.iadd, 1) := dk_96 (dk_at dksX3_hangingOf_2 4 rfl rfl)
theorem dX3_hangingOf_50 : decode cX3_hangingOf 50 = .ok (.istore_n 2, 1) := dk_61 (dk_at dksX3_hangingOf_2 5 rfl rfl)
theorem dX3_hangingOf_51 : decode cX3_hangingOf 51 = .ok (.iinc 4 1, 3) := dk_132 4 1 (dk_at dksX3_hangingOf_2 6 rfl rfl)
theorem dX3_hangingOf_54 : decode cX3_hangingOf 54 = .ok (.goto (-37), 3) := dk_167 255 219 (dk_at dksX3_hangingOf_2 9 rfl rfl)
theorem dX3_hangingOf_57 : decode cX3_hangingOf 57 = .ok (.iinc 3 1, 3) := dk_132 3 1 (dk_at dksX3_hangingOf_2 12 rfl rfl)
theorem dX3_hangingOf_60 : decode cX3_hangingOf 60 = .ok (.goto (-56), 3) := dk_167 255 200 (dk_at dksX3_hangingOf_2 15 rfl rfl)
theorem dX3_hangingOf_63 : decode cX3_hangingOf 63 = .ok (.iload_n 2, 1) := dk_28 (dk_at dksX3_hangingOf_2 18 rfl rfl)
theorem dX3_hangingOf_64 : decode cX3_hangingOf 64 = .ok (.ireturn, 1) := dk_172 (dk_at dksX3_hangingOf_2 19 rfl rfl)
abbrev cX3_roomRow : ByteArray := prog_19_method_17_code
def yX3_roomRow : MethodName := ⟨RX3, "roomRow", "(II)I"⟩
def dkwX3_roomRow_0 : List UInt8 := [42, 180, 0, 7, 17, 0, 223, 8, 27, 104, 96, 28, 96, 46, 172]
abbrev dktX3_roomRow_0 : List UInt8 := dkwX3_roomRow_0 ++ []
theorem dksX3_roomRow_0 : cX3_roomRow.data.toList.drop 0 = dktX3_roomRow_0 := by decide +kernel
theorem dX3_roomRow_0 : decode cX3_roomRow 0 = .ok (.aload_n 0, 1) := dk_42 (dk_at dksX3_roomRow_0 0 rfl rfl)
theorem dX3_roomRow_1 : decode cX3_roomRow 1 = .ok (.getfield 7, 3) := dk_180 0 7 (dk_at dksX3_roomRow_0 1 rfl rfl)
theorem dX3_roomRow_4 : decode cX3_roomRow 4 = .ok (.sipush 223, 3) := dk_17 0 223 (dk_at dksX3_roomRow_0 4 rfl rfl)
theorem dX3_roomRow_7 : decode cX3_roomRow 7 = .ok (.iconst 5, 1) := dk_8 (dk_at dksX3_roomRow_0 7 rfl rfl)
theorem dX3_roomRow_8 : decode cX3_roomRow 8 = .ok (.iload_n 1, 1) := dk_27 (dk_at dksX3_roomRow_0 8 rfl rfl)
theorem dX3_roomRow_9 : decode cX3_roomRow 9 = .ok (.imul, 1) := dk_104 (dk_at dksX3_roomRow_0 9 rfl rfl)
theorem dX3_roomRow_10 : decode cX3_roomRow 10 = .ok (.iadd, 1) := dk_96 (dk_at dksX3_roomRow_0 10 rfl rfl)
theorem dX3_roomRow_11 : decode cX3_roomRow 11 = .ok (.iload_n 2, 1) := dk_28 (dk_at dksX3_roomRow_0 11 rfl rfl)
theorem dX3_roomRow_12 : decode cX3_roomRow 12 = .ok (.iadd, 1) := dk_96 (dk_at dksX3_roomRow_0 12 rfl rfl)
theorem dX3_roomRow_13 : decode cX3_roomRow 13 = .ok (.iaload, 1) := dk_46 (dk_at dksX3_roomRow_0 13 rfl rfl)
theorem dX3_roomRow_14 : decode cX3_roomRow 14 = .ok (.ireturn, 1) := dk_172 (dk_at dksX3_roomRow_0 14 rfl rfl)
abbrev cX3_dropAt : ByteArray := prog_19_method_18_code
def yX3_dropAt : MethodName := ⟨RX3, "dropAt", "(II)I"⟩
def dkwX3_dropAt_0 : List UInt8 := [17, 0, 253, 16, 90, 26, 104, 96, 6, 27, 104, 96, 172]
abbrev dktX3_dropAt_0 : List UInt8 := dkwX3_dropAt_0 ++ []
theorem dksX3_dropAt_0 : cX3_dropAt.data.toList.drop 0 = dktX3_dropAt_0 := by decide +kernel
theorem dX3_dropAt_0 : decode cX3_dropAt 0 = .ok (.sipush 253, 3) := dk_17 0 253 (dk_at dksX3_dropAt_0 0 rfl rfl)
theorem dX3_dropAt_3 : decode cX3_dropAt 3 = .ok (.bipush 90, 2) := dk_16 90 (dk_at dksX3_dropAt_0 3 rfl rfl)
theorem dX3_dropAt_5 : decode cX3_dropAt 5 = .ok (.iload_n 0, 1) := dk_26 (dk_at dksX3_dropAt_0 5 rfl rfl)
theorem dX3_dropAt_6 : decode cX3_dropAt 6 = .ok (.imul, 1) := dk_104 (dk_at dksX3_dropAt_0 6 rfl rfl)
theorem dX3_dropAt_7 : decode cX3_dropAt 7 = .ok (.iadd, 1) := dk_96 (dk_at dksX3_dropAt_0 7 rfl rfl)
theorem dX3_dropAt_8 : decode cX3_dropAt 8 = .ok (.iconst 3, 1) := dk_6 (dk_at dksX3_dropAt_0 8 rfl rfl)
theorem dX3_dropAt_9 : decode cX3_dropAt 9 = .ok (.iload_n 1, 1) := dk_27 (dk_at dksX3_dropAt_0 9 rfl rfl)
theorem dX3_dropAt_10 : decode cX3_dropAt 10 = .ok (.imul, 1) := dk_104 (dk_at dksX3_dropAt_0 10 rfl rfl)
theorem dX3_dropAt_11 : decode cX3_dropAt 11 = .ok (.iadd, 1) := dk_96 (dk_at dksX3_dropAt_0 11 rfl rfl)
theorem dX3_dropAt_12 : decode cX3_dropAt 12 = .ok (.ireturn, 1) := dk_172 (dk_at dksX3_dropAt_0 12 rfl rfl)
abbrev cX3_giveBack : ByteArray := prog_19_method_48_code
def yX3_giveBack : MethodName := ⟨RX3, "giveBack", "(I)I"⟩
def dkwX3_giveBack_1 : List UInt8 := [182, 0, 132, 167, 0, 8, 42, 4, 182, 0, 63, 172]
abbrev dktX3_giveBack_1 : List UInt8 := dkwX3_giveBack_1 ++ []
def dkwX3_giveBack_0 : List UInt8 := [42, 3, 181, 0, 38, 42, 182, 0, 125, 42, 27, 182, 0, 155, 153, 0, 16, 42, 42, 27, 182, 0, 161, 5]
abbrev dktX3_giveBack_0 : List UInt8 := dkwX3_giveBack_0 ++ dktX3_giveBack_1
theorem dksX3_giveBack_0 : cX3_giveBack.data.toList.drop 0 = dktX3_giveBack_0 := by decide +kernel
theorem dksX3_giveBack_1 : cX3_giveBack.data.toList.drop 24 = dktX3_giveBack_1 := dk_seg dksX3_giveBack_0 24 rfl rfl
theorem dX3_giveBack_0 : decode cX3_giveBack 0 = .ok (.aload_n 0, 1) := dk_42 (dk_at dksX3_giveBack_0 0 rfl rfl)
theorem dX3_giveBack_1 : decode cX3_giveBack 1 = .ok (.iconst 0, 1) := dk_3 (dk_at dksX3_giveBack_0 1 rfl rfl)
theorem dX3_giveBack_2 : decode cX3_giveBack 2 = .ok (.putfield 38, 3) := dk_181 0 38 (dk_at dksX3_giveBack_0 2 rfl rfl)
theorem dX3_giveBack_5 : decode cX3_giveBack 5 = .ok (.aload_n 0, 1) := dk_42 (dk_at dksX3_giveBack_0 5 rfl rfl)
theorem dX3_giveBack_6 : decode cX3_giveBack 6 = .ok (.invokevirtual 125, 3) := dk_182 0 125 (dk_at dksX3_giveBack_0 6 rfl rfl)
theorem dX3_giveBack_9 : decode cX3_giveBack 9 = .ok (.aload_n 0, 1) := dk_42 (dk_at dksX3_giveBack_0 9 rfl rfl)
theorem dX3_giveBack_10 : decode cX3_giveBack 10 = .ok (.iload_n 1, 1) := dk_27 (dk_at dksX3_giveBack_0 10 rfl rfl)
theorem dX3_giveBack_11 : decode cX3_giveBack 11 = .ok (.invokevirtual 155, 3) := dk_182 0 155 (dk_at dksX3_giveBack_0 11 rfl rfl)
theorem dX3_giveBack_14 : decode cX3_giveBack 14 = .ok (.ifCond .eq 16, 3) := dk_153 0 16 (dk_at dksX3_giveBack_0 14 rfl rfl)
theorem dX3_giveBack_17 : decode cX3_giveBack 17 = .ok (.aload_n 0, 1) := dk_42 (dk_at dksX3_giveBack_0 17 rfl rfl)
theorem dX3_giveBack_18 : decode cX3_giveBack 18 = .ok (.aload_n 0, 1) := dk_42 (dk_at dksX3_giveBack_0 18 rfl rfl)
theorem dX3_giveBack_19 : decode cX3_giveBack 19 = .ok (.iload_n 1, 1) := dk_27 (dk_at dksX3_giveBack_0 19 rfl rfl)
theorem dX3_giveBack_20 : decode cX3_giveBack 20 = .ok (.invokevirtual 161, 3) := dk_182 0 161 (dk_at dksX3_giveBack_0 20 rfl rfl)
theorem dX3_giveBack_23 : decode cX3_giveBack 23 = .ok (.iconst 2, 1) := dk_5 (dk_at dksX3_giveBack_0 23 rfl rfl)
theorem dX3_giveBack_24 : decode cX3_giveBack 24 = .ok (.invokevirtual 132, 3) := dk_182 0 132 (dk_at dksX3_giveBack_1 0 rfl rfl)
theorem dX3_giveBack_27 : decode cX3_giveBack 27 = .ok (.goto 8, 3) := dk_167 0 8 (dk_at dksX3_giveBack_1 3 rfl rfl)
theorem dX3_giveBack_30 : decode cX3_giveBack 30 = .ok (.aload_n 0, 1) := dk_42 (dk_at dksX3_giveBack_1 6 rfl rfl)
theorem dX3_giveBack_31 : decode cX3_giveBack 31 = .ok (.iconst 1, 1) := dk_4 (dk_at dksX3_giveBack_1 7 rfl rfl)
theorem dX3_giveBack_32 : decode cX3_giveBack 32 = .ok (.invokevirtual 63, 3) := dk_182 0 63 (dk_at dksX3_giveBack_1 8 rfl rfl)
theorem dX3_giveBack_35 : decode cX3_giveBack 35 = .ok (.ireturn, 1) := dk_172 (dk_at dksX3_giveBack_1 11 rfl rfl)
abbrev cX3_givesBack : ByteArray := prog_19_method_38_code
def yX3_givesBack : MethodName := ⟨RX3, "givesBack", "(I)I"⟩
def dkwX3_givesBack_4 : List UInt8 := [27, 5, 182, 0, 70, 182, 0, 113, 172]
abbrev dktX3_givesBack_4 : List UInt8 := dkwX3_givesBack_4 ++ []
def dkwX3_givesBack_3 : List UInt8 := [16, 12, 28, 182, 0, 95, 172, 42, 180, 0, 7, 16, 79, 16, 6, 27, 104, 96, 8, 96, 4, 79, 42, 42]
abbrev dktX3_givesBack_3 : List UInt8 := dkwX3_givesBack_3 ++ dktX3_givesBack_4
def dkwX3_givesBack_2 : List UInt8 := [42, 42, 27, 182, 0, 98, 182, 0, 122, 4, 182, 0, 74, 182, 0, 101, 61, 28, 4, 164, 0, 11, 42]
abbrev dktX3_givesBack_2 : List UInt8 := dkwX3_givesBack_2 ++ dktX3_givesBack_3
def dkwX3_givesBack_1 : List UInt8 := [158, 0, 16, 42, 16, 11, 42, 27, 7, 182, 0, 70, 182, 0, 95, 172, 42, 42, 27, 6, 182, 0, 70, 42]
abbrev dktX3_givesBack_1 : List UInt8 := dkwX3_givesBack_1 ++ dktX3_givesBack_2
def dkwX3_givesBack_0 : List UInt8 := [42, 27, 8, 182, 0, 70, 4, 160, 0, 10, 42, 8, 27, 182, 0, 95, 172, 42, 27, 7, 182, 0, 70]
abbrev dktX3_givesBack_0 : List UInt8 := dkwX3_givesBack_0 ++ dktX3_givesBack_1
theorem dksX3_givesBack_0 : cX3_givesBack.data.toList.drop 0 = dktX3_givesBack_0 := by decide +kernel
theorem dksX3_givesBack_1 : cX3_givesBack.data.toList.drop 23 = dktX3_givesBack_1 := dk_seg dksX3_givesBack_0 23 rfl rfl
theorem dksX3_givesBack_2 : cX3_givesBack.data.toList.drop 47 = dktX3_givesBack_2 := dk_seg dksX3_givesBack_1 24 rfl rfl
theorem dksX3_givesBack_3 : cX3_givesBack.data.toList.drop 70 = dktX3_givesBack_3 := dk_seg dksX3_givesBack_2 23 rfl rfl
theorem dksX3_givesBack_4 : cX3_givesBack.data.toList.drop 94 = dktX3_givesBack_4 := dk_seg dksX3_givesBack_3 24 rfl rfl
theorem dX3_givesBack_0 : decode cX3_givesBack 0 = .ok (.aload_n 0, 1) := dk_42 (dk_at dksX3_givesBack_0 0 rfl rfl)
theorem dX3_givesBack_1 : decode cX3_givesBack 1 = .ok (.iload_n 1, 1) := dk_27 (dk_at dksX3_givesBack_0 1 rfl rfl)
theorem dX3_givesBack_2 : decode cX3_givesBack 2 = .ok (.iconst 5, 1) := dk_8 (dk_at dksX3_givesBack_0 2 rfl rfl)
theorem dX3_givesBack_3 : decode cX3_givesBack 3 = .ok (.invokevirtual 70, 3) := dk_182 0 70 (dk_at dksX3_givesBack_0 3 rfl rfl)
theorem dX3_givesBack_6 : decode cX3_givesBack 6 = .ok (.iconst 1, 1) := dk_4 (dk_at dksX3_givesBack_0 6 rfl rfl)
theorem dX3_givesBack_7 : decode cX3_givesBack 7 = .ok (.if_icmp .ne 10, 3) := dk_160 0 10 (dk_at dksX3_givesBack_0 7 rfl rfl)
theorem dX3_givesBack_10 : decode cX3_givesBack 10 = .ok (.aload_n 0, 1) := dk_42 (dk_at dksX3_givesBack_0 10 rfl rfl)
theorem dX3_givesBack_11 : decode cX3_givesBack 11 = .ok (.iconst 5, 1) := dk_8 (dk_at dksX3_givesBack_0 11 rfl rfl)
theorem dX3_givesBack_12 : decode cX3_givesBack 12 = .ok (.iload_n 1, 1) := dk_27 (dk_at dksX3_givesBack_0 12 rfl rfl)
theorem dX3_givesBack_13 : decode cX3_givesBack 13 = .ok (.invokevirtual 95, 3) := dk_182 0 95 (dk_at dksX3_givesBack_0 13 rfl rfl)
theorem dX3_givesBack_16 : decode cX3_givesBack 16 = .ok (.ireturn, 1) := dk_172 (dk_at dksX3_givesBack_0 16 rfl rfl)
theorem dX3_givesBack_17 : decode cX3_givesBack 17 = .ok (.aload_n 0, 1) := dk_42 (dk_at dksX3_givesBack_0 17 rfl rfl)
theorem dX3_givesBack_18 : decode cX3_givesBack 18 = .ok (.iload_n 1, 1) := dk_27 (dk_at dksX3_givesBack_0 18 rfl rfl)
theorem dX3_givesBack_19 : decode cX3_givesBack 19 = .ok (.iconst 4, 1) := dk_7 (dk_at dksX3_givesBack_0 19 rfl rfl)
theorem dX3_givesBack_20 : decode cX3_givesBack 20 = .ok (.invokevirtual 70, 3) := dk_182 0 70 (dk_at dksX3_givesBack_0 20 rfl rfl)
theorem dX3_givesBack_23 : decode cX3_givesBack 23 = .ok (.ifCond .le 16, 3) := dk_158 0 16 (dk_at dksX3_givesBack_1 0 rfl rfl)
theorem dX3_givesBack_26 : decode cX3_givesBack 26 = .ok (.aload_n 0, 1) := dk_42 (dk_at dksX3_givesBack_1 3 rfl rfl)
theorem dX3_givesBack_27 : decode cX3_givesBack 27 = .ok (.bipush 11, 2) := dk_16 11 (dk_at dksX3_givesBack_1 4 rfl rfl)
theorem dX3_givesBack_29 : decode cX3_givesBack 29 = .ok (.aload_n 0, 1) := dk_42 (dk_at dksX3_givesBack_1 6 rfl rfl)
theorem dX3_givesBack_30 : decode cX3_givesBack 30 = .ok (.iload_n 1, 1) := dk_27 (dk_at dksX3_givesBack_1 7 rfl rfl)
theorem dX3_givesBack_31 : decode cX3_givesBack 31 = .ok (.iconst 4, 1) := dk_7 (dk_at dksX3_givesBack_1 8 rfl rfl)
theorem dX3_givesBack_32 : decode cX3_givesBack 32 = .ok (.invokevirtual 70, 3) := dk_182 0 70 (dk_at dksX3_givesBack_1 9 rfl rfl)
theorem dX3_givesBack_35 : decode cX3_givesBack 35 = .ok (.invokevirtual 95, 3) := dk_182 0 95 (dk_at dksX3_givesBack_1 12 rfl rfl)
theorem dX3_givesBack_38 : decode cX3_givesBack 38 = .ok (.ireturn, 1) := dk_172 (dk_at dksX3_givesBack_1 15 rfl rfl)
theorem dX3_givesBack_39 : decode cX3_givesBack 39 = .ok (.aload_n 0, 1) := dk_42 (dk_at dksX3_givesBack_1 16 rfl rfl)
theorem dX3_givesBack_40 : decode cX3_givesBack 40 = .ok (.aload_n 0, 1) := dk_42 (dk_at dksX3_givesBack_1 17 rfl rfl)
theorem dX3_givesBack_41 : decode cX3_givesBack 41 = .ok (.iload_n 1, 1) := dk_27 (dk_at dksX3_givesBack_1 18 rfl rfl)
theorem dX3_givesBack_42 : decode cX3_givesBack 42 = .ok (.iconst 3, 1) := dk_6 (dk_at dksX3_givesBack_1 19 rfl rfl)
theorem dX3_givesBack_43 : decode cX3_givesBack 43 = .ok (.invokevirtual 70, 3) := dk_182 0 70 (dk_at dksX3_givesBack_1 20 rfl rfl)
theorem dX3_givesBack_46 : decode cX3_givesBack 46 = .ok (.aload_n 0, 1) := dk_42 (dk_at dksX3_givesBack_1 23 rfl rfl)
theorem dX3_givesBack_47 : decode cX3_givesBack 47 = .ok (.aload_n 0, 1) := dk_42 (dk_at dksX3_givesBack_2 0 rfl rfl)
theorem dX3_givesBack_48 : decode cX3_givesBack 48 = .ok (.aload_n 0, 1) := dk_42 (dk_at dksX3_givesBack_2 1 rfl rfl)
theorem dX3_givesBack_49 : decode cX3_givesBack 49 = .ok (.iload_n 1, 1) := dk_27 (dk_at dksX3_givesBack_2 2 rfl rfl)
theorem dX3_givesBack_50 : decode cX3_givesBack 50 = .ok (.invokevirtual 98, 3) := dk_182 0 98 (dk_at dksX3_givesBack_2 3 rfl rfl)
theorem dX3_givesBack_53 : decode cX3_givesBack 53 = .ok (.invokevirtual 122, 3) := dk_182 0 122 (dk_at dksX3_givesBack_2 6 rfl rfl)
theorem dX3_givesBack_56 : decode cX3_givesBack 56 = .ok (.iconst 1, 1) := dk_4 (dk_at dksX3_givesBack_2 9 rfl rfl)
theorem dX3_givesBack_57 : decode cX3_givesBack 57 = .ok (.invokevirtual 74, 3) := dk_182 0 74 (dk_at dksX3_givesBack_2 10 rfl rfl)
theorem dX3_givesBack_60 : decode cX3_givesBack 60 = .ok (.invokevirtual 101, 3) := dk_182 0 101 (dk_at dksX3_givesBack_2 13 rfl rfl)
theorem dX3_givesBack_63 : decode cX3_givesBack 63 = .ok (.istore_n 2, 1) := dk_61 (dk_at dksX3_givesBack_2 16 rfl rfl)
theorem dX3_givesBack_64 : decode cX3_givesBack 64 = .ok (.iload_n 2, 1) := dk_28 (dk_at dksX3_givesBack_2 17 rfl rfl)
theorem dX3_givesBack_65 : decode cX3_givesBack 65 = .ok (.iconst 1, 1) := dk_4 (dk_at dksX3_givesBack_2 18 rfl rfl)
theorem dX3_givesBack_66 : decode cX3_givesBack 66 = .ok (.if_icmp .le 11, 3) := dk_164 0 11 (dk_at dksX3_givesBack_2 19 rfl rfl)
theorem dX3_givesBack_69 : decode cX3_givesBack 69 = .ok (.aload_n 0, 1) := dk_42 (dk_at dksX3_givesBack_2 22 rfl rfl)
theorem dX3_givesBack_70 : decode cX3_givesBack 70 = .ok (.bipush 12, 2) := dk_16 12 (dk_at dksX3_givesBack_3 0 rfl rfl)
theorem dX3_givesBack_72 : decode cX3_givesBack 72 = .ok (.iload_n 2, 1) := dk_28 (dk_at dksX3_givesBack_3 2 rfl rfl)
theorem dX3_givesBack_73 : decode cX3_givesBack 73 = .ok (.invokevirtual 95, 3) := dk_182 0 95 (dk_at dksX3_givesBack_3 3 rfl rfl)
theorem dX3_givesBack_76 : decode cX3_givesBack 76 = .ok (.ireturn, 1) := dk_172 (dk_at dksX3_givesBack_3 6 rfl rfl)
theorem dX3_givesBack_77 : decode cX3_givesBack 77 = .ok (.aload_n 0, 1) := dk_42 (dk_at dksX3_givesBack_3 7 rfl rfl)
theorem dX3_givesBack_78 : decode cX3_givesBack 78 = .ok (.getfield 7, 3) := dk_180 0 7 (dk_at dksX3_givesBack_3 8 rfl rfl)
theorem dX3_givesBack_81 : decode cX3_givesBack 81 = .ok (.bipush 79, 2) := dk_16 79 (dk_at dksX3_givesBack_3 11 rfl rfl)
theorem dX3_givesBack_83 : decode cX3_givesBack 83 = .ok (.bipush 6, 2) := dk_16 6 (dk_at dksX3_givesBack_3 13 rfl rfl)
theorem dX3_givesBack_85 : decode cX3_givesBack 85 = .ok (.iload_n 1, 1) := dk_27 (dk_at dksX3_givesBack_3 15 rfl rfl)
theorem dX3_givesBack_86 : decode cX3_givesBack 86 = .ok (.imul, 1) := dk_104 (dk_at dksX3_givesBack_3 16 rfl rfl)
theorem dX3_givesBack_87 : decode cX3_givesBack 87 = .ok (.iadd, 1) := dk_96 (dk_at dksX3_givesBack_3 17 rfl rfl)
theorem dX3_givesBack_88 : decode cX3_givesBack 88 = .ok (.iconst 5, 1) := dk_8 (dk_at dksX3_givesBack_3 18 rfl rfl)
theorem dX3_givesBack_89 : decode cX3_givesBack 89 = .ok (.iadd, 1) := dk_96 (dk_at dksX3_givesBack_3 19 rfl rfl)
theorem dX3_givesBack_90 : decode cX3_givesBack 90 = .ok (.iconst 1, 1) := dk_4 (dk_at dksX3_givesBack_3 20 rfl rfl)
theorem dX3_givesBack_91 : decode cX3_givesBack 91 = .ok (.iastore, 1) := dk_79 (dk_at dksX3_givesBack_3 21 rfl rfl)
theorem dX3_givesBack_92 : decode cX3_givesBack 92 = .ok (.aload_n 0, 1) := dk_42 (dk_at dksX3_givesBack_3 22 rfl rfl)
theorem dX3_givesBack_93 : decode cX3_givesBack 93 = .ok (.aload_n 0, 1) := dk_42 (dk_at dksX3_givesBack_3 23 rfl rfl)
theorem dX3_givesBack_94 : decode cX3_givesBack 94 = .ok (.iload_n 1, 1) := dk_27 (dk_at dksX3_givesBack_4 0 rfl rfl)
theorem dX3_givesBack_95 : decode cX3_givesBack 95 = .ok (.iconst 2, 1) := dk_5 (dk_at dksX3_givesBack_4 1 rfl rfl)
theorem dX3_givesBack_96 : decode cX3_givesBack 96 = .ok (.invokevirtual 70, 3) := dk_182 0 70 (dk_at dksX3_givesBack_4 2 rfl rfl)
theorem dX3_givesBack_99 : decode cX3_givesBack 99 = .ok (.invokevirtual 113, 3) := dk_182 0 113 (dk_at dksX3_givesBack_4 5 rfl rfl)
theorem dX3_givesBack_102 : decode cX3_givesBack 102 = .ok (.ireturn, 1) := dk_172 (dk_at dksX3_givesBack_4 8 rfl rfl)
abbrev cX3_latestOf : ByteArray := prog_19_method_37_code
def yX3_latestOf : MethodName := ⟨RX3, "latestOf", "(I)I"⟩
def dkwX3_latestOf_1 : List UInt8 := [29, 167, 0, 4, 28, 61, 132, 3, 1, 167, 255, 227, 28, 172]
abbrev dktX3_latestOf_1 : List UInt8 := dkwX3_latestOf_1 ++ []
def dkwX3_latestOf_0 : List UInt8 := [2, 61, 3, 62, 29, 42, 180, 0, 7, 4, 46, 162, 0, 25, 42, 29, 3, 182, 0, 74, 27, 160, 0, 7]
abbrev dktX3_latestOf_0 : List UInt8 := dkwX3_latestOf_0 ++ dktX3_latestOf_1
theorem dksX3_latestOf_0 : cX3_latestOf.data.toList.drop 0 = dktX3_latestOf_0 := by decide +kernel
theorem dksX3_latestOf_1 : cX3_latestOf.data.toList.drop 24 = dktX3_latestOf_1 := dk_seg dksX3_latestOf_0 24 rfl rfl
theorem dX3_latestOf_0 : decode cX3_latestOf 0 = .ok (.iconst (-1), 1) := dk_2 (dk_at dksX3_latestOf_0 0 rfl rfl)
theorem dX3_latestOf_1 : decode cX3_latestOf 1 = .ok (.istore_n 2, 1) := dk_61 (dk_at dksX3_latestOf_0 1 rfl rfl)
theorem dX3_latestOf_2 : decode cX3_latestOf 2 = .ok (.iconst 0, 1) := dk_3 (dk_at dksX3_latestOf_0 2 rfl rfl)
theorem dX3_latestOf_3 : decode cX3_latestOf 3 = .ok (.istore_n 3, 1) := dk_62 (dk_at dksX3_latestOf_0 3 rfl rfl)
theorem dX3_latestOf_4 : decode cX3_latestOf 4 = .ok (.iload_n 3, 1) := dk_29 (dk_at dksX3_latestOf_0 4 rfl rfl)
theorem dX3_latestOf_5 : decode cX3_latestOf 5 = .ok (.aload_n 0, 1) := dk_42 (dk_at dksX3_latestOf_0 5 rfl rfl)
theorem dX3_latestOf_6 : decode cX3_latestOf 6 = .ok (.getfield 7, 3) := dk_180 0 7 (dk_at dksX3_latestOf_0 6 rfl rfl)
theorem dX3_latestOf_9 : decode cX3_latestOf 9 = .ok (.iconst 1, 1) := dk_4 (dk_at dksX3_latestOf_0 9 rfl rfl)
theorem dX3_latestOf_10 : decode cX3_latestOf 10 = .ok (.iaload, 1) := dk_46 (dk_at dksX3_latestOf_0 10 rfl rfl)
theorem dX3_latestOf_11 : decode cX3_latestOf 11 = .ok (.if_icmp .ge 25, 3) := dk_162 0 25 (dk_at dksX3_latestOf_0 11 rfl rfl)
theorem dX3_latestOf_14 : decode cX3_latestOf 14 = .ok (.aload_n 0, 1) := dk_42 (dk_at dksX3_latestOf_0 14 rfl rfl)
theorem dX3_latestOf_15 : decode cX3_latestOf 15 = .ok (.iload_n 3, 1) := dk_29 (dk_at dksX3_latestOf_0 15 rfl rfl)
theorem dX3_latestOf_16 : decode cX3_latestOf 16 = .ok (.iconst 0, 1) := dk_3 (dk_at dksX3_latestOf_0 16 rfl rfl)
theorem dX3_latestOf_17 : decode cX3_latestOf 17 = .ok (.invokevirtual 74, 3) := dk_182 0 74 (dk_at dksX3_latestOf_0 17 rfl rfl)
theorem dX3_latestOf_20 : decode cX3_latestOf 20 = .ok (.iload_n 1, 1) := dk_27 (dk_at dksX3_latestOf_0 20 rfl rfl)
theorem dX3_latestOf_21 : decode cX3_latestOf 21 = .ok (.if_icmp .ne 7, 3) := dk_160 0 7 (dk_at dksX3_latestOf_0 21 rfl rfl)
theorem dX3_latestOf_24 : decode cX3_latestOf 24 = .ok (.iload_n 3, 1) := dk_29 (dk_at dksX3_latestOf_1 0 rfl rfl)
theorem dX3_latestOf_25 : decode cX3_latestOf 25 = .ok (.goto 4, 3) := dk_167 0 4 (dk_at dksX3_latestOf_1 1 rfl rfl)
theorem dX3_latestOf_28 : decode cX3_latestOf 28 = .ok (.iload_n 2, 1) := dk_28 (dk_at dksX3_latestOf_1 4 rfl rfl)
theorem dX3_latestOf_29 : decode cX3_latestOf 29 = .ok (.istore_n 2, 1) := dk_61 (dk_at dksX3_latestOf_1 5 rfl rfl)
theorem dX3_latestOf_30 : decode cX3_latestOf 30 = .ok (.iinc 3 1, 3) := dk_132 3 1 (dk_at dksX3_latestOf_1 6 rfl rfl)
theorem dX3_latestOf_33 : decode cX3_latestOf 33 = .ok (.goto (-29), 3) := dk_167 255 227 (dk_at dksX3_latestOf_1 9 rfl rfl)
theorem dX3_latestOf_36 : decode cX3_latestOf 36 = .ok (.iload_n 2, 1) := dk_28 (dk_at dksX3_latestOf_1 12 rfl rfl)
theorem dX3_latestOf_37 : decode cX3_latestOf 37 = .ok (.ireturn, 1) := dk_172 (dk_at dksX3_latestOf_1 13 rfl rfl)
abbrev cX3_apart : ByteArray := prog_19_method_21_code
def yX3_apart : MethodName := ⟨RX3, "apart", "(II)I"⟩
def dkwX3_apart_0 : List UInt8 := [27, 28, 164, 0, 9, 27, 28, 100, 167, 0, 6, 28, 27, 100, 172]
abbrev dktX3_apart_0 : List UInt8 := dkwX3_apart_0 ++ []
theorem dksX3_apart_0 : cX3_apart.data.toList.drop 0 = dktX3_apart_0 := by decide +kernel
theorem dX3_apart_0 : decode cX3_apart 0 = .ok (.iload_n 1, 1) := dk_27 (dk_at dksX3_apart_0 0 rfl rfl)
theorem dX3_apart_1 : decode cX3_apart 1 = .ok (.iload_n 2, 1) := dk_28 (dk_at dksX3_apart_0 1 rfl rfl)
theorem dX3_apart_2 : decode cX3_apart 2 = .ok (.if_icmp .le 9, 3) := dk_164 0 9 (dk_at dksX3_apart_0 2 rfl rfl)
theorem dX3_apart_5 : decode cX3_apart 5 = .ok (.iload_n 1, 1) := dk_27 (dk_at dksX3_apart_0 5 rfl rfl)
theorem dX3_apart_6 : decode cX3_apart 6 = .ok (.iload_n 2, 1) := dk_28 (dk_at dksX3_apart_0 6 rfl rfl)
theorem dX3_apart_7 : decode cX3_apart 7 = .ok (.isub, 1) := dk_100 (dk_at dksX3_apart_0 7 rfl rfl)
theorem dX3_apart_8 : decode cX3_apart 8 = .ok (.goto 6, 3) := dk_167 0 6 (dk_at dksX3_apart_0 8 rfl rfl)
theorem dX3_apart_11 : decode cX3_apart 11 = .ok (.iload_n 2, 1) := dk_28 (dk_at dksX3_apart_0 11 rfl rfl)
theorem dX3_apart_12 : decode cX3_apart 12 = .ok (.iload_n 1, 1) := dk_27 (dk_at dksX3_apart_0 12 rfl rfl)
theorem dX3_apart_13 : decode cX3_apart 13 = .ok (.isub, 1) := dk_100 (dk_at dksX3_apart_0 13 rfl rfl)
theorem dX3_apart_14 : decode cX3_apart 14 = .ok (.ireturn, 1) := dk_172 (dk_at dksX3_apart_0 14 rfl rfl)
abbrev cX3_room : ByteArray := prog_19_method_49_code
def yX3_room : MethodName := ⟨RX3, "room", "(II)I"⟩
def dkwX3_room_2 : List UInt8 := [182, 0, 63, 172]
abbrev dktX3_room_2 : List UInt8 := dkwX3_room_2 ++ []
def dkwX3_room_1 : List UInt8 := [16, 30, 184, 0, 66, 153, 0, 17, 42, 42, 27, 28, 182, 0, 164, 5, 182, 0, 132, 167, 0, 8, 42, 4]
abbrev dktX3_room_1 : List UInt8 := dkwX3_room_1 ++ dktX3_room_2
def dkwX3_room_0 : List UInt8 := [42, 3, 181, 0, 38, 42, 182, 0, 125, 27, 17, 0, 150, 17, 1, 144, 184, 0, 66, 153, 0, 27, 28, 4]
abbrev dktX3_room_0 : List UInt8 := dkwX3_room_0 ++ dktX3_room_1
theorem dksX3_room_0 : cX3_room.data.toList.drop 0 = dktX3_room_0 := by decide +kernel
theorem dksX3_room_1 : cX3_room.data.toList.drop 24 = dktX3_room_1 := dk_seg dksX3_room_0 24 rfl rfl
theorem dksX3_room_2 : cX3_room.data.toList.drop 48 = dktX3_room_2 := dk_seg dksX3_room_1 24 rfl rfl
theorem dX3_room_0 : decode cX3_room 0 = .ok (.aload_n 0, 1) := dk_42 (dk_at dksX3_room_0 0 rfl rfl)
theorem dX3_room_1 : decode cX3_room 1 = .ok (.iconst 0, 1) := dk_3 (dk_at dksX3_room_0 1 rfl rfl)
theorem dX3_room_2 : decode cX3_room 2 = .ok (.putfield 38, 3) := dk_181 0 38 (dk_at dksX3_room_0 2 rfl rfl)
theorem dX3_room_5 : decode cX3_room 5 = .ok (.aload_n 0, 1) := dk_42 (dk_at dksX3_room_0 5 rfl rfl)
theorem dX3_room_6 : decode cX3_room 6 = .ok (.invokevirtual 125, 3) := dk_182 0 125 (dk_at dksX3_room_0 6 rfl rfl)
theorem dX3_room_9 : decode cX3_room 9 = .ok (.iload_n 1, 1) := dk_27 (dk_at dksX3_room_0 9 rfl rfl)
theorem dX3_room_10 : decode cX3_room 10 = .ok (.sipush 150, 3) := dk_17 0 150 (dk_at dksX3_room_0 10 rfl rfl)
theorem dX3_room_13 : decode cX3_room 13 = .ok (.sipush 400, 3) := dk_17 1 144 (dk_at dksX3_room_0 13 rfl rfl)
theorem dX3_room_16 : decode cX3_room 16 = .ok (.invokestatic 66, 3) := dk_184 0 66 (dk_at dksX3_room_0 16 rfl rfl)
theorem dX3_room_19 : decode cX3_room 19 = .ok (.ifCond .eq 27, 3) := dk_153 0 27 (dk_at dksX3_room_0 19 rfl rfl)
theorem dX3_room_22 : decode cX3_room 22 = .ok (.iload_n 2, 1) := dk_28 (dk_at dksX3_room_0 22 rfl rfl)
theorem dX3_room_23 : decode cX3_room 23 = .ok (.iconst 1, 1) := dk_4 (dk_at dksX3_room_0 23 rfl rfl)
theorem dX3_room_24 : decode cX3_room 24 = .ok (.bipush 30, 2) := dk_16 30 (dk_at dksX3_room_1 0 rfl rfl)
theorem dX3_room_26 : decode cX3_room 26 = .ok (.invokestatic 66, 3) := dk_184 0 66 (dk_at dksX3_room_1 2 rfl rfl)
theorem dX3_room_29 : decode cX3_room 29 = .ok (.ifCond .eq 17, 3) := dk_153 0 17 (dk_at dksX3_room_1 5 rfl rfl)
theorem dX3_room_32 : decode cX3_room 32 = .ok (.aload_n 0, 1) := dk_42 (dk_at dksX3_room_1 8 rfl rfl)
theorem dX3_room_33 : decode cX3_room 33 = .ok (.aload_n 0, 1) := dk_42 (dk_at dksX3_room_1 9 rfl rfl)
theorem dX3_room_34 : decode cX3_room 34 = .ok (.iload_n 1, 1) := dk_27 (dk_at dksX3_room_1 10 rfl rfl)
theorem dX3_room_35 : decode cX3_room 35 = .ok (.iload_n 2, 1) := dk_28 (dk_at dksX3_room_1 11 rfl rfl)
theorem dX3_room_36 : decode cX3_room 36 = .ok (.invokevirtual 164, 3) := dk_182 0 164 (dk_at dksX3_room_1 12 rfl rfl)
theorem dX3_room_39 : decode cX3_room 39 = .ok (.iconst 2, 1) := dk_5 (dk_at dksX3_room_1 15 rfl rfl)
theorem dX3_room_40 : decode cX3_room 40 = .ok (.invokevirtual 132, 3) := dk_182 0 132 (dk_at dksX3_room_1 16 rfl rfl)
theorem dX3_room_43 : decode cX3_room 43 = .ok (.goto 8, 3) := dk_167 0 8 (dk_at dksX3_room_1 19 rfl rfl)
theorem dX3_room_46 : decode cX3_room 46 = .ok (.aload_n 0, 1) := dk_42 (dk_at dksX3_room_1 22 rfl rfl)
theorem dX3_room_47 : decode cX3_room 47 = .ok (.iconst 1, 1) := dk_4 (dk_at dksX3_room_1 23 rfl rfl)
theorem dX3_room_48 : decode cX3_room 48 = .ok (.invokevirtual 63, 3) := dk_182 0 63 (dk_at dksX3_room_2 0 rfl rfl)
theorem dX3_room_51 : decode cX3_room 51 = .ok (.ireturn, 1) := dk_172 (dk_at dksX3_room_2 3 rfl rfl)
abbrev cX3_rooms : ByteArray := prog_19_method_33_code
def yX3_rooms : MethodName := ⟨RX3, "rooms", "(II)I"⟩
def dkwX3_rooms_2 : List UInt8 := [96, 28, 79, 42, 180, 0, 7, 6, 29, 4, 96, 79, 42, 29, 182, 0, 113, 172]
abbrev dktX3_rooms_2 : List UInt8 := dkwX3_rooms_2 ++ []
def dkwX3_rooms_1 : List UInt8 := [180, 0, 7, 17, 0, 223, 8, 29, 104, 96, 27, 79, 42, 180, 0, 7, 17, 0, 223, 8, 29, 104, 96, 4]
abbrev dktX3_rooms_1 : List UInt8 := dkwX3_rooms_1 ++ dktX3_rooms_2
def dkwX3_rooms_0 : List UInt8 := [42, 180, 0, 7, 6, 46, 62, 29, 16, 6, 160, 0, 11, 42, 4, 16, 6, 182, 0, 95, 172, 42]
abbrev dktX3_rooms_0 : List UInt8 := dkwX3_rooms_0 ++ dktX3_rooms_1
theorem dksX3_rooms_0 : cX3_rooms.data.toList.drop 0 = dktX3_rooms_0 := by decide +kernel
theorem dksX3_rooms_1 : cX3_rooms.data.toList.drop 22 = dktX3_rooms_1 := dk_seg dksX3_rooms_0 22 rfl rfl
theorem dksX3_rooms_2 : cX3_rooms.data.toList.drop 46 = dktX3_rooms_2 := dk_seg dksX3_rooms_1 24 rfl rfl
theorem dX3_rooms_0 : decode cX3_rooms 0 = .ok (.aload_n 0, 1) := dk_42 (dk_at dksX3_rooms_0 0 rfl rfl)
theorem dX3_rooms_1 : decode cX3_rooms 1 = .ok (.getfield 7, 3) := dk_180 0 7 (dk_at dksX3_rooms_0 1 rfl rfl)
theorem dX3_rooms_4 : decode cX3_rooms 4 = .ok (.iconst 3, 1) := dk_6 (dk_at dksX3_rooms_0 4 rfl rfl)
theorem dX3_rooms_5 : decode cX3_rooms 5 = .ok (.iaload, 1) := dk_46 (dk_at dksX3_rooms_0 5 rfl rfl)
theorem dX3_rooms_6 : decode cX3_rooms 6 = .ok (.istore_n 3, 1) := dk_62 (dk_at dksX3_rooms_0 6 rfl rfl)
theorem dX3_rooms_7 : decode cX3_rooms 7 = .ok (.iload_n 3, 1) := dk_29 (dk_at dksX3_rooms_0 7 rfl rfl)
theorem dX3_rooms_8 : decode cX3_rooms 8 = .ok (.bipush 6, 2) := dk_16 6 (dk_at dksX3_rooms_0 8 rfl rfl)
theorem dX3_rooms_10 : decode cX3_rooms 10 = .ok (.if_icmp .ne 11, 3) := dk_160 0 11 (dk_at dksX3_rooms_0 10 rfl rfl)
theorem dX3_rooms_13 : decode cX3_rooms 13 = .ok (.aload_n 0, 1) := dk_42 (dk_at dksX3_rooms_0 13 rfl rfl)
theorem dX3_rooms_14 : decode cX3_rooms 14 = .ok (.iconst 1, 1) := dk_4 (dk_at dksX3_rooms_0 14 rfl rfl)
theorem dX3_rooms_15 : decode cX3_rooms 15 = .ok (.bipush 6, 2) := dk_16 6 (dk_at dksX3_rooms_0 15 rfl rfl)
theorem dX3_rooms_17 : decode cX3_rooms 17 = .ok (.invokevirtual 95, 3) := dk_182 0 95 (dk_at dksX3_rooms_0 17 rfl rfl)
theorem dX3_rooms_20 : decode cX3_rooms 20 = .ok (.ireturn, 1) := dk_172 (dk_at dksX3_rooms_0 20 rfl rfl)
theorem dX3_rooms_21 : decode cX3_rooms 21 = .ok (.aload_n 0, 1) := dk_42 (dk_at dksX3_rooms_0 21 rfl rfl)
theorem dX3_rooms_22 : decode cX3_rooms 22 = .ok (.getfield 7, 3) := dk_180 0 7 (dk_at dksX3_rooms_1 0 rfl rfl)
theorem dX3_rooms_25 : decode cX3_rooms 25 = .ok (.sipush 223, 3) := dk_17 0 223 (dk_at dksX3_rooms_1 3 rfl rfl)
theorem dX3_rooms_28 : decode cX3_rooms 28 = .ok (.iconst 5, 1) := dk_8 (dk_at dksX3_rooms_1 6 rfl rfl)
theorem dX3_rooms_29 : decode cX3_rooms 29 = .ok (.iload_n 3, 1) := dk_29 (dk_at dksX3_rooms_1 7 rfl rfl)
theorem dX3_rooms_30 : decode cX3_rooms 30 = .ok (.imul, 1) := dk_104 (dk_at dksX3_rooms_1 8 rfl rfl)
theorem dX3_rooms_31 : decode cX3_rooms 31 = .ok (.iadd, 1) := dk_96 (dk_at dksX3_rooms_1 9 rfl rfl)
theorem dX3_rooms_32 : decode cX3_rooms 32 = .ok (.iload_n 1, 1) := dk_27 (dk_at dksX3_rooms_1 10 rfl rfl)
theorem dX3_rooms_33 : decode cX3_rooms 33 = .ok (.iastore, 1) := dk_79 (dk_at dksX3_rooms_1 11 rfl rfl)
theorem dX3_rooms_34 : decode cX3_rooms 34 = .ok (.aload_n 0, 1) := dk_42 (dk_at dksX3_rooms_1 12 rfl rfl)
theorem dX3_rooms_35 : decode cX3_rooms 35 = .ok (.getfield 7, 3) := dk_180 0 7 (dk_at dksX3_rooms_1 13 rfl rfl)
theorem dX3_rooms_38 : decode cX3_rooms 38 = .ok (.sipush 223, 3) := dk_17 0 223 (dk_at dksX3_rooms_1 16 rfl rfl)
theorem dX3_rooms_41 : decode cX3_rooms 41 = .ok (.iconst 5, 1) := dk_8 (dk_at dksX3_rooms_1 19 rfl rfl)
theorem dX3_rooms_42 : decode cX3_rooms 42 = .ok (.iload_n 3, 1) := dk_29 (dk_at dksX3_rooms_1 20 rfl rfl)
theorem dX3_rooms_43 : decode cX3_rooms 43 = .ok (.imul, 1) := dk_104 (dk_at dksX3_rooms_1 21 rfl rfl)
theorem dX3_rooms_44 : decode cX3_rooms 44 = .ok (.iadd, 1) := dk_96 (dk_at dksX3_rooms_1 22 rfl rfl)
theorem dX3_rooms_45 : decode cX3_rooms 45 = .ok (.iconst 1, 1) := dk_4 (dk_at dksX3_rooms_1 23 rfl rfl)
theorem dX3_rooms_46 : decode cX3_rooms 46 = .ok (.iadd, 1) := dk_96 (dk_at dksX3_rooms_2 0 rfl rfl)
theorem dX3_rooms_47 : decode cX3_rooms 47 = .ok (.iload_n 2, 1) := dk_28 (dk_at dksX3_rooms_2 1 rfl rfl)
theorem dX3_rooms_48 : decode cX3_rooms 48 = .ok (.iastore, 1) := dk_79 (dk_at dksX3_rooms_2 2 rfl rfl)
theorem dX3_rooms_49 : decode cX3_rooms 49 = .ok (.aload_n 0, 1) := dk_42 (dk_at dksX3_rooms_2 3 rfl rfl)
theorem dX3_rooms_50 : decode cX3_rooms 50 = .ok (.getfield 7, 3) := dk_180 0 7 (dk_at dksX3_rooms_2 4 rfl rfl)
theorem dX3_rooms_53 : decode cX3_rooms 53 = .ok (.iconst 3, 1) := dk_6 (dk_at dksX3_rooms_2 7 rfl rfl)
theorem dX3_rooms_54 : decode cX3_rooms 54 = .ok (.iload_n 3, 1) := dk_29 (dk_at dksX3_rooms_2 8 rfl rfl)
theorem dX3_rooms_55 : decode cX3_rooms 55 = .ok (.iconst 1, 1) := dk_4 (dk_at dksX3_rooms_2 9 rfl rfl)
theorem dX3_rooms_56 : decode cX3_rooms 56 = .ok (.iadd, 1) := dk_96 (dk_at dksX3_rooms_2 10 rfl rfl)
theorem dX3_rooms_57 : decode cX3_rooms 57 = .ok (.iastore, 1) := dk_79 (dk_at dksX3_rooms_2 11 rfl rfl)
theorem dX3_rooms_58 : decode cX3_rooms 58 = .ok (.aload_n 0, 1) := dk_42 (dk_at dksX3_rooms_2 12 rfl rfl)
theorem dX3_rooms_59 : decode cX3_rooms 59 = .ok (.iload_n 3, 1) := dk_29 (dk_at dksX3_rooms_2 13 rfl rfl)
theorem dX3_rooms_60 : decode cX3_rooms 60 = .ok (.invokevirtual 113, 3) := dk_182 0 113 (dk_at dksX3_rooms_2 14 rfl rfl)
theorem dX3_rooms_63 : decode cX3_rooms 63 = .ok (.ireturn, 1) := dk_172 (dk_at dksX3_rooms_2 17 rfl rfl)
abbrev cX3_roomOf : ByteArray := prog_19_method_50_code
def yX3_roomOf : MethodName := ⟨RX3, "roomOf", "(II)I"⟩
def dkwX3_roomOf_6 : List UInt8 := [167, 0, 8, 42, 27, 182, 0, 92, 172, 42, 5, 182, 0, 63, 172]
abbrev dktX3_roomOf_6 : List UInt8 := dkwX3_roomOf_6 ++ []
def dkwX3_roomOf_5 : List UInt8 := [6, 182, 0, 80, 172, 42, 27, 7, 182, 0, 80, 172, 29, 42, 27, 4, 182, 0, 80, 160, 0, 7, 2]
abbrev dktX3_roomOf_5 : List UInt8 := dkwX3_roomOf_5 ++ dktX3_roomOf_6
def dkwX3_roomOf_4 : List UInt8 := [182, 0, 70, 172, 29, 154, 0, 7, 2, 167, 0, 12, 42, 42, 27, 182, 0, 86, 182, 0, 98, 172, 42, 27]
abbrev dktX3_roomOf_4 : List UInt8 := dkwX3_roomOf_4 ++ dktX3_roomOf_5
def dkwX3_roomOf_3 : List UInt8 := [42, 27, 28, 182, 0, 80, 172, 29, 154, 0, 7, 2, 167, 0, 13, 42, 42, 27, 182, 0, 86, 3]
abbrev dktX3_roomOf_3 : List UInt8 := dkwX3_roomOf_3 ++ dktX3_roomOf_4
def dkwX3_roomOf_2 : List UInt8 := [170, 0, 0, 0, 123, 0, 0, 0, 0, 0, 0, 0, 7, 0, 0, 0, 45, 0, 0, 0, 45, 0, 0, 0, 45, 0, 0, 0, 52, 0, 0, 0, 71, 0, 0, 0, 89, 0, 0, 0, 96, 0, 0, 0, 103]
abbrev dktX3_roomOf_2 : List UInt8 := dkwX3_roomOf_2 ++ dktX3_roomOf_3
def dkwX3_roomOf_1 : List UInt8 := [182, 0, 80, 62, 28]
abbrev dktX3_roomOf_1 : List UInt8 := dkwX3_roomOf_1 ++ dktX3_roomOf_2
def dkwX3_roomOf_0 : List UInt8 := [42, 3, 181, 0, 38, 42, 27, 182, 0, 167, 154, 0, 9, 42, 4, 182, 0, 63, 172, 42, 27, 5]
abbrev dktX3_roomOf_0 : List UInt8 := dkwX3_roomOf_0 ++ dktX3_roomOf_1
theorem dksX3_roomOf_0 : cX3_roomOf.data.toList.drop 0 = dktX3_roomOf_0 := by decide +kernel
theorem dksX3_roomOf_1 : cX3_roomOf.data.toList.drop 22 = dktX3_roomOf_1 := dk_seg dksX3_roomOf_0 22 rfl rfl
theorem dksX3_roomOf_2 : cX3_roomOf.data.toList.drop 27 = dktX3_roomOf_2 := dk_seg dksX3_roomOf_1 5 rfl rfl
theorem dksX3_roomOf_3 : cX3_roomOf.data.toList.drop 72 = dktX3_roomOf_3 := dk_seg dksX3_roomOf_2 45 rfl rfl
theorem dksX3_roomOf_4 : cX3_roomOf.data.toList.drop 94 = dktX3_roomOf_4 := dk_seg dksX3_roomOf_3 22 rfl rfl
theorem dksX3_roomOf_5 : cX3_roomOf.data.toList.drop 118 = dktX3_roomOf_5 := dk_seg dksX3_roomOf_4 24 rfl rfl
theorem dksX3_roomOf_6 : cX3_roomOf.data.toList.drop 141 = dktX3_roomOf_6 := dk_seg dksX3_roomOf_5 23 rfl rfl
theorem dX3_roomOf_0 : decode cX3_roomOf 0 = .ok (.aload_n 0, 1) := dk_42 (dk_at dksX3_roomOf_0 0 rfl rfl)
theorem dX3_roomOf_1 : decode cX3_roomOf 1 = .ok (.iconst 0, 1) := dk_3 (dk_at dksX3_roomOf_0 1 rfl rfl)
theorem dX3_roomOf_2 : decode cX3_roomOf 2 = .ok (.putfield 38, 3) := dk_181 0 38 (dk_at dksX3_roomOf_0 2 rfl rfl)
theorem dX3_roomOf_5 : decode cX3_roomOf 5 = .ok (.aload_n 0, 1) := dk_42 (dk_at dksX3_roomOf_0 5 rfl rfl)
theorem dX3_roomOf_6 : decode cX3_roomOf 6 = .ok (.iload_n 1, 1) := dk_27 (dk_at dksX3_roomOf_0 6 rfl rfl)
theorem dX3_roomOf_7 : decode cX3_roomOf 7 = .ok (.invokevirtual 167, 3) := dk_182 0 167 (dk_at dksX3_roomOf_0 7 rfl rfl)
theorem dX3_roomOf_10 : decode cX3_roomOf 10 = .ok (.ifCond .ne 9, 3) := dk_154 0 9 (dk_at dksX3_roomOf_0 10 rfl rfl)
theorem dX3_roomOf_13 : decode cX3_roomOf 13 = .ok (.aload_n 0, 1) := dk_42 (dk_at dksX3_roomOf_0 13 rfl rfl)
theorem dX3_roomOf_14 : decode cX3_roomOf 14 = .ok (.iconst 1, 1) := dk_4 (dk_at dksX3_roomOf_0 14 rfl rfl)
theorem dX3_roomOf_15 : decode cX3_roomOf 15 = .ok (.invokevirtual 63, 3) := dk_182 0 63 (dk_at dksX3_roomOf_0 15 rfl rfl)
theorem dX3_roomOf_18 : decode cX3_roomOf 18 = .ok (.ireturn, 1) := dk_172 (dk_at dksX3_roomOf_0 18 rfl rfl)
theorem dX3_roomOf_19 : decode cX3_roomOf 19 = .ok (.aload_n 0, 1) := dk_42 (dk_at dksX3_roomOf_0 19 rfl rfl)
theorem dX3_roomOf_20 : decode cX3_roomOf 20 = .ok (.iload_n 1, 1) := dk_27 (dk_at dksX3_roomOf_0 20 rfl rfl)
theorem dX3_roomOf_21 : decode cX3_roomOf 21 = .ok (.iconst 2, 1) := dk_5 (dk_at dksX3_roomOf_0 21 rfl rfl)
theorem dX3_roomOf_22 : decode cX3_roomOf 22 = .ok (.invokevirtual 80, 3) := dk_182 0 80 (dk_at dksX3_roomOf_1 0 rfl rfl)
theorem dX3_roomOf_25 : decode cX3_roomOf 25 = .ok (.istore_n 3, 1) := dk_62 (dk_at dksX3_roomOf_1 3 rfl rfl)
theorem dX3_roomOf_26 : decode cX3_roomOf 26 = .ok (.iload_n 2, 1) := dk_28 (dk_at dksX3_roomOf_1 4 rfl rfl)
theorem dX3_roomOf_27 : decode cX3_roomOf 27 = .ok (.tableswitch 123 0 7 #[45, 45, 45, 52, 71, 89, 96, 103], 45) := by decide +kernel
theorem dX3_roomOf_72 : decode cX3_roomOf 72 = .ok (.aload_n 0, 1) := dk_42 (dk_at dksX3_roomOf_3 0 rfl rfl)
theorem dX3_roomOf_73 : decode cX3_roomOf 73 = .ok (.iload_n 1, 1) := dk_27 (dk_at dksX3_roomOf_3 1 rfl rfl)
theorem dX3_roomOf_74 : decode cX3_roomOf 74 = .ok (.iload_n 2, 1) := dk_28 (dk_at dksX3_roomOf_3 2 rfl rfl)
theorem dX3_roomOf_75 : decode cX3_roomOf 75 = .ok (.invokevirtual 80, 3) := dk_182 0 80 (dk_at dksX3_roomOf_3 3 rfl rfl)
theorem dX3_roomOf_78 : decode cX3_roomOf 78 = .ok (.ireturn, 1) := dk_172 (dk_at dksX3_roomOf_3 6 rfl rfl)
theorem dX3_roomOf_79 : decode cX3_roomOf 79 = .ok (.iload_n 3, 1) := dk_29 (dk_at dksX3_roomOf_3 7 rfl rfl)
theorem dX3_roomOf_80 : decode cX3_roomOf 80 = .ok (.ifCond .ne 7, 3) := dk_154 0 7 (dk_at dksX3_roomOf_3 8 rfl rfl)
theorem dX3_roomOf_83 : decode cX3_roomOf 83 = .ok (.iconst (-1), 1) := dk_2 (dk_at dksX3_roomOf_3 11 rfl rfl)
theorem dX3_roomOf_84 : decode cX3_roomOf 84 = .ok (.goto 13, 3) := dk_167 0 13 (dk_at dksX3_roomOf_3 12 rfl rfl)
theorem dX3_roomOf_87 : decode cX3_roomOf 87 = .ok (.aload_n 0, 1) := dk_42 (dk_at dksX3_roomOf_3 15 rfl rfl)
theorem dX3_roomOf_88 : decode cX3_roomOf 88 = .ok (.aload_n 0, 1) := dk_42 (dk_at dksX3_roomOf_3 16 rfl rfl)
theorem dX3_roomOf_89 : decode cX3_roomOf 89 = .ok (.iload_n 1, 1) := dk_27 (dk_at dksX3_roomOf_3 17 rfl rfl)
theorem dX3_roomOf_90 : decode cX3_roomOf 90 = .ok (.invokevirtual 86, 3) := dk_182 0 86 (dk_at dksX3_roomOf_3 18 rfl rfl)
theorem dX3_roomOf_93 : decode cX3_roomOf 93 = .ok (.iconst 0, 1) := dk_3 (dk_at dksX3_roomOf_3 21 rfl rfl)
theorem dX3_roomOf_94 : decode cX3_roomOf 94 = .ok (.invokevirtual 70, 3) := dk_182 0 70 (dk_at dksX3_roomOf_4 0 rfl rfl)
theorem dX3_roomOf_97 : decode cX3_roomOf 97 = .ok (.ireturn, 1) := dk_172 (dk_at dksX3_roomOf_4 3 rfl rfl)
theorem dX3_roomOf_98 : decode cX3_roomOf 98 = .ok (.iload_n 3, 1) := dk_29 (dk_at dksX3_roomOf_4 4 rfl rfl)
theorem dX3_roomOf_99 : decode cX3_roomOf 99 = .ok (.ifCond .ne 7, 3) := dk_154 0 7 (dk_at dksX3_roomOf_4 5 rfl rfl)
theorem dX3_roomOf_102 : decode cX3_roomOf 102 = .ok (.iconst (-1), 1) := dk_2 (dk_at dksX3_roomOf_4 8 rfl rfl)
theorem dX3_roomOf_103 : decode cX3_roomOf 103 = .ok (.goto 12, 3) := dk_167 0 12 (dk_at dksX3_roomOf_4 9 rfl rfl)
theorem dX3_roomOf_106 : decode cX3_roomOf 106 = .ok (.aload_n 0, 1) := dk_42 (dk_at dksX3_roomOf_4 12 rfl rfl)
theorem dX3_roomOf_107 : decode cX3_roomOf 107 = .ok (.aload_n 0, 1) := dk_42 (dk_at dksX3_roomOf_4 13 rfl rfl)
theorem dX3_roomOf_108 : decode cX3_roomOf 108 = .ok (.iload_n 1, 1) := dk_27 (dk_at dksX3_roomOf_4 14 rfl rfl)
theorem dX3_roomOf_109 : decode cX3_roomOf 109 = .ok (.invokevirtual 86, 3) := dk_182 0 86 (dk_at dksX3_roomOf_4 15 rfl rfl)
theorem dX3_roomOf_112 : decode cX3_roomOf 112 = .ok (.invokevirtual 98, 3) := dk_182 0 98 (dk_at dksX3_roomOf_4 18 rfl rfl)
theorem dX3_roomOf_115 : decode cX3_roomOf 115 = .ok (.ireturn, 1) := dk_172 (dk_at dksX3_roomOf_4 21 rfl rfl)
theorem dX3_roomOf_116 : decode cX3_roomOf 116 = .ok (.aload_n 0, 1) := dk_42 (dk_at dksX3_roomOf_4 22 rfl rfl)
theorem dX3_roomOf_117 : decode cX3_roomOf 117 = .ok (.iload_n 1, 1) := dk_27 (dk_at dksX3_roomOf_4 23 rfl rfl)
theorem dX3_roomOf_118 : decode cX3_roomOf 118 = .ok (.iconst 3, 1) := dk_6 (dk_at dksX3_roomOf_5 0 rfl rfl)
theorem dX3_roomOf_119 : decode cX3_roomOf 119 = .ok (.invokevirtual 80, 3) := dk_182 0 80 (dk_at dksX3_roomOf_5 1 rfl rfl)
theorem dX3_roomOf_122 : decode cX3_roomOf 122 = .ok (.ireturn, 1) := dk_172 (dk_at dksX3_roomOf_5 4 rfl rfl)
theorem dX3_roomOf_123 : decode cX3_roomOf 123 = .ok (.aload_n 0, 1) := dk_42 (dk_at dksX3_roomOf_5 5 rfl rfl)
theorem dX3_roomOf_124 : decode cX3_roomOf 124 = .ok (.iload_n 1, 1) := dk_27 (dk_at dksX3_roomOf_5 6 rfl rfl)
theorem dX3_roomOf_125 : decode cX3_roomOf 125 = .ok (.iconst 4, 1) := dk_7 (dk_at dksX3_roomOf_5 7 rfl rfl)
theorem dX3_roomOf_126 : decode cX3_roomOf 126 = .ok (.invokevirtual 80, 3) := dk_182 0 80 (dk_at dksX3_roomOf_5 8 rfl rfl)
theorem dX3_roomOf_129 : decode cX3_roomOf 129 = .ok (.ireturn, 1) := dk_172 (dk_at dksX3_roomOf_5 11 rfl rfl)
theorem dX3_roomOf_130 : decode cX3_roomOf 130 = .ok (.iload_n 3, 1) := dk_29 (dk_at dksX3_roomOf_5 12 rfl rfl)
theorem dX3_roomOf_131 : decode cX3_roomOf 131 = .ok (.aload_n 0, 1) := dk_42 (dk_at dksX3_roomOf_5 13 rfl rfl)
theorem dX3_roomOf_132 : decode cX3_roomOf 132 = .ok (.iload_n 1, 1) := dk_27 (dk_at dksX3_roomOf_5 14 rfl rfl)
theorem dX3_roomOf_133 : decode cX3_roomOf 133 = .ok (.iconst 1, 1) := dk_4 (dk_at dksX3_roomOf_5 15 rfl rfl)
theorem dX3_roomOf_134 : decode cX3_roomOf 134 = .ok (.invokevirtual 80, 3) := dk_182 0 80 (dk_at dksX3_roomOf_5 16 rfl rfl)
theorem dX3_roomOf_137 : decode cX3_roomOf 137 = .ok (.if_icmp .ne 7, 3) := dk_160 0 7 (dk_at dksX3_roomOf_5 19 rfl rfl)
theorem dX3_roomOf_140 : decode cX3_roomOf 140 = .ok (.iconst (-1), 1) := dk_2 (dk_at dksX3_roomOf_5 22 rfl rfl)
theorem dX3_roomOf_141 : decode cX3_roomOf 141 = .ok (.goto 8, 3) := dk_167 0 8 (dk_at dksX3_roomOf_6 0 rfl rfl)
theorem dX3_roomOf_144 : decode cX3_roomOf 144 = .ok (.aload_n 0, 1) := dk_42 (dk_at dksX3_roomOf_6 3 rfl rfl)
theorem dX3_roomOf_145 : decode cX3_roomOf 145 = .ok (.iload_n 1, 1) := dk_27 (dk_at dksX3_roomOf_6 4 rfl rfl)
theorem dX3_roomOf_146 : decode cX3_roomOf 146 = .ok (.invokevirtual 92, 3) := dk_182 0 92 (dk_at dksX3_roomOf_6 5 rfl rfl)
theorem dX3_roomOf_149 : decode cX3_roomOf 149 = .ok (.ireturn, 1) := dk_172 (dk_at dksX3_roomOf_6 8 rfl rfl)
theorem dX3_roomOf_150 : decode cX3_roomOf 150 = .ok (.aload_n 0, 1) := dk_42 (dk_at dksX3_roomOf_6 9 rfl rfl)
theorem dX3_roomOf_151 : decode cX3_roomOf 151 = .ok (.iconst 2, 1) := dk_5 (dk_at dksX3_roomOf_6 10 rfl rfl)
theorem dX3_roomOf_152 : decode cX3_roomOf 152 = .ok (.invokevirtual 63, 3) := dk_182 0 63 (dk_at dksX3_roomOf_6 11 rfl rfl)
theorem dX3_roomOf_155 : decode cX3_roomOf 155 = .ok (.ireturn, 1) := dk_172 (dk_at dksX3_roomOf_6 14 rfl rfl)
abbrev cX3_isRoom : ByteArray := prog_19_method_13_code
def yX3_isRoom : MethodName := ⟨RX3, "isRoom", "(I)Z"⟩
def dkwX3_isRoom_0 : List UInt8 := [27, 3, 42, 180, 0, 7, 6, 46, 4, 100, 184, 0, 66, 172]
abbrev dktX3_isRoom_0 : List UInt8 := dkwX3_isRoom_0 ++ []
theorem dksX3_isRoom_0 : cX3_isRoom.data.toList.drop 0 = dktX3_isRoom_0 := by decide +kernel
theorem dX3_isRoom_0 : decode cX3_isRoom 0 = .ok (.iload_n 1, 1) := dk_27 (dk_at dksX3_isRoom_0 0 rfl rfl)
theorem dX3_isRoom_1 : decode cX3_isRoom 1 = .ok (.iconst 0, 1) := dk_3 (dk_at dksX3_isRoom_0 1 rfl rfl)
theorem dX3_isRoom_2 : decode cX3_isRoom 2 = .ok (.aload_n 0, 1) := dk_42 (dk_at dksX3_isRoom_0 2 rfl rfl)
theorem dX3_isRoom_3 : decode cX3_isRoom 3 = .ok (.getfield 7, 3) := dk_180 0 7 (dk_at dksX3_isRoom_0 3 rfl rfl)
theorem dX3_isRoom_6 : decode cX3_isRoom 6 = .ok (.iconst 3, 1) := dk_6 (dk_at dksX3_isRoom_0 6 rfl rfl)
theorem dX3_isRoom_7 : decode cX3_isRoom 7 = .ok (.iaload, 1) := dk_46 (dk_at dksX3_isRoom_0 7 rfl rfl)
theorem dX3_isRoom_8 : decode cX3_isRoom 8 = .ok (.iconst 1, 1) := dk_4 (dk_at dksX3_isRoom_0 8 rfl rfl)
theorem dX3_isRoom_9 : decode cX3_isRoom 9 = .ok (.isub, 1) := dk_100 (dk_at dksX3_isRoom_0 9 rfl rfl)
theorem dX3_isRoom_10 : decode cX3_isRoom 10 = .ok (.invokestatic 66, 3) := dk_184 0 66 (dk_at dksX3_isRoom_0 10 rfl rfl)
theorem dX3_isRoom_13 : decode cX3_isRoom 13 = .ok (.ireturn, 1) := dk_172 (dk_at dksX3_isRoom_0 13 rfl rfl)
abbrev cX3_firstRoll : ByteArray := prog_19_method_22_code
def yX3_firstRoll : MethodName := ⟨RX3, "firstRoll", "(I)I"⟩
def dkwX3_firstRoll_0 : List UInt8 := [42, 180, 0, 7, 27, 3, 184, 0, 77, 46, 172]
abbrev dktX3_firstRoll_0 : List UInt8 := dkwX3_firstRoll_0 ++ []
theorem dksX3_firstRoll_0 : cX3_firstRoll.data.toList.drop 0 = dktX3_firstRoll_0 := by decide +kernel
theorem dX3_firstRoll_0 : decode cX3_firstRoll 0 = .ok (.aload_n 0, 1) := dk_42 (dk_at dksX3_firstRoll_0 0 rfl rfl)
theorem dX3_firstRoll_1 : decode cX3_firstRoll 1 = .ok (.getfield 7, 3) := dk_180 0 7 (dk_at dksX3_firstRoll_0 1 rfl rfl)
theorem dX3_firstRoll_4 : decode cX3_firstRoll 4 = .ok (.iload_n 1, 1) := dk_27 (dk_at dksX3_firstRoll_0 4 rfl rfl)
theorem dX3_firstRoll_5 : decode cX3_firstRoll 5 = .ok (.iconst 0, 1) := dk_3 (dk_at dksX3_firstRoll_0 5 rfl rfl)
theorem dX3_firstRoll_6 : decode cX3_firstRoll 6 = .ok (.invokestatic 77, 3) := dk_184 0 77 (dk_at dksX3_firstRoll_0 6 rfl rfl)
theorem dX3_firstRoll_9 : decode cX3_firstRoll 9 = .ok (.iaload, 1) := dk_46 (dk_at dksX3_firstRoll_0 9 rfl rfl)
theorem dX3_firstRoll_10 : decode cX3_firstRoll 10 = .ok (.ireturn, 1) := dk_172 (dk_at dksX3_firstRoll_0 10 rfl rfl)
abbrev cX3_target : ByteArray := prog_19_method_23_code
def yX3_target : MethodName := ⟨RX3, "target", "(I)I"⟩
def dkwX3_target_0 : List UInt8 := [42, 27, 5, 182, 0, 80, 61, 28, 154, 0, 5, 2, 172, 42, 27, 28, 182, 0, 83, 172]
abbrev dktX3_target_0 : List UInt8 := dkwX3_target_0 ++ []
theorem dksX3_target_0 : cX3_target.data.toList.drop 0 = dktX3_target_0 := by decide +kernel
theorem dX3_target_0 : decode cX3_target 0 = .ok (.aload_n 0, 1) := dk_42 (dk_at dksX3_target_0 0 rfl rfl)
theorem dX3_target_1 : decode cX3_target 1 = .ok (.iload_n 1, 1) := dk_27 (dk_at dksX3_target_0 1 rfl rfl)
theorem dX3_target_2 : decode cX3_target 2 = .ok (.iconst 2, 1) := dk_5 (dk_at dksX3_target_0 2 rfl rfl)
theorem dX3_target_3 : decode cX3_target 3 = .ok (.invokevirtual 80, 3) := dk_182 0 80 (dk_at dksX3_target_0 3 rfl rfl)
theorem dX3_target_6 : decode cX3_target 6 = .ok (.istore_n 2, 1) := dk_61 (dk_at dksX3_target_0 6 rfl rfl)
theorem dX3_target_7 : decode cX3_target 7 = .ok (.iload_n 2, 1) := dk_28 (dk_at dksX3_target_0 7 rfl rfl)
theorem dX3_target_8 : decode cX3_target 8 = .ok (.ifCond .ne 5, 3) := dk_154 0 5 (dk_at dksX3_target_0 8 rfl rfl)
theorem dX3_target_11 : decode cX3_target 11 = .ok (.iconst (-1), 1) := dk_2 (dk_at dksX3_target_0 11 rfl rfl)
theorem dX3_target_12 : decode cX3_target 12 = .ok (.ireturn, 1) := dk_172 (dk_at dksX3_target_0 12 rfl rfl)
theorem dX3_target_13 : decode cX3_target 13 = .ok (.aload_n 0, 1) := dk_42 (dk_at dksX3_target_0 13 rfl rfl)
theorem dX3_target_14 : decode cX3_target 14 = .ok (.iload_n 1, 1) := dk_27 (dk_at dksX3_target_0 14 rfl rfl)
theorem dX3_target_15 : decode cX3_target 15 = .ok (.iload_n 2, 1) := dk_28 (dk_at dksX3_target_0 15 rfl rfl)
theorem dX3_target_16 : decode cX3_target 16 = .ok (.invokevirtual 83, 3) := dk_182 0 83 (dk_at dksX3_target_0 16 rfl rfl)
theorem dX3_target_19 : decode cX3_target 19 = .ok (.ireturn, 1) := dk_172 (dk_at dksX3_target_0 19 rfl rfl)
abbrev cX3_mustBegin : ByteArray := prog_19_method_24_code
def yX3_mustBegin : MethodName := ⟨RX3, "mustBegin", "(II)I"⟩
def dkwX3_mustBegin_2 : List UInt8 := [160, 0, 16, 21, 4, 21, 5, 5, 108, 96, 21, 5, 112, 167, 0, 5, 21, 4, 172]
abbrev dktX3_mustBegin_2 : List UInt8 := dkwX3_mustBegin_2 ++ []
def dkwX3_mustBegin_1 : List UInt8 := [54, 4, 42, 29, 3, 182, 0, 89, 54, 5, 42, 29, 4, 182, 0, 89, 4, 160, 0, 23, 28, 5, 112, 4]
abbrev dktX3_mustBegin_1 : List UInt8 := dkwX3_mustBegin_1 ++ dktX3_mustBegin_2
def dkwX3_mustBegin_0 : List UInt8 := [42, 42, 27, 182, 0, 86, 3, 182, 0, 70, 62, 42, 180, 0, 7, 27, 3, 184, 0, 77, 4, 96, 46]
abbrev dktX3_mustBegin_0 : List UInt8 := dkwX3_mustBegin_0 ++ dktX3_mustBegin_1
theorem dksX3_mustBegin_0 : cX3_mustBegin.data.toList.drop 0 = dktX3_mustBegin_0 := by decide +kernel
theorem dksX3_mustBegin_1 : cX3_mustBegin.data.toList.drop 23 = dktX3_mustBegin_1 := dk_seg dksX3_mustBegin_0 23 rfl rfl
theorem dksX3_mustBegin_2 : cX3_mustBegin.data.toList.drop 47 = dktX3_mustBegin_2 := dk_seg dksX3_mustBegin_1 24 rfl rfl
theorem dX3_mustBegin_0 : decode cX3_mustBegin 0 = .ok (.aload_n 0, 1) := dk_42 (dk_at dksX3_mustBegin_0 0 rfl rfl)
theorem dX3_mustBegin_1 : decode cX3_mustBegin 1 = .ok (.aload_n 0, 1) := dk_42 (dk_at dksX3_mustBegin_0 1 rfl rfl)
theorem dX3_mustBegin_2 : decode cX3_mustBegin 2 = .ok (.iload_n 1, 1) := dk_27 (dk_at dksX3_mustBegin_0 2 rfl rfl)
theorem dX3_mustBegin_3 : decode cX3_mustBegin 3 = .ok (.invokevirtual 86, 3) := dk_182 0 86 (dk_at dksX3_mustBegin_0 3 rfl rfl)
theorem dX3_mustBegin_6 : decode cX3_mustBegin 6 = .ok (.iconst 0, 1) := dk_3 (dk_at dksX3_mustBegin_0 6 rfl rfl)
theorem dX3_mustBegin_7 : decode cX3_mustBegin 7 = .ok (.invokevirtual 70, 3) := dk_182 0 70 (dk_at dksX3_mustBegin_0 7 rfl rfl)
theorem dX3_mustBegin_10 : decode cX3_mustBegin 10 = .ok (.istore_n 3, 1) := dk_62 (dk_at dksX3_mustBegin_0 10 rfl rfl)
theorem dX3_mustBegin_11 : decode cX3_mustBegin 11 = .ok (.aload_n 0, 1) := dk_42 (dk_at dksX3_mustBegin_0 11 rfl rfl)
theorem dX3_mustBegin_12 : decode cX3_mustBegin 12 = .ok (.getfield 7, 3) := dk_180 0 7 (dk_at dksX3_mustBegin_0 12 rfl rfl)
theorem dX3_mustBegin_15 : decode cX3_mustBegin 15 = .ok (.iload_n 1, 1) := dk_27 (dk_at dksX3_mustBegin_0 15 rfl rfl)
theorem dX3_mustBegin_16 : decode cX3_mustBegin 16 = .ok (.iconst 0, 1) := dk_3 (dk_at dksX3_mustBegin_0 16 rfl rfl)
theorem dX3_mustBegin_17 : decode cX3_mustBegin 17 = .ok (.invokestatic 77, 3) := dk_184 0 77 (dk_at dksX3_mustBegin_0 17 rfl rfl)
theorem dX3_mustBegin_20 : decode cX3_mustBegin 20 = .ok (.iconst 1, 1) := dk_4 (dk_at dksX3_mustBegin_0 20 rfl rfl)
theorem dX3_mustBegin_21 : decode cX3_mustBegin 21 = .ok (.iadd, 1) := dk_96 (dk_at dksX3_mustBegin_0 21 rfl rfl)
theorem dX3_mustBegin_22 : decode cX3_mustBegin 22 = .ok (.iaload, 1) := dk_46 (dk_at dksX3_mustBegin_0 22 rfl rfl)
theorem dX3_mustBegin_23 : decode cX3_mustBegin 23 = .ok (.istore 4, 2) := dk_54 4 (dk_at dksX3_mustBegin_1 0 rfl rfl)
theorem dX3_mustBegin_25 : decode cX3_mustBegin 25 = .ok (.aload_n 0, 1) := dk_42 (dk_at dksX3_mustBegin_1 2 rfl rfl)
theorem dX3_mustBegin_26 : decode cX3_mustBegin 26 = .ok (.iload_n 3, 1) := dk_29 (dk_at dksX3_mustBegin_1 3 rfl rfl)
theorem dX3_mustBegin_27 : decode cX3_mustBegin 27 = .ok (.iconst 0, 1) := dk_3 (dk_at dksX3_mustBegin_1 4 rfl rfl)
theorem dX3_mustBegin_28 : decode cX3_mustBegin 28 = .ok (.invokevirtual 89, 3) := dk_182 0 89 (dk_at dksX3_mustBegin_1 5 rfl rfl)
theorem dX3_mustBegin_31 : decode cX3_mustBegin 31 = .ok (.istore 5, 2) := dk_54 5 (dk_at dksX3_mustBegin_1 8 rfl rfl)
theorem dX3_mustBegin_33 : decode cX3_mustBegin 33 = .ok (.aload_n 0, 1) := dk_42 (dk_at dksX3_mustBegin_1 10 rfl rfl)
theorem dX3_mustBegin_34 : decode cX3_mustBegin 34 = .ok (.iload_n 3, 1) := dk_29 (dk_at dksX3_mustBegin_1 11 rfl rfl)
theorem dX3_mustBegin_35 : decode cX3_mustBegin 35 = .ok (.iconst 1, 1) := dk_4 (dk_at dksX3_mustBegin_1 12 rfl rfl)
theorem dX3_mustBegin_36 : decode cX3_mustBegin 36 = .ok (.invokevirtual 89, 3) := dk_182 0 89 (dk_at dksX3_mustBegin_1 13 rfl rfl)
theorem dX3_mustBegin_39 : decode cX3_mustBegin 39 = .ok (.iconst 1, 1) := dk_4 (dk_at dksX3_mustBegin_1 16 rfl rfl)
theorem dX3_mustBegin_40 : decode cX3_mustBegin 40 = .ok (.if_icmp .ne 23, 3) := dk_160 0 23 (dk_at dksX3_mustBegin_1 17 rfl rfl)
theorem dX3_mustBegin_43 : decode cX3_mustBegin 43 = .ok (.iload_n 2, 1) := dk_28 (dk_at dksX3_mustBegin_1 20 rfl rfl)
theorem dX3_mustBegin_44 : decode cX3_mustBegin 44 = .ok (.iconst 2, 1) := dk_5 (dk_at dksX3_mustBegin_1 21 rfl rfl)
theorem dX3_mustBegin_45 : decode cX3_mustBegin 45 = .ok (.irem, 1) := dk_112 (dk_at dksX3_mustBegin_1 22 rfl rfl)
theorem dX3_mustBegin_46 : decode cX3_mustBegin 46 = .ok (.iconst 1, 1) := dk_4 (dk_at dksX3_mustBegin_1 23 rfl rfl)
theorem dX3_mustBegin_47 : decode cX3_mustBegin 47 = .ok (.if_icmp .ne 16, 3) := dk_160 0 16 (dk_at dksX3_mustBegin_2 0 rfl rfl)
theorem dX3_mustBegin_50 : decode cX3_mustBegin 50 = .ok (.iload 4, 2) := dk_21 4 (dk_at dksX3_mustBegin_2 3 rfl rfl)
theorem dX3_mustBegin_52 : decode cX3_mustBegin 52 = .ok (.iload 5, 2) := dk_21 5 (dk_at dksX3_mustBegin_2 5 rfl rfl)
theorem dX3_mustBegin_54 : decode cX3_mustBegin 54 = .ok (.iconst 2, 1) := dk_5 (dk_at dksX3_mustBegin_2 7 rfl rfl)
theorem dX3_mustBegin_55 : decode cX3_mustBegin 55 = .ok (.idiv, 1) := dk_108 (dk_at dksX3_mustBegin_2 8 rfl rfl)
theorem dX3_mustBegin_56 : decode cX3_mustBegin 56 = .ok (.iadd, 1) := dk_96 (dk_at dksX3_mustBegin_2 9 rfl rfl)
theorem dX3_mustBegin_57 : decode cX3_mustBegin 57 = .ok (.iload 5, 2) := dk_21 5 (dk_at dksX3_mustBegin_2 10 rfl rfl)
theorem dX3_mustBegin_59 : decode cX3_mustBegin 59 = .ok (.irem, 1) := dk_112 (dk_at dksX3_mustBegin_2 12 rfl rfl)
theorem dX3_mustBegin_60 : decode cX3_mustBegin 60 = .ok (.goto 5, 3) := dk_167 0 5 (dk_at dksX3_mustBegin_2 13 rfl rfl)
theorem dX3_mustBegin_63 : decode cX3_mustBegin 63 = .ok (.iload 4, 2) := dk_21 4 (dk_at dksX3_mustBegin_2 16 rfl rfl)
theorem dX3_mustBegin_65 : decode cX3_mustBegin 65 = .ok (.ireturn, 1) := dk_172 (dk_at dksX3_mustBegin_2 18 rfl rfl)
abbrev cX3_dropOf : ByteArray := prog_19_method_51_code
def yX3_dropOf : MethodName := ⟨RX3, "dropOf", "(III)I"⟩
def dkwX3_dropOf_5 : List UInt8 := [21, 4, 46, 6, 182, 0, 70, 172, 42, 180, 0, 7, 21, 4, 5, 96, 46, 172, 42, 6, 182, 0, 63, 172]
abbrev dktX3_dropOf_5 : List UInt8 := dkwX3_dropOf_5 ++ []
def dkwX3_dropOf_4 : List UInt8 := [42, 180, 0, 7, 21, 4, 46, 172, 42, 180, 0, 7, 21, 4, 4, 96, 46, 172, 42, 42, 180, 0, 7]
abbrev dktX3_dropOf_4 : List UInt8 := dkwX3_dropOf_4 ++ dktX3_dropOf_5
def dkwX3_dropOf_3 : List UInt8 := [170, 0, 0, 0, 0, 0, 72, 0, 0, 0, 0, 0, 0, 0, 3, 0, 0, 0, 31, 0, 0, 0, 39, 0, 0, 0, 49, 0, 0, 0, 62]
abbrev dktX3_dropOf_3 : List UInt8 := dkwX3_dropOf_3 ++ dktX3_dropOf_4
def dkwX3_dropOf_2 : List UInt8 := [29]
abbrev dktX3_dropOf_2 : List UInt8 := dkwX3_dropOf_2 ++ dktX3_dropOf_3
def dkwX3_dropOf_1 : List UInt8 := [182, 0, 80, 4, 100, 184, 0, 66, 154, 0, 9, 42, 5, 182, 0, 63, 172, 27, 28, 184, 0, 77, 54, 4]
abbrev dktX3_dropOf_1 : List UInt8 := dkwX3_dropOf_1 ++ dktX3_dropOf_2
def dkwX3_dropOf_0 : List UInt8 := [42, 3, 181, 0, 38, 42, 27, 182, 0, 167, 154, 0, 9, 42, 4, 182, 0, 63, 172, 28, 3, 42, 27, 5]
abbrev dktX3_dropOf_0 : List UInt8 := dkwX3_dropOf_0 ++ dktX3_dropOf_1
theorem dksX3_dropOf_0 : cX3_dropOf.data.toList.drop 0 = dktX3_dropOf_0 := by decide +kernel
theorem dksX3_dropOf_1 : cX3_dropOf.data.toList.drop 24 = dktX3_dropOf_1 := dk_seg dksX3_dropOf_0 24 rfl rfl
theorem dksX3_dropOf_2 : cX3_dropOf.data.toList.drop 48 = dktX3_dropOf_2 := dk_seg dksX3_dropOf_1 24 rfl rfl
theorem dksX3_dropOf_3 : cX3_dropOf.data.toList.drop 49 = dktX3_dropOf_3 := dk_seg dksX3_dropOf_2 1 rfl rfl
theorem dksX3_dropOf_4 : cX3_dropOf.data.toList.drop 80 = dktX3_dropOf_4 := dk_seg dksX3_dropOf_3 31 rfl rfl
theorem dksX3_dropOf_5 : cX3_dropOf.data.toList.drop 103 = dktX3_dropOf_5 := dk_seg dksX3_dropOf_4 23 rfl rfl
theorem dX3_dropOf_0 : decode cX3_dropOf 0 = .ok (.aload_n 0, 1) := dk_42 (dk_at dksX3_dropOf_0 0 rfl rfl)
theorem dX3_dropOf_1 : decode cX3_dropOf 1 = .ok (.iconst 0, 1) := dk_3 (dk_at dksX3_dropOf_0 1 rfl rfl)
theorem dX3_dropOf_2 : decode cX3_dropOf 2 = .ok (.putfield 38, 3) := dk_181 0 38 (dk_at dksX3_dropOf_0 2 rfl rfl)
theorem dX3_dropOf_5 : decode cX3_dropOf 5 = .ok (.aload_n 0, 1) := dk_42 (dk_at dksX3_dropOf_0 5 rfl rfl)
theorem dX3_dropOf_6 : decode cX3_dropOf 6 = .ok (.iload_n 1, 1) := dk_27 (dk_at dksX3_dropOf_0 6 rfl rfl)
theorem dX3_dropOf_7 : decode cX3_dropOf 7 = .ok (.invokevirtual 167, 3) := dk_182 0 167 (dk_at dksX3_dropOf_0 7 rfl rfl)
theorem dX3_dropOf_10 : decode cX3_dropOf 10 = .ok (.ifCond .ne 9, 3) := dk_154 0 9 (dk_at dksX3_dropOf_0 10 rfl rfl)
theorem dX3_dropOf_13 : decode cX3_dropOf 13 = .ok (.aload_n 0, 1) := dk_42 (dk_at dksX3_dropOf_0 13 rfl rfl)
theorem dX3_dropOf_14 : decode cX3_dropOf 14 = .ok (.iconst 1, 1) := dk_4 (dk_at dksX3_dropOf_0 14 rfl rfl)
theorem dX3_dropOf_15 : decode cX3_dropOf 15 = .ok (.invokevirtual 63, 3) := dk_182 0 63 (dk_at dksX3_dropOf_0 15 rfl rfl)
theorem dX3_dropOf_18 : decode cX3_dropOf 18 = .ok (.ireturn, 1) := dk_172 (dk_at dksX3_dropOf_0 18 rfl rfl)
theorem dX3_dropOf_19 : decode cX3_dropOf 19 = .ok (.iload_n 2, 1) := dk_28 (dk_at dksX3_dropOf_0 19 rfl rfl)
theorem dX3_dropOf_20 : decode cX3_dropOf 20 = .ok (.iconst 0, 1) := dk_3 (dk_at dksX3_dropOf_0 20 rfl rfl)
theorem dX3_dropOf_21 : decode cX3_dropOf 21 = .ok (.aload_n 0, 1) := dk_42 (dk_at dksX3_dropOf_0 21 rfl rfl)
theorem dX3_dropOf_22 : decode cX3_dropOf 22 = .ok (.iload_n 1, 1) := dk_27 (dk_at dksX3_dropOf_0 22 rfl rfl)
theorem dX3_dropOf_23 : decode cX3_dropOf 23 = .ok (.iconst 2, 1) := dk_5 (dk_at dksX3_dropOf_0 23 rfl rfl)
theorem dX3_dropOf_24 : decode cX3_dropOf 24 = .ok (.invokevirtual 80, 3) := dk_182 0 80 (dk_at dksX3_dropOf_1 0 rfl rfl)
theorem dX3_dropOf_27 : decode cX3_dropOf 27 = .ok (.iconst 1, 1) := dk_4 (dk_at dksX3_dropOf_1 3 rfl rfl)
theorem dX3_dropOf_28 : decode cX3_dropOf 28 = .ok (.isub, 1) := dk_100 (dk_at dksX3_dropOf_1 4 rfl rfl)
theorem dX3_dropOf_29 : decode cX3_dropOf 29 = .ok (.invokestatic 66, 3) := dk_184 0 66 (dk_at dksX3_dropOf_1 5 rfl rfl)
theorem dX3_dropOf_32 : decode cX3_dropOf 32 = .ok (.ifCond .ne 9, 3) := dk_154 0 9 (dk_at dksX3_dropOf_1 8 rfl rfl)
theorem dX3_dropOf_35 : decode cX3_dropOf 35 = .ok (.aload_n 0, 1) := dk_42 (dk_at dksX3_dropOf_1 11 rfl rfl)
theorem dX3_dropOf_36 : decode cX3_dropOf 36 = .ok (.iconst 2, 1) := dk_5 (dk_at dksX3_dropOf_1 12 rfl rfl)
theorem dX3_dropOf_37 : decode cX3_dropOf 37 = .ok (.invokevirtual 63, 3) := dk_182 0 63 (dk_at dksX3_dropOf_1 13 rfl rfl)
theorem dX3_dropOf_40 : decode cX3_dropOf 40 = .ok (.ireturn, 1) := dk_172 (dk_at dksX3_dropOf_1 16 rfl rfl)
theorem dX3_dropOf_41 : decode cX3_dropOf 41 = .ok (.iload_n 1, 1) := dk_27 (dk_at dksX3_dropOf_1 17 rfl rfl)
theorem dX3_dropOf_42 : decode cX3_dropOf 42 = .ok (.iload_n 2, 1) := dk_28 (dk_at dksX3_dropOf_1 18 rfl rfl)
theorem dX3_dropOf_43 : decode cX3_dropOf 43 = .ok (.invokestatic 77, 3) := dk_184 0 77 (dk_at dksX3_dropOf_1 19 rfl rfl)
theorem dX3_dropOf_46 : decode cX3_dropOf 46 = .ok (.istore 4, 2) := dk_54 4 (dk_at dksX3_dropOf_1 22 rfl rfl)
theorem dX3_dropOf_48 : decode cX3_dropOf 48 = .ok (.iload_n 3, 1) := dk_29 (dk_at dksX3_dropOf_2 0 rfl rfl)
theorem dX3_dropOf_49 : decode cX3_dropOf 49 = .ok (.tableswitch 72 0 3 #[31, 39, 49, 62], 31) := by decide +kernel
theorem dX3_dropOf_80 : decode cX3_dropOf 80 = .ok (.aload_n 0, 1) := dk_42 (dk_at dksX3_dropOf_4 0 rfl rfl)
theorem dX3_dropOf_81 : decode cX3_dropOf 81 = .ok (.getfield 7, 3) := dk_180 0 7 (dk_at dksX3_dropOf_4 1 rfl rfl)
theorem dX3_dropOf_84 : decode cX3_dropOf 84 = .ok (.iload 4, 2) := dk_21 4 (dk_at dksX3_dropOf_4 4 rfl rfl)
theorem dX3_dropOf_86 : decode cX3_dropOf 86 = .ok (.iaload, 1) := dk_46 (dk_at dksX3_dropOf_4 6 rfl rfl)
theorem dX3_dropOf_87 : decode cX3_dropOf 87 = .ok (.ireturn, 1) := dk_172 (dk_at dksX3_dropOf_4 7 rfl rfl)
theorem dX3_dropOf_88 : decode cX3_dropOf 88 = .ok (.aload_n 0, 1) := dk_42 (dk_at dksX3_dropOf_4 8 rfl rfl)
theorem dX3_dropOf_89 : decode cX3_dropOf 89 = .ok (.getfield 7, 3) := dk_180 0 7 (dk_at dksX3_dropOf_4 9 rfl rfl)
theorem dX3_dropOf_92 : decode cX3_dropOf 92 = .ok (.iload 4, 2) := dk_21 4 (dk_at dksX3_dropOf_4 12 rfl rfl)
theorem dX3_dropOf_94 : decode cX3_dropOf 94 = .ok (.iconst 1, 1) := dk_4 (dk_at dksX3_dropOf_4 14 rfl rfl)
theorem dX3_dropOf_95 : decode cX3_dropOf 95 = .ok (.iadd, 1) := dk_96 (dk_at dksX3_dropOf_4 15 rfl rfl)
theorem dX3_dropOf_96 : decode cX3_dropOf 96 = .ok (.iaload, 1) := dk_46 (dk_at dksX3_dropOf_4 16 rfl rfl)
theorem dX3_dropOf_97 : decode cX3_dropOf 97 = .ok (.ireturn, 1) := dk_172 (dk_at dksX3_dropOf_4 17 rfl rfl)
theorem dX3_dropOf_98 : decode cX3_dropOf 98 = .ok (.aload_n 0, 1) := dk_42 (dk_at dksX3_dropOf_4 18 rfl rfl)
theorem dX3_dropOf_99 : decode cX3_dropOf 99 = .ok (.aload_n 0, 1) := dk_42 (dk_at dksX3_dropOf_4 19 rfl rfl)
theorem dX3_dropOf_100 : decode cX3_dropOf 100 = .ok (.getfield 7, 3) := dk_180 0 7 (dk_at dksX3_dropOf_4 20 rfl rfl)
theorem dX3_dropOf_103 : decode cX3_dropOf 103 = .ok (.iload 4, 2) := dk_21 4 (dk_at dksX3_dropOf_5 0 rfl rfl)
theorem dX3_dropOf_105 : decode cX3_dropOf 105 = .ok (.iaload, 1) := dk_46 (dk_at dksX3_dropOf_5 2 rfl rfl)
theorem dX3_dropOf_106 : decode cX3_dropOf 106 = .ok (.iconst 3, 1) := dk_6 (dk_at dksX3_dropOf_5 3 rfl rfl)
theorem dX3_dropOf_107 : decode cX3_dropOf 107 = .ok (.invokevirtual 70, 3) := dk_182 0 70 (dk_at dksX3_dropOf_5 4 rfl rfl)
theorem dX3_dropOf_110 : decode cX3_dropOf 110 = .ok (.ireturn, 1) := dk_172 (dk_at dksX3_dropOf_5 7 rfl rfl)
theorem dX3_dropOf_111 : decode cX3_dropOf 111 = .ok (.aload_n 0, 1) := dk_42 (dk_at dksX3_dropOf_5 8 rfl rfl)
theorem dX3_dropOf_112 : decode cX3_dropOf 112 = .ok (.getfield 7, 3) := dk_180 0 7 (dk_at dksX3_dropOf_5 9 rfl rfl)
theorem dX3_dropOf_115 : decode cX3_dropOf 115 = .ok (.iload 4, 2) := dk_21 4 (dk_at dksX3_dropOf_5 12 rfl rfl)
theorem dX3_dropOf_117 : decode cX3_dropOf 117 = .ok (.iconst 2, 1) := dk_5 (dk_at dksX3_dropOf_5 14 rfl rfl)
theorem dX3_dropOf_118 : decode cX3_dropOf 118 = .ok (.iadd, 1) := dk_96 (dk_at dksX3_dropOf_5 15 rfl rfl)
theorem dX3_dropOf_119 : decode cX3_dropOf 119 = .ok (.iaload, 1) := dk_46 (dk_at dksX3_dropOf_5 16 rfl rfl)
theorem dX3_dropOf_120 : decode cX3_dropOf 120 = .ok (.ireturn, 1) := dk_172 (dk_at dksX3_dropOf_5 17 rfl rfl)
theorem dX3_dropOf_121 : decode cX3_dropOf 121 = .ok (.aload_n 0, 1) := dk_42 (dk_at dksX3_dropOf_5 18 rfl rfl)
theorem dX3_dropOf_122 : decode cX3_dropOf 122 = .ok (.iconst 3, 1) := dk_6 (dk_at dksX3_dropOf_5 19 rfl rfl)
theorem dX3_dropOf_123 : decode cX3_dropOf 123 = .ok (.invokevirtual 63, 3) := dk_182 0 63 (dk_at dksX3_dropOf_5 20 rfl rfl)
theorem dX3_dropOf_126 : decode cX3_dropOf 126 = .ok (.ireturn, 1) := dk_172 (dk_at dksX3_dropOf_5 23 rfl rfl)
abbrev cX3_hang : ByteArray := prog_19_method_52_code
def yX3_hang : MethodName := ⟨RX3, "hang", "(II)I"⟩
def dkwX3_hang_1 : List UInt8 := [153, 0, 17, 42, 42, 27, 28, 182, 0, 119, 5, 182, 0, 132, 167, 0, 8, 42, 4, 182, 0, 63, 172]
abbrev dktX3_hang_1 : List UInt8 := dkwX3_hang_1 ++ []
def dkwX3_hang_0 : List UInt8 := [42, 3, 181, 0, 38, 42, 182, 0, 125, 42, 27, 182, 0, 167, 153, 0, 25, 42, 28, 182, 0, 155]
abbrev dktX3_hang_0 : List UInt8 := dkwX3_hang_0 ++ dktX3_hang_1
theorem dksX3_hang_0 : cX3_hang.data.toList.drop 0 = dktX3_hang_0 := by decide +kernel
theorem dksX3_hang_1 : cX3_hang.data.toList.drop 22 = dktX3_hang_1 := dk_seg dksX3_hang_0 22 rfl rfl
theorem dX3_hang_0 : decode cX3_hang 0 = .ok (.aload_n 0, 1) := dk_42 (dk_at dksX3_hang_0 0 rfl rfl)
theorem dX3_hang_1 : decode cX3_hang 1 = .ok (.iconst 0, 1) := dk_3 (dk_at dksX3_hang_0 1 rfl rfl)
theorem dX3_hang_2 : decode cX3_hang 2 = .ok (.putfield 38, 3) := dk_181 0 38 (dk_at dksX3_hang_0 2 rfl rfl)
theorem dX3_hang_5 : decode cX3_hang 5 = .ok (.aload_n 0, 1) := dk_42 (dk_at dksX3_hang_0 5 rfl rfl)
theorem dX3_hang_6 : decode cX3_hang 6 = .ok (.invokevirtual 125, 3) := dk_182 0 125 (dk_at dksX3_hang_0 6 rfl rfl)
theorem dX3_hang_9 : decode cX3_hang 9 = .ok (.aload_n 0, 1) := dk_42 (dk_at dksX3_hang_0 9 rfl rfl)
theorem dX3_hang_10 : decode cX3_hang 10 = .ok (.iload_n 1, 1) := dk_27 (dk_at dksX3_hang_0 10 rfl rfl)
theorem dX3_hang_11 : decode cX3_hang 11 = .ok (.invokevirtual 167, 3) := dk_182 0 167 (dk_at dksX3_hang_0 11 rfl rfl)
theorem dX3_hang_14 : decode cX3_hang 14 = .ok (.ifCond .eq 25, 3) := dk_153 0 25 (dk_at dksX3_hang_0 14 rfl rfl)
theorem dX3_hang_17 : decode cX3_hang 17 = .ok (.aload_n 0, 1) := dk_42 (dk_at dksX3_hang_0 17 rfl rfl)
theorem dX3_hang_18 : decode cX3_hang 18 = .ok (.iload_n 2, 1) := dk_28 (dk_at dksX3_hang_0 18 rfl rfl)
theorem dX3_hang_19 : decode cX3_hang 19 = .ok (.invokevirtual 155, 3) := dk_182 0 155 (dk_at dksX3_hang_0 19 rfl rfl)
theorem dX3_hang_22 : decode cX3_hang 22 = .ok (.ifCond .eq 17, 3) := dk_153 0 17 (dk_at dksX3_hang_1 0 rfl rfl)
theorem dX3_hang_25 : decode cX3_hang 25 = .ok (.aload_n 0, 1) := dk_42 (dk_at dksX3_hang_1 3 rfl rfl)
theorem dX3_hang_26 : decode cX3_hang 26 = .ok (.aload_n 0, 1) := dk_42 (dk_at dksX3_hang_1 4 rfl rfl)
theorem dX3_hang_27 : decode cX3_hang 27 = .ok (.iload_n 1, 1) := dk_27 (dk_at dksX3_hang_1 5 rfl rfl)
theorem dX3_hang_28 : decode cX3_hang 28 = .ok (.iload_n 2, 1) := dk_28 (dk_at dksX3_hang_1 6 rfl rfl)
theorem dX3_hang_29 : decode cX3_hang 29 = .ok (.invokevirtual 119, 3) := dk_182 0 119 (dk_at dksX3_hang_1 7 rfl rfl)
theorem dX3_hang_32 : decode cX3_hang 32 = .ok (.iconst 2, 1) := dk_5 (dk_at dksX3_hang_1 10 rfl rfl)
theorem dX3_hang_33 : decode cX3_hang 33 = .ok (.invokevirtual 132, 3) := dk_182 0 132 (dk_at dksX3_hang_1 11 rfl rfl)
theorem dX3_hang_36 : decode cX3_hang 36 = .ok (.goto 8, 3) := dk_167 0 8 (dk_at dksX3_hang_1 14 rfl rfl)
theorem dX3_hang_39 : decode cX3_hang 39 = .ok (.aload_n 0, 1) := dk_42 (dk_at dksX3_hang_1 17 rfl rfl)
theorem dX3_hang_40 : decode cX3_hang 40 = .ok (.iconst 1, 1) := dk_4 (dk_at dksX3_hang_1 18 rfl rfl)
theorem dX3_hang_41 : decode cX3_hang 41 = .ok (.invokevirtual 63, 3) := dk_182 0 63 (dk_at dksX3_hang_1 19 rfl rfl)
theorem dX3_hang_44 : decode cX3_hang 44 = .ok (.ireturn, 1) := dk_172 (dk_at dksX3_hang_1 22 rfl rfl)
abbrev cX3_hangs : ByteArray := prog_19_method_27_code
def yX3_hangs : MethodName := ⟨RX3, "hangs", "(II)I"⟩
def dkwX3_hangs_6 : List UInt8 := [79, 42, 180, 0, 7, 8, 92, 46, 21, 4, 96, 79, 42, 21, 4, 182, 0, 113, 172]
abbrev dktX3_hangs_6 : List UInt8 := dkwX3_hangs_6 ++ []
def dkwX3_hangs_5 : List UInt8 := [96, 92, 46, 4, 96, 79, 42, 180, 0, 7, 17, 0, 223, 8, 27, 104, 96, 6, 96, 92, 46, 21, 4, 96]
abbrev dktX3_hangs_5 : List UInt8 := dkwX3_hangs_5 ++ dktX3_hangs_6
def dkwX3_hangs_4 : List UInt8 := [46, 21, 4, 42, 27, 3, 182, 0, 80, 96, 96, 79, 42, 180, 0, 7, 17, 0, 223, 8, 27, 104, 96, 5]
abbrev dktX3_hangs_4 : List UInt8 := dkwX3_hangs_4 ++ dktX3_hangs_5
def dkwX3_hangs_3 : List UInt8 := [180, 0, 7, 21, 5, 5, 96, 21, 4, 79, 42, 180, 0, 7, 16, 79, 16, 6, 28, 104, 96, 7, 96, 92]
abbrev dktX3_hangs_3 : List UInt8 := dkwX3_hangs_3 ++ dktX3_hangs_4
def dkwX3_hangs_2 : List UInt8 := [96, 42, 28, 7, 182, 0, 70, 21, 4, 96, 42, 42, 28, 3, 182, 0, 70, 3, 182, 0, 89, 112, 79, 42]
abbrev dktX3_hangs_2 : List UInt8 := dkwX3_hangs_2 ++ dktX3_hangs_3
def dkwX3_hangs_1 : List UInt8 := [5, 182, 0, 80, 184, 0, 77, 54, 5, 42, 180, 0, 7, 21, 5, 28, 79, 42, 180, 0, 7, 21, 5, 4]
abbrev dktX3_hangs_1 : List UInt8 := dkwX3_hangs_1 ++ dktX3_hangs_2
def dkwX3_hangs_0 : List UInt8 := [42, 27, 28, 182, 0, 110, 62, 29, 158, 0, 5, 29, 172, 42, 27, 28, 182, 0, 104, 54, 4, 27, 42, 27]
abbrev dktX3_hangs_0 : List UInt8 := dkwX3_hangs_0 ++ dktX3_hangs_1
theorem dksX3_hangs_0 : cX3_hangs.data.toList.drop 0 = dktX3_hangs_0 := by decide +kernel
theorem dksX3_hangs_1 : cX3_hangs.data.toList.drop 24 = dktX3_hangs_1 := dk_seg dksX3_hangs_0 24 rfl rfl
theorem dksX3_hangs_2 : cX3_hangs.data.toList.drop 48 = dktX3_hangs_2 := dk_seg dksX3_hangs_1 24 rfl rfl
theorem dksX3_hangs_3 : cX3_hangs.data.toList.drop 72 = dktX3_hangs_3 := dk_seg dksX3_hangs_2 24 rfl rfl
theorem dksX3_hangs_4 : cX3_hangs.data.toList.drop 96 = dktX3_hangs_4 := dk_seg dksX3_hangs_3 24 rfl rfl
theorem dksX3_hangs_5 : cX3_hangs.data.toList.drop 120 = dktX3_hangs_5 := dk_seg dksX3_hangs_4 24 rfl rfl
theorem dksX3_hangs_6 : cX3_hangs.data.toList.drop 144 = dktX3_hangs_6 := dk_seg dksX3_hangs_5 24 rfl rfl
theorem dX3_hangs_0 : decode cX3_hangs 0 = .ok (.aload_n 0, 1) := dk_42 (dk_at dksX3_hangs_0 0 rfl rfl)
theorem dX3_hangs_1 : decode cX3_hangs 1 = .ok (.iload_n 1, 1) := dk_27 (dk_at dksX3_hangs_0 1 rfl rfl)
theorem dX3_hangs_2 : decode cX3_hangs 2 = .ok (.iload_n 2, 1) := dk_28 (dk_at dksX3_hangs_0 2 rfl rfl)
theorem dX3_hangs_3 : decode cX3_hangs 3 = .ok (.invokevirtual 110, 3) := dk_182 0 110 (dk_at dksX3_hangs_0 3 rfl rfl)
theorem dX3_hangs_6 : decode cX3_hangs 6 = .ok (.istore_n 3, 1) := dk_62 (dk_at dksX3_hangs_0 6 rfl rfl)
theorem dX3_hangs_7 : decode cX3_hangs 7 = .ok (.iload_n 3, 1) := dk_29 (dk_at dksX3_hangs_0 7 rfl rfl)
theorem dX3_hangs_8 : decode cX3_hangs 8 = .ok (.ifCond .le 5, 3) := dk_158 0 5 (dk_at dksX3_hangs_0 8 rfl rfl)
theorem dX3_hangs_11 : decode cX3_hangs 11 = .ok (.iload_n 3, 1) := dk_29 (dk_at dksX3_hangs_0 11 rfl rfl)
theorem dX3_hangs_12 : decode cX3_hangs 12 = .ok (.ireturn, 1) := dk_172 (dk_at dksX3_hangs_0 12 rfl rfl)
theorem dX3_hangs_13 : decode cX3_hangs 13 = .ok (.aload_n 0, 1) := dk_42 (dk_at dksX3_hangs_0 13 rfl rfl)
theorem dX3_hangs_14 : decode cX3_hangs 14 = .ok (.iload_n 1, 1) := dk_27 (dk_at dksX3_hangs_0 14 rfl rfl)
theorem dX3_hangs_15 : decode cX3_hangs 15 = .ok (.iload_n 2, 1) := dk_28 (dk_at dksX3_hangs_0 15 rfl rfl)
theorem dX3_hangs_16 : decode cX3_hangs 16 = .ok (.invokevirtual 104, 3) := dk_182 0 104 (dk_at dksX3_hangs_0 16 rfl rfl)
theorem dX3_hangs_19 : decode cX3_hangs 19 = .ok (.istore 4, 2) := dk_54 4 (dk_at dksX3_hangs_0 19 rfl rfl)
theorem dX3_hangs_21 : decode cX3_hangs 21 = .ok (.iload_n 1, 1) := dk_27 (dk_at dksX3_hangs_0 21 rfl rfl)
theorem dX3_hangs_22 : decode cX3_hangs 22 = .ok (.aload_n 0, 1) := dk_42 (dk_at dksX3_hangs_0 22 rfl rfl)
theorem dX3_hangs_23 : decode cX3_hangs 23 = .ok (.iload_n 1, 1) := dk_27 (dk_at dksX3_hangs_0 23 rfl rfl)
theorem dX3_hangs_24 : decode cX3_hangs 24 = .ok (.iconst 2, 1) := dk_5 (dk_at dksX3_hangs_1 0 rfl rfl)
theorem dX3_hangs_25 : decode cX3_hangs 25 = .ok (.invokevirtual 80, 3) := dk_182 0 80 (dk_at dksX3_hangs_1 1 rfl rfl)
theorem dX3_hangs_28 : decode cX3_hangs 28 = .ok (.invokestatic 77, 3) := dk_184 0 77 (dk_at dksX3_hangs_1 4 rfl rfl)
theorem dX3_hangs_31 : decode cX3_hangs 31 = .ok (.istore 5, 2) := dk_54 5 (dk_at dksX3_hangs_1 7 rfl rfl)
theorem dX3_hangs_33 : decode cX3_hangs 33 = .ok (.aload_n 0, 1) := dk_42 (dk_at dksX3_hangs_1 9 rfl rfl)
theorem dX3_hangs_34 : decode cX3_hangs 34 = .ok (.getfield 7, 3) := dk_180 0 7 (dk_at dksX3_hangs_1 10 rfl rfl)
theorem dX3_hangs_37 : decode cX3_hangs 37 = .ok (.iload 5, 2) := dk_21 5 (dk_at dksX3_hangs_1 13 rfl rfl)
theorem dX3_hangs_39 : decode cX3_hangs 39 = .ok (.iload_n 2, 1) := dk_28 (dk_at dksX3_hangs_1 15 rfl rfl)
theorem dX3_hangs_40 : decode cX3_hangs 40 = .ok (.iastore, 1) := dk_79 (dk_at dksX3_hangs_1 16 rfl rfl)
theorem dX3_hangs_41 : decode cX3_hangs 41 = .ok (.aload_n 0, 1) := dk_42 (dk_at dksX3_hangs_1 17 rfl rfl)
theorem dX3_hangs_42 : decode cX3_hangs 42 = .ok (.getfield 7, 3) := dk_180 0 7 (dk_at dksX3_hangs_1 18 rfl rfl)
theorem dX3_hangs_45 : decode cX3_hangs 45 = .ok (.iload 5, 2) := dk_21 5 (dk_at dksX3_hangs_1 21 rfl rfl)
theorem dX3_hangs_47 : decode cX3_hangs 47 = .ok (.iconst 1, 1) := dk_4 (dk_at dksX3_hangs_1 23 rfl rfl)
theorem dX3_hangs_48 : decode cX3_hangs 48 = .ok (.iadd, 1) := dk_96 (dk_at dksX3_hangs_2 0 rfl rfl)
theorem dX3_hangs_49 : decode cX3_hangs 49 = .ok (.aload_n 0, 1) := dk_42 (dk_at dksX3_hangs_2 1 rfl rfl)
theorem dX3_hangs_50 : decode cX3_hangs 50 = .ok (.iload_n 2, 1) := dk_28 (dk_at dksX3_hangs_2 2 rfl rfl)
theorem dX3_hangs_51 : decode cX3_hangs 51 = .ok (.iconst 4, 1) := dk_7 (dk_at dksX3_hangs_2 3 rfl rfl)
theorem dX3_hangs_52 : decode cX3_hangs 52 = .ok (.invokevirtual 70, 3) := dk_182 0 70 (dk_at dksX3_hangs_2 4 rfl rfl)
theorem dX3_hangs_55 : decode cX3_hangs 55 = .ok (.iload 4, 2) := dk_21 4 (dk_at dksX3_hangs_2 7 rfl rfl)
theorem dX3_hangs_57 : decode cX3_hangs 57 = .ok (.iadd, 1) := dk_96 (dk_at dksX3_hangs_2 9 rfl rfl)
theorem dX3_hangs_58 : decode cX3_hangs 58 = .ok (.aload_n 0, 1) := dk_42 (dk_at dksX3_hangs_2 10 rfl rfl)
theorem dX3_hangs_59 : decode cX3_hangs 59 = .ok (.aload_n 0, 1) := dk_42 (dk_at dksX3_hangs_2 11 rfl rfl)
theorem dX3_hangs_60 : decode cX3_hangs 60 = .ok (.iload_n 2, 1) := dk_28 (dk_at dksX3_hangs_2 12 rfl rfl)
theorem dX3_hangs_61 : decode cX3_hangs 61 = .ok (.iconst 0, 1) := dk_3 (dk_at dksX3_hangs_2 13 rfl rfl)
theorem dX3_hangs_62 : decode cX3_hangs 62 = .ok (.invokevirtual 70, 3) := dk_182 0 70 (dk_at dksX3_hangs_2 14 rfl rfl)
theorem dX3_hangs_65 : decode cX3_hangs 65 = .ok (.iconst 0, 1) := dk_3 (dk_at dksX3_hangs_2 17 rfl rfl)
theorem dX3_hangs_66 : decode cX3_hangs 66 = .ok (.invokevirtual 89, 3) := dk_182 0 89 (dk_at dksX3_hangs_2 18 rfl rfl)
theorem dX3_hangs_69 : decode cX3_hangs 69 = .ok (.irem, 1) := dk_112 (dk_at dksX3_hangs_2 21 rfl rfl)
theorem dX3_hangs_70 : decode cX3_hangs 70 = .ok (.iastore, 1) := dk_79 (dk_at dksX3_hangs_2 22 rfl rfl)
theorem dX3_hangs_71 : decode cX3_hangs 71 = .ok (.aload_n 0, 1) := dk_42 (dk_at dksX3_hangs_2 23 rfl rfl)
theorem dX3_hangs_72 : decode cX3_hangs 72 = .ok (.getfield 7, 3) := dk_180 0 7 (dk_at dksX3_hangs_3 0 rfl rfl)
theorem dX3_hangs_75 : decode cX3_hangs 75 = .ok (.iload 5, 2) := dk_21 5 (dk_at dksX3_hangs_3 3 rfl rfl)
theorem dX3_hangs_77 : decode cX3_hangs 77 = .ok (.iconst 2, 1) := dk_5 (dk_at dksX3_hangs_3 5 rfl rfl)
theorem dX3_hangs_78 : decode cX3_hangs 78 = .ok (.iadd, 1) := dk_96 (dk_at dksX3_hangs_3 6 rfl rfl)
theorem dX3_hangs_79 : decode cX3_hangs 79 = .ok (.iload 4, 2) := dk_21 4 (dk_at dksX3_hangs_3 7 rfl rfl)
theorem dX3_hangs_81 : decode cX3_hangs 81 = .ok (.iastore, 1) := dk_79 (dk_at dksX3_hangs_3 9 rfl rfl)
theorem dX3_hangs_82 : decode cX3_hangs 82 = .ok (.aload_n 0, 1) := dk_42 (dk_at dksX3_hangs_3 10 rfl rfl)
theorem dX3_hangs_83 : decode cX3_hangs 83 = .ok (.getfield 7, 3) := dk_180 0 7 (dk_at dksX3_hangs_3 11 rfl rfl)
theorem dX3_hangs_86 : decode cX3_hangs 86 = .ok (.bipush 79, 2) := dk_16 79 (dk_at dksX3_hangs_3 14 rfl rfl)
theorem dX3_hangs_88 : decode cX3_hangs 88 = .ok (.bipush 6, 2) := dk_16 6 (dk_at dksX3_hangs_3 16 rfl rfl)
theorem dX3_hangs_90 : decode cX3_hangs 90 = .ok (.iload_n 2, 1) := dk_28 (dk_at dksX3_hangs_3 18 rfl rfl)
theorem dX3_hangs_91 : decode cX3_hangs 91 = .ok (.imul, 1) := dk_104 (dk_at dksX3_hangs_3 19 rfl rfl)
theorem dX3_hangs_92 : decode cX3_hangs 92 = .ok (.iadd, 1) := dk_96 (dk_at dksX3_hangs_3 20 rfl rfl)
theorem dX3_hangs_93 : decode cX3_hangs 93 = .ok (.iconst 4, 1) := dk_7 (dk_at dksX3_hangs_3 21 rfl rfl)
theorem dX3_hangs_94 : decode cX3_hangs 94 = .ok (.iadd, 1) := dk_96 (dk_at dksX3_hangs_3 22 rfl rfl)
theorem dX3_hangs_95 : decode cX3_hangs 95 = .ok (.dup2, 1) := dk_92 (dk_at dksX3_hangs_3 23 rfl rfl)
theorem dX3_hangs_96 : decode cX3_hangs 96 = .ok (.iaload, 1) := dk_46 (dk_at dksX3_hangs_4 0 rfl rfl)
theorem dX3_hangs_97 : decode cX3_hangs 97 = .ok (.iload 4, 2) := dk_21 4 (dk_at dksX3_hangs_4 1 rfl rfl)
theorem dX3_hangs_99 : decode cX3_hangs 99 = .ok (.aload_n 0, 1) := dk_42 (dk_at dksX3_hangs_4 3 rfl rfl)
theorem dX3_hangs_100 : decode cX3_hangs 100 = .ok (.iload_n 1, 1) := dk_27 (dk_at dksX3_hangs_4 4 rfl rfl)
theorem dX3_hangs_101 : decode cX3_hangs 101 = .ok (.iconst 0, 1) := dk_3 (dk_at dksX3_hangs_4 5 rfl rfl)
theorem dX3_hangs_102 : decode cX3_hangs 102 = .ok (.invokevirtual 80, 3) := dk_182 0 80 (dk_at dksX3_hangs_4 6 rfl rfl)
theorem dX3_hangs_105 : decode cX3_hangs 105 = .ok (.iadd, 1) := dk_96 (dk_at dksX3_hangs_4 9 rfl rfl)
theorem dX3_hangs_106 : decode cX3_hangs 106 = .ok (.iadd, 1) := dk_96 (dk_at dksX3_hangs_4 10 rfl rfl)
theorem dX3_hangs_107 : decode cX3_hangs 107 = .ok (.iastore, 1) := dk_79 (dk_at dksX3_hangs_4 11 rfl rfl)
theorem dX3_hangs_108 : decode cX3_hangs 108 = .ok (.aload_n 0, 1) := dk_42 (dk_at dksX3_hangs_4 12 rfl rfl)
theorem dX3_hangs_109 : decode cX3_hangs 109 = .ok (.getfield 7, 3) := dk_180 0 7 (dk_at dksX3_hangs_4 13 rfl rfl)
theorem dX3_hangs_112 : decode cX3_hangs 112 = .ok (.sipush 223, 3) := dk_17 0 223 (dk_at dksX3_hangs_4 16 rfl rfl)
theorem dX3_hangs_115 : decode cX3_hangs 115 = .ok (.iconst 5, 1) := dk_8 (dk_at dksX3_hangs_4 19 rfl rfl)
theorem dX3_hangs_116 : decode cX3_hangs 116 = .ok (.iload_n 1, 1) := dk_27 (dk_at dksX3_hangs_4 20 rfl rfl)
theorem dX3_hangs_117 : decode cX3_hangs 117 = .ok (.imul, 1) := dk_104 (dk_at dksX3_hangs_4 21 rfl rfl)
theorem dX3_hangs_118 : decode cX3_hangs 118 = .ok (.iadd, 1) := dk_96 (dk_at dksX3_hangs_4 22 rfl rfl)
theorem dX3_hangs_119 : decode cX3_hangs 119 = .ok (.iconst 2, 1) := dk_5 (dk_at dksX3_hangs_4 23 rfl rfl)
theorem dX3_hangs_120 : decode cX3_hangs 120 = .ok (.iadd, 1) := dk_96 (dk_at dksX3_hangs_5 0 rfl rfl)
theorem dX3_hangs_121 : decode cX3_hangs 121 = .ok (.dup2, 1) := dk_92 (dk_at dksX3_hangs_5 1 rfl rfl)
theorem dX3_hangs_122 : decode cX3_hangs 122 = .ok (.iaload, 1) := dk_46 (dk_at dksX3_hangs_5 2 rfl rfl)
theorem dX3_hangs_123 : decode cX3_hangs 123 = .ok (.iconst 1, 1) := dk_4 (dk_at dksX3_hangs_5 3 rfl rfl)
theorem dX3_hangs_124 : decode cX3_hangs 124 = .ok (.iadd, 1) := dk_96 (dk_at dksX3_hangs_5 4 rfl rfl)
theorem dX3_hangs_125 : decode cX3_hangs 125 = .ok (.iastore, 1) := dk_79 (dk_at dksX3_hangs_5 5 rfl rfl)
theorem dX3_hangs_126 : decode cX3_hangs 126 = .ok (.aload_n 0, 1) := dk_42 (dk_at dksX3_hangs_5 6 rfl rfl)
theorem dX3_hangs_127 : decode cX3_hangs 127 = .ok (.getfield 7, 3) := dk_180 0 7 (dk_at dksX3_hangs_5 7 rfl rfl)
theorem dX3_hangs_130 : decode cX3_hangs 130 = .ok (.sipush 223, 3) := dk_17 0 223 (dk_at dksX3_hangs_5 10 rfl rfl)
theorem dX3_hangs_133 : decode cX3_hangs 133 = .ok (.iconst 5, 1) := dk_8 (dk_at dksX3_hangs_5 13 rfl rfl)
theorem dX3_hangs_134 : decode cX3_hangs 134 = .ok (.iload_n 1, 1) := dk_27 (dk_at dksX3_hangs_5 14 rfl rfl)
theorem dX3_hangs_135 : decode cX3_hangs 135 = .ok (.imul, 1) := dk_104 (dk_at dksX3_hangs_5 15 rfl rfl)
theorem dX3_hangs_136 : decode cX3_hangs 136 = .ok (.iadd, 1) := dk_96 (dk_at dksX3_hangs_5 16 rfl rfl)
theorem dX3_hangs_137 : decode cX3_hangs 137 = .ok (.iconst 3, 1) := dk_6 (dk_at dksX3_hangs_5 17 rfl rfl)
theorem dX3_hangs_138 : decode cX3_hangs 138 = .ok (.iadd, 1) := dk_96 (dk_at dksX3_hangs_5 18 rfl rfl)
theorem dX3_hangs_139 : decode cX3_hangs 139 = .ok (.dup2, 1) := dk_92 (dk_at dksX3_hangs_5 19 rfl rfl)
theorem dX3_hangs_140 : decode cX3_hangs 140 = .ok (.iaload, 1) := dk_46 (dk_at dksX3_hangs_5 20 rfl rfl)
theorem dX3_hangs_141 : decode cX3_hangs 141 = .ok (.iload 4, 2) := dk_21 4 (dk_at dksX3_hangs_5 21 rfl rfl)
theorem dX3_hangs_143 : decode cX3_hangs 143 = .ok (.iadd, 1) := dk_96 (dk_at dksX3_hangs_5 23 rfl rfl)
theorem dX3_hangs_144 : decode cX3_hangs 144 = .ok (.iastore, 1) := dk_79 (dk_at dksX3_hangs_6 0 rfl rfl)
theorem dX3_hangs_145 : decode cX3_hangs 145 = .ok (.aload_n 0, 1) := dk_42 (dk_at dksX3_hangs_6 1 rfl rfl)
theorem dX3_hangs_146 : decode cX3_hangs 146 = .ok (.getfield 7, 3) := dk_180 0 7 (dk_at dksX3_hangs_6 2 rfl rfl)
theorem dX3_hangs_149 : decode cX3_hangs 149 = .ok (.iconst 5, 1) := dk_8 (dk_at dksX3_hangs_6 5 rfl rfl)
theorem dX3_hangs_150 : decode cX3_hangs 150 = .ok (.dup2, 1) := dk_92 (dk_at dksX3_hangs_6 6 rfl rfl)
theorem dX3_hangs_151 : decode cX3_hangs 151 = .ok (.iaload, 1) := dk_46 (dk_at dksX3_hangs_6 7 rfl rfl)
theorem dX3_hangs_152 : decode cX3_hangs 152 = .ok (.iload 4, 2) := dk_21 4 (dk_at dksX3_hangs_6 8 rfl rfl)
theorem dX3_hangs_154 : decode cX3_hangs 154 = .ok (.iadd, 1) := dk_96 (dk_at dksX3_hangs_6 10 rfl rfl)
theorem dX3_hangs_155 : decode cX3_hangs 155 = .ok (.iastore, 1) := dk_79 (dk_at dksX3_hangs_6 11 rfl rfl)
theorem dX3_hangs_156 : decode cX3_hangs 156 = .ok (.aload_n 0, 1) := dk_42 (dk_at dksX3_hangs_6 12 rfl rfl)
theorem dX3_hangs_157 : decode cX3_hangs 157 = .ok (.iload 4, 2) := dk_21 4 (dk_at dksX3_hangs_6 13 rfl rfl)
theorem dX3_hangs_159 : decode cX3_hangs 159 = .ok (.invokevirtual 113, 3) := dk_182 0 113 (dk_at dksX3_hangs_6 15 rfl rfl)
theorem dX3_hangs_162 : decode cX3_hangs 162 = .ok (.ireturn, 1) := dk_172 (dk_at dksX3_hangs_6 18 rfl rfl)
abbrev cX3_reasonFor : ByteArray := prog_19_method_26_code
def yX3_reasonFor : MethodName := ⟨RX3, "reasonFor", "(II)I"⟩
def dkwX3_reasonFor_8 : List UInt8 := [54, 4, 21, 4, 158, 0, 14, 42, 16, 9, 21, 4, 182, 0, 95, 167, 0, 4, 3, 172]
abbrev dktX3_reasonFor_8 : List UInt8 := dkwX3_reasonFor_8 ++ []
def dkwX3_reasonFor_7 : List UInt8 := [182, 0, 95, 172, 42, 27, 28, 182, 0, 104, 42, 27, 3, 182, 0, 80, 96, 42, 28, 182, 0, 107, 100]
abbrev dktX3_reasonFor_7 : List UInt8 := dkwX3_reasonFor_7 ++ dktX3_reasonFor_8
def dkwX3_reasonFor_6 : List UInt8 := [164, 0, 27, 42, 16, 8, 42, 42, 21, 5, 6, 182, 0, 70, 42, 28, 6, 182, 0, 70, 182, 0, 101]
abbrev dktX3_reasonFor_6 : List UInt8 := dkwX3_reasonFor_6 ++ dktX3_reasonFor_7
def dkwX3_reasonFor_5 : List UInt8 := [184, 0, 77, 46, 54, 5, 42, 42, 21, 5, 6, 182, 0, 70, 42, 28, 6, 182, 0, 70, 182, 0, 101, 4]
abbrev dktX3_reasonFor_5 : List UInt8 := dkwX3_reasonFor_5 ++ dktX3_reasonFor_6
def dkwX3_reasonFor_4 : List UInt8 := [159, 0, 16, 42, 16, 7, 42, 21, 4, 182, 0, 98, 182, 0, 95, 172, 42, 180, 0, 7, 27, 29, 4, 100]
abbrev dktX3_reasonFor_4 : List UInt8 := dkwX3_reasonFor_4 ++ dktX3_reasonFor_5
def dkwX3_reasonFor_3 : List UInt8 := [42, 21, 4, 3, 182, 0, 70, 182, 0, 95, 172, 42, 21, 4, 182, 0, 98, 42, 28, 182, 0, 98]
abbrev dktX3_reasonFor_3 : List UInt8 := dkwX3_reasonFor_3 ++ dktX3_reasonFor_4
def dkwX3_reasonFor_2 : List UInt8 := [182, 0, 86, 54, 4, 42, 21, 4, 3, 182, 0, 70, 42, 28, 3, 182, 0, 70, 159, 0, 17, 42, 16, 6]
abbrev dktX3_reasonFor_2 : List UInt8 := dkwX3_reasonFor_2 ++ dktX3_reasonFor_3
def dkwX3_reasonFor_1 : List UInt8 := [42, 28, 8, 182, 0, 70, 4, 160, 0, 10, 42, 8, 28, 182, 0, 95, 172, 29, 158, 0, 126, 42, 27]
abbrev dktX3_reasonFor_1 : List UInt8 := dkwX3_reasonFor_1 ++ dktX3_reasonFor_2
def dkwX3_reasonFor_0 : List UInt8 := [42, 27, 5, 182, 0, 80, 62, 29, 42, 27, 4, 182, 0, 80, 160, 0, 10, 42, 7, 29, 182, 0, 95, 172]
abbrev dktX3_reasonFor_0 : List UInt8 := dkwX3_reasonFor_0 ++ dktX3_reasonFor_1
theorem dksX3_reasonFor_0 : cX3_reasonFor.data.toList.drop 0 = dktX3_reasonFor_0 := by decide +kernel
theorem dksX3_reasonFor_1 : cX3_reasonFor.data.toList.drop 24 = dktX3_reasonFor_1 := dk_seg dksX3_reasonFor_0 24 rfl rfl
theorem dksX3_reasonFor_2 : cX3_reasonFor.data.toList.drop 47 = dktX3_reasonFor_2 := dk_seg dksX3_reasonFor_1 23 rfl rfl
theorem dksX3_reasonFor_3 : cX3_reasonFor.data.toList.drop 71 = dktX3_reasonFor_3 := dk_seg dksX3_reasonFor_2 24 rfl rfl
theorem dksX3_reasonFor_4 : cX3_reasonFor.data.toList.drop 93 = dktX3_reasonFor_4 := dk_seg dksX3_reasonFor_3 22 rfl rfl
theorem dksX3_reasonFor_5 : cX3_reasonFor.data.toList.drop 117 = dktX3_reasonFor_5 := dk_seg dksX3_reasonFor_4 24 rfl rfl
theorem dksX3_reasonFor_6 : cX3_reasonFor.data.toList.drop 141 = dktX3_reasonFor_6 := dk_seg dksX3_reasonFor_5 24 rfl rfl
theorem dksX3_reasonFor_7 : cX3_reasonFor.data.toList.drop 164 = dktX3_reasonFor_7 := dk_seg dksX3_reasonFor_6 23 rfl rfl
theorem dksX3_reasonFor_8 : cX3_reasonFor.data.toList.drop 187 = dktX3_reasonFor_8 := dk_seg dksX3_reasonFor_7 23 rfl rfl
theorem dX3_reasonFor_0 : decode cX3_reasonFor 0 = .ok (.aload_n 0, 1) := dk_42 (dk_at dksX3_reasonFor_0 0 rfl rfl)
theorem dX3_reasonFor_1 : decode cX3_reasonFor 1 = .ok (.iload_n 1, 1) := dk_27 (dk_at dksX3_reasonFor_0 1 rfl rfl)
theorem dX3_reasonFor_2 : decode cX3_reasonFor 2 = .ok (.iconst 2, 1) := dk_5 (dk_at dksX3_reasonFor_0 2 rfl rfl)
theorem dX3_reasonFor_3 : decode cX3_reasonFor 3 = .ok (.invokevirtual 80, 3) := dk_182 0 80 (dk_at dksX3_reasonFor_0 3 rfl rfl)
theorem dX3_reasonFor_6 : decode cX3_reasonFor 6 = .ok (.istore_n 3, 1) := dk_62 (dk_at dksX3_reasonFor_0 6 rfl rfl)
theorem dX3_reasonFor_7 : decode cX3_reasonFor 7 = .ok (.iload_n 3, 1) := dk_29 (dk_at dksX3_reasonFor_0 7 rfl rfl)
theorem dX3_reasonFor_8 : decode cX3_reasonFor 8 = .ok (.aload_n 0, 1) := dk_42 (dk_at dksX3_reasonFor_0 8 rfl rfl)
theorem dX3_reasonFor_9 : decode cX3_reasonFor 9 = .ok (.iload_n 1, 1) := dk_27 (dk_at dksX3_reasonFor_0 9 rfl rfl)
theorem dX3_reasonFor_10 : decode cX3_reasonFor 10 = .ok (.iconst 1, 1) := dk_4 (dk_at dksX3_reasonFor_0 10 rfl rfl)
theorem dX3_reasonFor_11 : decode cX3_reasonFor 11 = .ok (.invokevirtual 80, 3) := dk_182 0 80 (dk_at dksX3_reasonFor_0 11 rfl rfl)
theorem dX3_reasonFor_14 : decode cX3_reasonFor 14 = .ok (.if_icmp .ne 10, 3) := dk_160 0 10 (dk_at dksX3_reasonFor_0 14 rfl rfl)
theorem dX3_reasonFor_17 : decode cX3_reasonFor 17 = .ok (.aload_n 0, 1) := dk_42 (dk_at dksX3_reasonFor_0 17 rfl rfl)
theorem dX3_reasonFor_18 : decode cX3_reasonFor 18 = .ok (.iconst 4, 1) := dk_7 (dk_at dksX3_reasonFor_0 18 rfl rfl)
theorem dX3_reasonFor_19 : decode cX3_reasonFor 19 = .ok (.iload_n 3, 1) := dk_29 (dk_at dksX3_reasonFor_0 19 rfl rfl)
theorem dX3_reasonFor_20 : decode cX3_reasonFor 20 = .ok (.invokevirtual 95, 3) := dk_182 0 95 (dk_at dksX3_reasonFor_0 20 rfl rfl)
theorem dX3_reasonFor_23 : decode cX3_reasonFor 23 = .ok (.ireturn, 1) := dk_172 (dk_at dksX3_reasonFor_0 23 rfl rfl)
theorem dX3_reasonFor_24 : decode cX3_reasonFor 24 = .ok (.aload_n 0, 1) := dk_42 (dk_at dksX3_reasonFor_1 0 rfl rfl)
theorem dX3_reasonFor_25 : decode cX3_reasonFor 25 = .ok (.iload_n 2, 1) := dk_28 (dk_at dksX3_reasonFor_1 1 rfl rfl)
theorem dX3_reasonFor_26 : decode cX3_reasonFor 26 = .ok (.iconst 5, 1) := dk_8 (dk_at dksX3_reasonFor_1 2 rfl rfl)
theorem dX3_reasonFor_27 : decode cX3_reasonFor 27 = .ok (.invokevirtual 70, 3) := dk_182 0 70 (dk_at dksX3_reasonFor_1 3 rfl rfl)
theorem dX3_reasonFor_30 : decode cX3_reasonFor 30 = .ok (.iconst 1, 1) := dk_4 (dk_at dksX3_reasonFor_1 6 rfl rfl)
theorem dX3_reasonFor_31 : decode cX3_reasonFor 31 = .ok (.if_icmp .ne 10, 3) := dk_160 0 10 (dk_at dksX3_reasonFor_1 7 rfl rfl)
theorem dX3_reasonFor_34 : decode cX3_reasonFor 34 = .ok (.aload_n 0, 1) := dk_42 (dk_at dksX3_reasonFor_1 10 rfl rfl)
theorem dX3_reasonFor_35 : decode cX3_reasonFor 35 = .ok (.iconst 5, 1) := dk_8 (dk_at dksX3_reasonFor_1 11 rfl rfl)
theorem dX3_reasonFor_36 : decode cX3_reasonFor 36 = .ok (.iload_n 2, 1) := dk_28 (dk_at dksX3_reasonFor_1 12 rfl rfl)
theorem dX3_reasonFor_37 : decode cX3_reasonFor 37 = .ok (.invokevirtual 95, 3) := dk_182 0 95 (dk_at dksX3_reasonFor_1 13 rfl rfl)
theorem dX3_reasonFor_40 : decode cX3_reasonFor 40 = .ok (.ireturn, 1) := dk_172 (dk_at dksX3_reasonFor_1 16 rfl rfl)
theorem dX3_reasonFor_41 : decode cX3_reasonFor 41 = .ok (.iload_n 3, 1) := dk_29 (dk_at dksX3_reasonFor_1 17 rfl rfl)
theorem dX3_reasonFor_42 : decode cX3_reasonFor 42 = .ok (.ifCond .le 126, 3) := dk_158 0 126 (dk_at dksX3_reasonFor_1 18 rfl rfl)
theorem dX3_reasonFor_45 : decode cX3_reasonFor 45 = .ok (.aload_n 0, 1) := dk_42 (dk_at dksX3_reasonFor_1 21 rfl rfl)
theorem dX3_reasonFor_46 : decode cX3_reasonFor 46 = .ok (.iload_n 1, 1) := dk_27 (dk_at dksX3_reasonFor_1 22 rfl rfl)
theorem dX3_reasonFor_47 : decode cX3_reasonFor 47 = .ok (.invokevirtual 86, 3) := dk_182 0 86 (dk_at dksX3_reasonFor_2 0 rfl rfl)
theorem dX3_reasonFor_50 : decode cX3_reasonFor 50 = .ok (.istore 4, 2) := dk_54 4 (dk_at dksX3_reasonFor_2 3 rfl rfl)
theorem dX3_reasonFor_52 : decode cX3_reasonFor 52 = .ok (.aload_n 0, 1) := dk_42 (dk_at dksX3_reasonFor_2 5 rfl rfl)
theorem dX3_reasonFor_53 : decode cX3_reasonFor 53 = .ok (.iload 4, 2) := dk_21 4 (dk_at dksX3_reasonFor_2 6 rfl rfl)
theorem dX3_reasonFor_55 : decode cX3_reasonFor 55 = .ok (.iconst 0, 1) := dk_3 (dk_at dksX3_reasonFor_2 8 rfl rfl)
theorem dX3_reasonFor_56 : decode cX3_reasonFor 56 = .ok (.invokevirtual 70, 3) := dk_182 0 70 (dk_at dksX3_reasonFor_2 9 rfl rfl)
theorem dX3_reasonFor_59 : decode cX3_reasonFor 59 = .ok (.aload_n 0, 1) := dk_42 (dk_at dksX3_reasonFor_2 12 rfl rfl)
theorem dX3_reasonFor_60 : decode cX3_reasonFor 60 = .ok (.iload_n 2, 1) := dk_28 (dk_at dksX3_reasonFor_2 13 rfl rfl)
theorem dX3_reasonFor_61 : decode cX3_reasonFor 61 = .ok (.iconst 0, 1) := dk_3 (dk_at dksX3_reasonFor_2 14 rfl rfl)
theorem dX3_reasonFor_62 : decode cX3_reasonFor 62 = .ok (.invokevirtual 70, 3) := dk_182 0 70 (dk_at dksX3_reasonFor_2 15 rfl rfl)
theorem dX3_reasonFor_65 : decode cX3_reasonFor 65 = .ok (.if_icmp .eq 17, 3) := dk_159 0 17 (dk_at dksX3_reasonFor_2 18 rfl rfl)
theorem dX3_reasonFor_68 : decode cX3_reasonFor 68 = .ok (.aload_n 0, 1) := dk_42 (dk_at dksX3_reasonFor_2 21 rfl rfl)
theorem dX3_reasonFor_69 : decode cX3_reasonFor 69 = .ok (.bipush 6, 2) := dk_16 6 (dk_at dksX3_reasonFor_2 22 rfl rfl)
theorem dX3_reasonFor_71 : decode cX3_reasonFor 71 = .ok (.aload_n 0, 1) := dk_42 (dk_at dksX3_reasonFor_3 0 rfl rfl)
theorem dX3_reasonFor_72 : decode cX3_reasonFor 72 = .ok (.iload 4, 2) := dk_21 4 (dk_at dksX3_reasonFor_3 1 rfl rfl)
theorem dX3_reasonFor_74 : decode cX3_reasonFor 74 = .ok (.iconst 0, 1) := dk_3 (dk_at dksX3_reasonFor_3 3 rfl rfl)
theorem dX3_reasonFor_75 : decode cX3_reasonFor 75 = .ok (.invokevirtual 70, 3) := dk_182 0 70 (dk_at dksX3_reasonFor_3 4 rfl rfl)
theorem dX3_reasonFor_78 : decode cX3_reasonFor 78 = .ok (.invokevirtual 95, 3) := dk_182 0 95 (dk_at dksX3_reasonFor_3 7 rfl rfl)
theorem dX3_reasonFor_81 : decode cX3_reasonFor 81 = .ok (.ireturn, 1) := dk_172 (dk_at dksX3_reasonFor_3 10 rfl rfl)
theorem dX3_reasonFor_82 : decode cX3_reasonFor 82 = .ok (.aload_n 0, 1) := dk_42 (dk_at dksX3_reasonFor_3 11 rfl rfl)
theorem dX3_reasonFor_83 : decode cX3_reasonFor 83 = .ok (.iload 4, 2) := dk_21 4 (dk_at dksX3_reasonFor_3 12 rfl rfl)
theorem dX3_reasonFor_85 : decode cX3_reasonFor 85 = .ok (.invokevirtual 98, 3) := dk_182 0 98 (dk_at dksX3_reasonFor_3 14 rfl rfl)
theorem dX3_reasonFor_88 : decode cX3_reasonFor 88 = .ok (.aload_n 0, 1) := dk_42 (dk_at dksX3_reasonFor_3 17 rfl rfl)
theorem dX3_reasonFor_89 : decode cX3_reasonFor 89 = .ok (.iload_n 2, 1) := dk_28 (dk_at dksX3_reasonFor_3 18 rfl rfl)
theorem dX3_reasonFor_90 : decode cX3_reasonFor 90 = .ok (.invokevirtual 98, 3) := dk_182 0 98 (dk_at dksX3_reasonFor_3 19 rfl rfl)
theorem dX3_reasonFor_93 : decode cX3_reasonFor 93 = .ok (.if_icmp .eq 16, 3) := dk_159 0 16 (dk_at dksX3_reasonFor_4 0 rfl rfl)
theorem dX3_reasonFor_96 : decode cX3_reasonFor 96 = .ok (.aload_n 0, 1) := dk_42 (dk_at dksX3_reasonFor_4 3 rfl rfl)
theorem dX3_reasonFor_97 : decode cX3_reasonFor 97 = .ok (.bipush 7, 2) := dk_16 7 (dk_at dksX3_reasonFor_4 4 rfl rfl)
theorem dX3_reasonFor_99 : decode cX3_reasonFor 99 = .ok (.aload_n 0, 1) := dk_42 (dk_at dksX3_reasonFor_4 6 rfl rfl)
theorem dX3_reasonFor_100 : decode cX3_reasonFor 100 = .ok (.iload 4, 2) := dk_21 4 (dk_at dksX3_reasonFor_4 7 rfl rfl)
theorem dX3_reasonFor_102 : decode cX3_reasonFor 102 = .ok (.invokevirtual 98, 3) := dk_182 0 98 (dk_at dksX3_reasonFor_4 9 rfl rfl)
theorem dX3_reasonFor_105 : decode cX3_reasonFor 105 = .ok (.invokevirtual 95, 3) := dk_182 0 95 (dk_at dksX3_reasonFor_4 12 rfl rfl)
theorem dX3_reasonFor_108 : decode cX3_reasonFor 108 = .ok (.ireturn, 1) := dk_172 (dk_at dksX3_reasonFor_4 15 rfl rfl)
theorem dX3_reasonFor_109 : decode cX3_reasonFor 109 = .ok (.aload_n 0, 1) := dk_42 (dk_at dksX3_reasonFor_4 16 rfl rfl)
theorem dX3_reasonFor_110 : decode cX3_reasonFor 110 = .ok (.getfield 7, 3) := dk_180 0 7 (dk_at dksX3_reasonFor_4 17 rfl rfl)
theorem dX3_reasonFor_113 : decode cX3_reasonFor 113 = .ok (.iload_n 1, 1) := dk_27 (dk_at dksX3_reasonFor_4 20 rfl rfl)
theorem dX3_reasonFor_114 : decode cX3_reasonFor 114 = .ok (.iload_n 3, 1) := dk_29 (dk_at dksX3_reasonFor_4 21 rfl rfl)
theorem dX3_reasonFor_115 : decode cX3_reasonFor 115 = .ok (.iconst 1, 1) := dk_4 (dk_at dksX3_reasonFor_4 22 rfl rfl)
theorem dX3_reasonFor_116 : decode cX3_reasonFor 116 = .ok (.isub, 1) := dk_100 (dk_at dksX3_reasonFor_4 23 rfl rfl)
theorem dX3_reasonFor_117 : decode cX3_reasonFor 117 = .ok (.invokestatic 77, 3) := dk_184 0 77 (dk_at dksX3_reasonFor_5 0 rfl rfl)
theorem dX3_reasonFor_120 : decode cX3_reasonFor 120 = .ok (.iaload, 1) := dk_46 (dk_at dksX3_reasonFor_5 3 rfl rfl)
theorem dX3_reasonFor_121 : decode cX3_reasonFor 121 = .ok (.istore 5, 2) := dk_54 5 (dk_at dksX3_reasonFor_5 4 rfl rfl)
theorem dX3_reasonFor_123 : decode cX3_reasonFor 123 = .ok (.aload_n 0, 1) := dk_42 (dk_at dksX3_reasonFor_5 6 rfl rfl)
theorem dX3_reasonFor_124 : decode cX3_reasonFor 124 = .ok (.aload_n 0, 1) := dk_42 (dk_at dksX3_reasonFor_5 7 rfl rfl)
theorem dX3_reasonFor_125 : decode cX3_reasonFor 125 = .ok (.iload 5, 2) := dk_21 5 (dk_at dksX3_reasonFor_5 8 rfl rfl)
theorem dX3_reasonFor_127 : decode cX3_reasonFor 127 = .ok (.iconst 3, 1) := dk_6 (dk_at dksX3_reasonFor_5 10 rfl rfl)
theorem dX3_reasonFor_128 : decode cX3_reasonFor 128 = .ok (.invokevirtual 70, 3) := dk_182 0 70 (dk_at dksX3_reasonFor_5 11 rfl rfl)
theorem dX3_reasonFor_131 : decode cX3_reasonFor 131 = .ok (.aload_n 0, 1) := dk_42 (dk_at dksX3_reasonFor_5 14 rfl rfl)
theorem dX3_reasonFor_132 : decode cX3_reasonFor 132 = .ok (.iload_n 2, 1) := dk_28 (dk_at dksX3_reasonFor_5 15 rfl rfl)
theorem dX3_reasonFor_133 : decode cX3_reasonFor 133 = .ok (.iconst 3, 1) := dk_6 (dk_at dksX3_reasonFor_5 16 rfl rfl)
theorem dX3_reasonFor_134 : decode cX3_reasonFor 134 = .ok (.invokevirtual 70, 3) := dk_182 0 70 (dk_at dksX3_reasonFor_5 17 rfl rfl)
theorem dX3_reasonFor_137 : decode cX3_reasonFor 137 = .ok (.invokevirtual 101, 3) := dk_182 0 101 (dk_at dksX3_reasonFor_5 20 rfl rfl)
theorem dX3_reasonFor_140 : decode cX3_reasonFor 140 = .ok (.iconst 1, 1) := dk_4 (dk_at dksX3_reasonFor_5 23 rfl rfl)
theorem dX3_reasonFor_141 : decode cX3_reasonFor 141 = .ok (.if_icmp .le 27, 3) := dk_164 0 27 (dk_at dksX3_reasonFor_6 0 rfl rfl)
theorem dX3_reasonFor_144 : decode cX3_reasonFor 144 = .ok (.aload_n 0, 1) := dk_42 (dk_at dksX3_reasonFor_6 3 rfl rfl)
theorem dX3_reasonFor_145 : decode cX3_reasonFor 145 = .ok (.bipush 8, 2) := dk_16 8 (dk_at dksX3_reasonFor_6 4 rfl rfl)
theorem dX3_reasonFor_147 : decode cX3_reasonFor 147 = .ok (.aload_n 0, 1) := dk_42 (dk_at dksX3_reasonFor_6 6 rfl rfl)
theorem dX3_reasonFor_148 : decode cX3_reasonFor 148 = .ok (.aload_n 0, 1) := dk_42 (dk_at dksX3_reasonFor_6 7 rfl rfl)
theorem dX3_reasonFor_149 : decode cX3_reasonFor 149 = .ok (.iload 5, 2) := dk_21 5 (dk_at dksX3_reasonFor_6 8 rfl rfl)
theorem dX3_reasonFor_151 : decode cX3_reasonFor 151 = .ok (.iconst 3, 1) := dk_6 (dk_at dksX3_reasonFor_6 10 rfl rfl)
theorem dX3_reasonFor_152 : decode cX3_reasonFor 152 = .ok (.invokevirtual 70, 3) := dk_182 0 70 (dk_at dksX3_reasonFor_6 11 rfl rfl)
theorem dX3_reasonFor_155 : decode cX3_reasonFor 155 = .ok (.aload_n 0, 1) := dk_42 (dk_at dksX3_reasonFor_6 14 rfl rfl)
theorem dX3_reasonFor_156 : decode cX3_reasonFor 156 = .ok (.iload_n 2, 1) := dk_28 (dk_at dksX3_reasonFor_6 15 rfl rfl)
theorem dX3_reasonFor_157 : decode cX3_reasonFor 157 = .ok (.iconst 3, 1) := dk_6 (dk_at dksX3_reasonFor_6 16 rfl rfl)
theorem dX3_reasonFor_158 : decode cX3_reasonFor 158 = .ok (.invokevirtual 70, 3) := dk_182 0 70 (dk_at dksX3_reasonFor_6 17 rfl rfl)
theorem dX3_reasonFor_161 : decode cX3_reasonFor 161 = .ok (.invokevirtual 101, 3) := dk_182 0 101 (dk_at dksX3_reasonFor_6 20 rfl rfl)
theorem dX3_reasonFor_164 : decode cX3_reasonFor 164 = .ok (.invokevirtual 95, 3) := dk_182 0 95 (dk_at dksX3_reasonFor_7 0 rfl rfl)
theorem dX3_reasonFor_167 : decode cX3_reasonFor 167 = .ok (.ireturn, 1) := dk_172 (dk_at dksX3_reasonFor_7 3 rfl rfl)
theorem dX3_reasonFor_168 : decode cX3_reasonFor 168 = .ok (.aload_n 0, 1) := dk_42 (dk_at dksX3_reasonFor_7 4 rfl rfl)
theorem dX3_reasonFor_169 : decode cX3_reasonFor 169 = .ok (.iload_n 1, 1) := dk_27 (dk_at dksX3_reasonFor_7 5 rfl rfl)
theorem dX3_reasonFor_170 : decode cX3_reasonFor 170 = .ok (.iload_n 2, 1) := dk_28 (dk_at dksX3_reasonFor_7 6 rfl rfl)
theorem dX3_reasonFor_171 : decode cX3_reasonFor 171 = .ok (.invokevirtual 104, 3) := dk_182 0 104 (dk_at dksX3_reasonFor_7 7 rfl rfl)
theorem dX3_reasonFor_174 : decode cX3_reasonFor 174 = .ok (.aload_n 0, 1) := dk_42 (dk_at dksX3_reasonFor_7 10 rfl rfl)
theorem dX3_reasonFor_175 : decode cX3_reasonFor 175 = .ok (.iload_n 1, 1) := dk_27 (dk_at dksX3_reasonFor_7 11 rfl rfl)
theorem dX3_reasonFor_176 : decode cX3_reasonFor 176 = .ok (.iconst 0, 1) := dk_3 (dk_at dksX3_reasonFor_7 12 rfl rfl)
theorem dX3_reasonFor_177 : decode cX3_reasonFor 177 = .ok (.invokevirtual 80, 3) := dk_182 0 80 (dk_at dksX3_reasonFor_7 13 rfl rfl)
theorem dX3_reasonFor_180 : decode cX3_reasonFor 180 = .ok (.iadd, 1) := dk_96 (dk_at dksX3_reasonFor_7 16 rfl rfl)
theorem dX3_reasonFor_181 : decode cX3_reasonFor 181 = .ok (.aload_n 0, 1) := dk_42 (dk_at dksX3_reasonFor_7 17 rfl rfl)
theorem dX3_reasonFor_182 : decode cX3_reasonFor 182 = .ok (.iload_n 2, 1) := dk_28 (dk_at dksX3_reasonFor_7 18 rfl rfl)
theorem dX3_reasonFor_183 : decode cX3_reasonFor 183 = .ok (.invokevirtual 107, 3) := dk_182 0 107 (dk_at dksX3_reasonFor_7 19 rfl rfl)
theorem dX3_reasonFor_186 : decode cX3_reasonFor 186 = .ok (.isub, 1) := dk_100 (dk_at dksX3_reasonFor_7 22 rfl rfl)
theorem dX3_reasonFor_187 : decode cX3_reasonFor 187 = .ok (.istore 4, 2) := dk_54 4 (dk_at dksX3_reasonFor_8 0 rfl rfl)
theorem dX3_reasonFor_189 : decode cX3_reasonFor 189 = .ok (.iload 4, 2) := dk_21 4 (dk_at dksX3_reasonFor_8 2 rfl rfl)
theorem dX3_reasonFor_191 : decode cX3_reasonFor 191 = .ok (.ifCond .le 14, 3) := dk_158 0 14 (dk_at dksX3_reasonFor_8 4 rfl rfl)
theorem dX3_reasonFor_194 : decode cX3_reasonFor 194 = .ok (.aload_n 0, 1) := dk_42 (dk_at dksX3_reasonFor_8 7 rfl rfl)
theorem dX3_reasonFor_195 : decode cX3_reasonFor 195 = .ok (.bipush 9, 2) := dk_16 9 (dk_at dksX3_reasonFor_8 8 rfl rfl)
theorem dX3_reasonFor_197 : decode cX3_reasonFor 197 = .ok (.iload 4, 2) := dk_21 4 (dk_at dksX3_reasonFor_8 10 rfl rfl)
theorem dX3_reasonFor_199 : decode cX3_reasonFor 199 = .ok (.invokevirtual 95, 3) := dk_182 0 95 (dk_at dksX3_reasonFor_8 12 rfl rfl)
theorem dX3_reasonFor_202 : decode cX3_reasonFor 202 = .ok (.goto 4, 3) := dk_167 0 4 (dk_at dksX3_reasonFor_8 15 rfl rfl)
theorem dX3_reasonFor_205 : decode cX3_reasonFor 205 = .ok (.iconst 0, 1) := dk_3 (dk_at dksX3_reasonFor_8 18 rfl rfl)
theorem dX3_reasonFor_206 : decode cX3_reasonFor 206 = .ok (.ireturn, 1) := dk_172 (dk_at dksX3_reasonFor_8 19 rfl rfl)
abbrev cX3_wasteFor : ByteArray := prog_19_method_25_code
def yX3_wasteFor : MethodName := ⟨RX3, "wasteFor", "(II)I"⟩
def dkwX3_wasteFor_2 : List UInt8 := [172]
abbrev dktX3_wasteFor_2 : List UInt8 := dkwX3_wasteFor_2 ++ []
def dkwX3_wasteFor_1 : List UInt8 := [182, 0, 92, 54, 5, 21, 5, 2, 160, 0, 7, 3, 167, 0, 12, 21, 5, 21, 4, 100, 29, 96, 29, 112]
abbrev dktX3_wasteFor_1 : List UInt8 := dkwX3_wasteFor_1 ++ dktX3_wasteFor_2
def dkwX3_wasteFor_0 : List UInt8 := [42, 42, 28, 3, 182, 0, 70, 3, 182, 0, 89, 62, 42, 28, 7, 182, 0, 70, 29, 112, 54, 4, 42, 27]
abbrev dktX3_wasteFor_0 : List UInt8 := dkwX3_wasteFor_0 ++ dktX3_wasteFor_1
theorem dksX3_wasteFor_0 : cX3_wasteFor.data.toList.drop 0 = dktX3_wasteFor_0 := by decide +kernel
theorem dksX3_wasteFor_1 : cX3_wasteFor.data.toList.drop 24 = dktX3_wasteFor_1 := dk_seg dksX3_wasteFor_0 24 rfl rfl
theorem dksX3_wasteFor_2 : cX3_wasteFor.data.toList.drop 48 = dktX3_wasteFor_2 := dk_seg dksX3_wasteFor_1 24 rfl rfl
theorem dX3_wasteFor_0 : decode cX3_wasteFor 0 = .ok (.aload_n 0, 1) := dk_42 (dk_at dksX3_wasteFor_0 0 rfl rfl)
theorem dX3_wasteFor_1 : decode cX3_wasteFor 1 = .ok (.aload_n 0, 1) := dk_42 (dk_at dksX3_wasteFor_0 1 rfl rfl)
theorem dX3_wasteFor_2 : decode cX3_wasteFor 2 = .ok (.iload_n 2, 1) := dk_28 (dk_at dksX3_wasteFor_0 2 rfl rfl)
theorem dX3_wasteFor_3 : decode cX3_wasteFor 3 = .ok (.iconst 0, 1) := dk_3 (dk_at dksX3_wasteFor_0 3 rfl rfl)
theorem dX3_wasteFor_4 : decode cX3_wasteFor 4 = .ok (.invokevirtual 70, 3) := dk_182 0 70 (dk_at dksX3_wasteFor_0 4 rfl rfl)
theorem dX3_wasteFor_7 : decode cX3_wasteFor 7 = .ok (.iconst 0, 1) := dk_3 (dk_at dksX3_wasteFor_0 7 rfl rfl)
theorem dX3_wasteFor_8 : decode cX3_wasteFor 8 = .ok (.invokevirtual 89, 3) := dk_182 0 89 (dk_at dksX3_wasteFor_0 8 rfl rfl)
theorem dX3_wasteFor_11 : decode cX3_wasteFor 11 = .ok (.istore_n 3, 1) := dk_62 (dk_at dksX3_wasteFor_0 11 rfl rfl)
theorem dX3_wasteFor_12 : decode cX3_wasteFor 12 = .ok (.aload_n 0, 1) := dk_42 (dk_at dksX3_wasteFor_0 12 rfl rfl)
theorem dX3_wasteFor_13 : decode cX3_wasteFor 13 = .ok (.iload_n 2, 1) := dk_28 (dk_at dksX3_wasteFor_0 13 rfl rfl)
theorem dX3_wasteFor_14 : decode cX3_wasteFor 14 = .ok (.iconst 4, 1) := dk_7 (dk_at dksX3_wasteFor_0 14 rfl rfl)
theorem dX3_wasteFor_15 : decode cX3_wasteFor 15 = .ok (.invokevirtual 70, 3) := dk_182 0 70 (dk_at dksX3_wasteFor_0 15 rfl rfl)
theorem dX3_wasteFor_18 : decode cX3_wasteFor 18 = .ok (.iload_n 3, 1) := dk_29 (dk_at dksX3_wasteFor_0 18 rfl rfl)
theorem dX3_wasteFor_19 : decode cX3_wasteFor 19 = .ok (.irem, 1) := dk_112 (dk_at dksX3_wasteFor_0 19 rfl rfl)
theorem dX3_wasteFor_20 : decode cX3_wasteFor 20 = .ok (.istore 4, 2) := dk_54 4 (dk_at dksX3_wasteFor_0 20 rfl rfl)
theorem dX3_wasteFor_22 : decode cX3_wasteFor 22 = .ok (.aload_n 0, 1) := dk_42 (dk_at dksX3_wasteFor_0 22 rfl rfl)
theorem dX3_wasteFor_23 : decode cX3_wasteFor 23 = .ok (.iload_n 1, 1) := dk_27 (dk_at dksX3_wasteFor_0 23 rfl rfl)
theorem dX3_wasteFor_24 : decode cX3_wasteFor 24 = .ok (.invokevirtual 92, 3) := dk_182 0 92 (dk_at dksX3_wasteFor_1 0 rfl rfl)
theorem dX3_wasteFor_27 : decode cX3_wasteFor 27 = .ok (.istore 5, 2) := dk_54 5 (dk_at dksX3_wasteFor_1 3 rfl rfl)
theorem dX3_wasteFor_29 : decode cX3_wasteFor 29 = .ok (.iload 5, 2) := dk_21 5 (dk_at dksX3_wasteFor_1 5 rfl rfl)
theorem dX3_wasteFor_31 : decode cX3_wasteFor 31 = .ok (.iconst (-1), 1) := dk_2 (dk_at dksX3_wasteFor_1 7 rfl rfl)
theorem dX3_wasteFor_32 : decode cX3_wasteFor 32 = .ok (.if_icmp .ne 7, 3) := dk_160 0 7 (dk_at dksX3_wasteFor_1 8 rfl rfl)
theorem dX3_wasteFor_35 : decode cX3_wasteFor 35 = .ok (.iconst 0, 1) := dk_3 (dk_at dksX3_wasteFor_1 11 rfl rfl)
theorem dX3_wasteFor_36 : decode cX3_wasteFor 36 = .ok (.goto 12, 3) := dk_167 0 12 (dk_at dksX3_wasteFor_1 12 rfl rfl)
theorem dX3_wasteFor_39 : decode cX3_wasteFor 39 = .ok (.iload 5, 2) := dk_21 5 (dk_at dksX3_wasteFor_1 15 rfl rfl)
theorem dX3_wasteFor_41 : decode cX3_wasteFor 41 = .ok (.iload 4, 2) := dk_21 4 (dk_at dksX3_wasteFor_1 17 rfl rfl)
theorem dX3_wasteFor_43 : decode cX3_wasteFor 43 = .ok (.isub, 1) := dk_100 (dk_at dksX3_wasteFor_1 19 rfl rfl)
theorem dX3_wasteFor_44 : decode cX3_wasteFor 44 = .ok (.iload_n 3, 1) := dk_29 (dk_at dksX3_wasteFor_1 20 rfl rfl)
theorem dX3_wasteFor_45 : decode cX3_wasteFor 45 = .ok (.iadd, 1) := dk_96 (dk_at dksX3_wasteFor_1 21 rfl rfl)
theorem dX3_wasteFor_46 : decode cX3_wasteFor 46 = .ok (.iload_n 3, 1) := dk_29 (dk_at dksX3_wasteFor_1 22 rfl rfl)
theorem dX3_wasteFor_47 : decode cX3_wasteFor 47 = .ok (.irem, 1) := dk_112 (dk_at dksX3_wasteFor_1 23 rfl rfl)
theorem dX3_wasteFor_48 : decode cX3_wasteFor 48 = .ok (.ireturn, 1) := dk_172 (dk_at dksX3_wasteFor_2 0 rfl rfl)
abbrev cX3_why : ByteArray := prog_19_method_53_code
def yX3_why : MethodName := ⟨RX3, "why", "(IIZ)I"⟩
def dkwX3_why_2 : List UInt8 := [167, 0, 7, 42, 180, 0, 44, 172]
abbrev dktX3_why_2 : List UInt8 := dkwX3_why_2 ++ []
def dkwX3_why_1 : List UInt8 := [182, 0, 63, 172, 42, 27, 28, 182, 0, 110, 54, 4, 21, 4, 153, 0, 7, 29, 154, 0, 8, 21, 4]
abbrev dktX3_why_1 : List UInt8 := dkwX3_why_1 ++ dktX3_why_2
def dkwX3_why_0 : List UInt8 := [42, 3, 181, 0, 38, 42, 27, 182, 0, 167, 153, 0, 11, 42, 28, 182, 0, 155, 154, 0, 9, 42, 4]
abbrev dktX3_why_0 : List UInt8 := dkwX3_why_0 ++ dktX3_why_1
theorem dksX3_why_0 : cX3_why.data.toList.drop 0 = dktX3_why_0 := by decide +kernel
theorem dksX3_why_1 : cX3_why.data.toList.drop 23 = dktX3_why_1 := dk_seg dksX3_why_0 23 rfl rfl
theorem dksX3_why_2 : cX3_why.data.toList.drop 46 = dktX3_why_2 := dk_seg dksX3_why_1 23 rfl rfl
theorem dX3_why_0 : decode cX3_why 0 = .ok (.aload_n 0, 1) := dk_42 (dk_at dksX3_why_0 0 rfl rfl)
theorem dX3_why_1 : decode cX3_why 1 = .ok (.iconst 0, 1) := dk_3 (dk_at dksX3_why_0 1 rfl rfl)
theorem dX3_why_2 : decode cX3_why 2 = .ok (.putfield 38, 3) := dk_181 0 38 (dk_at dksX3_why_0 2 rfl rfl)
theorem dX3_why_5 : decode cX3_why 5 = .ok (.aload_n 0, 1) := dk_42 (dk_at dksX3_why_0 5 rfl rfl)
theorem dX3_why_6 : decode cX3_why 6 = .ok (.iload_n 1, 1) := dk_27 (dk_at dksX3_why_0 6 rfl rfl)
theorem dX3_why_7 : decode cX3_why 7 = .ok (.invokevirtual 167, 3) := dk_182 0 167 (dk_at dksX3_why_0 7 rfl rfl)
theorem dX3_why_10 : decode cX3_why 10 = .ok (.ifCond .eq 11, 3) := dk_153 0 11 (dk_at dksX3_why_0 10 rfl rfl)
theorem dX3_why_13 : decode cX3_why 13 = .ok (.aload_n 0, 1) := dk_42 (dk_at dksX3_why_0 13 rfl rfl)
theorem dX3_why_14 : decode cX3_why 14 = .ok (.iload_n 2, 1) := dk_28 (dk_at dksX3_why_0 14 rfl rfl)
theorem dX3_why_15 : decode cX3_why 15 = .ok (.invokevirtual 155, 3) := dk_182 0 155 (dk_at dksX3_why_0 15 rfl rfl)
theorem dX3_why_18 : decode cX3_why 18 = .ok (.ifCond .ne 9, 3) := dk_154 0 9 (dk_at dksX3_why_0 18 rfl rfl)
theorem dX3_why_21 : decode cX3_why 21 = .ok (.aload_n 0, 1) := dk_42 (dk_at dksX3_why_0 21 rfl rfl)
theorem dX3_why_22 : decode cX3_why 22 = .ok (.iconst 1, 1) := dk_4 (dk_at dksX3_why_0 22 rfl rfl)
theorem dX3_why_23 : decode cX3_why 23 = .ok (.invokevirtual 63, 3) := dk_182 0 63 (dk_at dksX3_why_1 0 rfl rfl)
theorem dX3_why_26 : decode cX3_why 26 = .ok (.ireturn, 1) := dk_172 (dk_at dksX3_why_1 3 rfl rfl)
theorem dX3_why_27 : decode cX3_why 27 = .ok (.aload_n 0, 1) := dk_42 (dk_at dksX3_why_1 4 rfl rfl)
theorem dX3_why_28 : decode cX3_why 28 = .ok (.iload_n 1, 1) := dk_27 (dk_at dksX3_why_1 5 rfl rfl)
theorem dX3_why_29 : decode cX3_why 29 = .ok (.iload_n 2, 1) := dk_28 (dk_at dksX3_why_1 6 rfl rfl)
theorem dX3_why_30 : decode cX3_why 30 = .ok (.invokevirtual 110, 3) := dk_182 0 110 (dk_at dksX3_why_1 7 rfl rfl)
theorem dX3_why_33 : decode cX3_why 33 = .ok (.istore 4, 2) := dk_54 4 (dk_at dksX3_why_1 10 rfl rfl)
theorem dX3_why_35 : decode cX3_why 35 = .ok (.iload 4, 2) := dk_21 4 (dk_at dksX3_why_1 12 rfl rfl)
theorem dX3_why_37 : decode cX3_why 37 = .ok (.ifCond .eq 7, 3) := dk_153 0 7 (dk_at dksX3_why_1 14 rfl rfl)
theorem dX3_why_40 : decode cX3_why 40 = .ok (.iload_n 3, 1) := dk_29 (dk_at dksX3_why_1 17 rfl rfl)
theorem dX3_why_41 : decode cX3_why 41 = .ok (.ifCond .ne 8, 3) := dk_154 0 8 (dk_at dksX3_why_1 18 rfl rfl)
theorem dX3_why_44 : decode cX3_why 44 = .ok (.iload 4, 2) := dk_21 4 (dk_at dksX3_why_1 21 rfl rfl)
theorem dX3_why_46 : decode cX3_why 46 = .ok (.goto 7, 3) := dk_167 0 7 (dk_at dksX3_why_2 0 rfl rfl)
theorem dX3_why_49 : decode cX3_why 49 = .ok (.aload_n 0, 1) := dk_42 (dk_at dksX3_why_2 3 rfl rfl)
theorem dX3_why_50 : decode cX3_why 50 = .ok (.getfield 44, 3) := dk_180 0 44 (dk_at dksX3_why_2 4 rfl rfl)
theorem dX3_why_53 : decode cX3_why 53 = .ok (.ireturn, 1) := dk_172 (dk_at dksX3_why_2 7 rfl rfl)
abbrev cX3_strip : ByteArray := prog_19_method_54_code
def yX3_strip : MethodName := ⟨RX3, "strip", "(I)I"⟩
def dkwX3_strip_1 : List UInt8 := [182, 0, 132, 167, 0, 8, 42, 4, 182, 0, 63, 172]
abbrev dktX3_strip_1 : List UInt8 := dkwX3_strip_1 ++ []
def dkwX3_strip_0 : List UInt8 := [42, 3, 181, 0, 38, 42, 182, 0, 125, 42, 27, 182, 0, 167, 153, 0, 16, 42, 42, 27, 182, 0, 170, 5]
abbrev dktX3_strip_0 : List UInt8 := dkwX3_strip_0 ++ dktX3_strip_1
theorem dksX3_strip_0 : cX3_strip.data.toList.drop 0 = dktX3_strip_0 := by decide +kernel
theorem dksX3_strip_1 : cX3_strip.data.toList.drop 24 = dktX3_strip_1 := dk_seg dksX3_strip_0 24 rfl rfl
theorem dX3_strip_0 : decode cX3_strip 0 = .ok (.aload_n 0, 1) := dk_42 (dk_at dksX3_strip_0 0 rfl rfl)
theorem dX3_strip_1 : decode cX3_strip 1 = .ok (.iconst 0, 1) := dk_3 (dk_at dksX3_strip_0 1 rfl rfl)
theorem dX3_strip_2 : decode cX3_strip 2 = .ok (.putfield 38, 3) := dk_181 0 38 (dk_at dksX3_strip_0 2 rfl rfl)
theorem dX3_strip_5 : decode cX3_strip 5 = .ok (.aload_n 0, 1) := dk_42 (dk_at dksX3_strip_0 5 rfl rfl)
theorem dX3_strip_6 : decode cX3_strip 6 = .ok (.invokevirtual 125, 3) := dk_182 0 125 (dk_at dksX3_strip_0 6 rfl rfl)
theorem dX3_strip_9 : decode cX3_strip 9 = .ok (.aload_n 0, 1) := dk_42 (dk_at dksX3_strip_0 9 rfl rfl)
theorem dX3_strip_10 : decode cX3_strip 10 = .ok (.iload_n 1, 1) := dk_27 (dk_at dksX3_strip_0 10 rfl rfl)
theorem dX3_strip_11 : decode cX3_strip 11 = .ok (.invokevirtual 167, 3) := dk_182 0 167 (dk_at dksX3_strip_0 11 rfl rfl)
theorem dX3_strip_14 : decode cX3_strip 14 = .ok (.ifCond .eq 16, 3) := dk_153 0 16 (dk_at dksX3_strip_0 14 rfl rfl)
theorem dX3_strip_17 : decode cX3_strip 17 = .ok (.aload_n 0, 1) := dk_42 (dk_at dksX3_strip_0 17 rfl rfl)
theorem dX3_strip_18 : decode cX3_strip 18 = .ok (.aload_n 0, 1) := dk_42 (dk_at dksX3_strip_0 18 rfl rfl)
theorem dX3_strip_19 : decode cX3_strip 19 = .ok (.iload_n 1, 1) := dk_27 (dk_at dksX3_strip_0 19 rfl rfl)
theorem dX3_strip_20 : decode cX3_strip 20 = .ok (.invokevirtual 170, 3) := dk_182 0 170 (dk_at dksX3_strip_0 20 rfl rfl)
theorem dX3_strip_23 : decode cX3_strip 23 = .ok (.iconst 2, 1) := dk_5 (dk_at dksX3_strip_0 23 rfl rfl)
theorem dX3_strip_24 : decode cX3_strip 24 = .ok (.invokevirtual 132, 3) := dk_182 0 132 (dk_at dksX3_strip_1 0 rfl rfl)
theorem dX3_strip_27 : decode cX3_strip 27 = .ok (.goto 8, 3) := dk_167 0 8 (dk_at dksX3_strip_1 3 rfl rfl)
theorem dX3_strip_30 : decode cX3_strip 30 = .ok (.aload_n 0, 1) := dk_42 (dk_at dksX3_strip_1 6 rfl rfl)
theorem dX3_strip_31 : decode cX3_strip 31 = .ok (.iconst 1, 1) := dk_4 (dk_at dksX3_strip_1 7 rfl rfl)
theorem dX3_strip_32 : decode cX3_strip 32 = .ok (.invokevirtual 63, 3) := dk_182 0 63 (dk_at dksX3_strip_1 8 rfl rfl)
theorem dX3_strip_35 : decode cX3_strip 35 = .ok (.ireturn, 1) := dk_172 (dk_at dksX3_strip_1 11 rfl rfl)
abbrev cX3_strips : ByteArray := prog_19_method_28_code
def yX3_strips : MethodName := ⟨RX3, "strips", "(I)I"⟩
def dkwX3_strips_3 : List UInt8 := [42, 42, 180, 0, 7, 27, 28, 4, 100, 184, 0, 77, 46, 182, 0, 113, 172]
abbrev dktX3_strips_3 : List UInt8 := dkwX3_strips_3 ++ []
def dkwX3_strips_2 : List UInt8 := [96, 7, 96, 92, 46, 4, 96, 79, 42, 180, 0, 7, 16, 6, 92, 46, 42, 27, 3, 182, 0, 80, 96, 79]
abbrev dktX3_strips_2 : List UInt8 := dkwX3_strips_2 ++ dktX3_strips_3
def dkwX3_strips_1 : List UInt8 := [17, 0, 223, 8, 27, 104, 96, 5, 96, 92, 46, 4, 100, 79, 42, 180, 0, 7, 17, 0, 223, 8, 27, 104]
abbrev dktX3_strips_1 : List UInt8 := dkwX3_strips_1 ++ dktX3_strips_2
def dkwX3_strips_0 : List UInt8 := [42, 27, 5, 182, 0, 80, 61, 28, 154, 0, 11, 42, 16, 10, 3, 182, 0, 95, 172, 42, 180, 0, 7]
abbrev dktX3_strips_0 : List UInt8 := dkwX3_strips_0 ++ dktX3_strips_1
theorem dksX3_strips_0 : cX3_strips.data.toList.drop 0 = dktX3_strips_0 := by decide +kernel
theorem dksX3_strips_1 : cX3_strips.data.toList.drop 23 = dktX3_strips_1 := dk_seg dksX3_strips_0 23 rfl rfl
theorem dksX3_strips_2 : cX3_strips.data.toList.drop 47 = dktX3_strips_2 := dk_seg dksX3_strips_1 24 rfl rfl
theorem dksX3_strips_3 : cX3_strips.data.toList.drop 71 = dktX3_strips_3 := dk_seg dksX3_strips_2 24 rfl rfl
theorem dX3_strips_0 : decode cX3_strips 0 = .ok (.aload_n 0, 1) := dk_42 (dk_at dksX3_strips_0 0 rfl rfl)
theorem dX3_strips_1 : decode cX3_strips 1 = .ok (.iload_n 1, 1) := dk_27 (dk_at dksX3_strips_0 1 rfl rfl)
theorem dX3_strips_2 : decode cX3_strips 2 = .ok (.iconst 2, 1) := dk_5 (dk_at dksX3_strips_0 2 rfl rfl)
theorem dX3_strips_3 : decode cX3_strips 3 = .ok (.invokevirtual 80, 3) := dk_182 0 80 (dk_at dksX3_strips_0 3 rfl rfl)
theorem dX3_strips_6 : decode cX3_strips 6 = .ok (.istore_n 2, 1) := dk_61 (dk_at dksX3_strips_0 6 rfl rfl)
theorem dX3_strips_7 : decode cX3_strips 7 = .ok (.iload_n 2, 1) := dk_28 (dk_at dksX3_strips_0 7 rfl rfl)
theorem dX3_strips_8 : decode cX3_strips 8 = .ok (.ifCond .ne 11, 3) := dk_154 0 11 (dk_at dksX3_strips_0 8 rfl rfl)
theorem dX3_strips_11 : decode cX3_strips 11 = .ok (.aload_n 0, 1) := dk_42 (dk_at dksX3_strips_0 11 rfl rfl)
theorem dX3_strips_12 : decode cX3_strips 12 = .ok (.bipush 10, 2) := dk_16 10 (dk_at dksX3_strips_0 12 rfl rfl)
theorem dX3_strips_14 : decode cX3_strips 14 = .ok (.iconst 0, 1) := dk_3 (dk_at dksX3_strips_0 14 rfl rfl)
theorem dX3_strips_15 : decode cX3_strips 15 = .ok (.invokevirtual 95, 3) := dk_182 0 95 (dk_at dksX3_strips_0 15 rfl rfl)
theorem dX3_strips_18 : decode cX3_strips 18 = .ok (.ireturn, 1) := dk_172 (dk_at dksX3_strips_0 18 rfl rfl)
theorem dX3_strips_19 : decode cX3_strips 19 = .ok (.aload_n 0, 1) := dk_42 (dk_at dksX3_strips_0 19 rfl rfl)
theorem dX3_strips_20 : decode cX3_strips 20 = .ok (.getfield 7, 3) := dk_180 0 7 (dk_at dksX3_strips_0 20 rfl rfl)
theorem dX3_strips_23 : decode cX3_strips 23 = .ok (.sipush 223, 3) := dk_17 0 223 (dk_at dksX3_strips_1 0 rfl rfl)
theorem dX3_strips_26 : decode cX3_strips 26 = .ok (.iconst 5, 1) := dk_8 (dk_at dksX3_strips_1 3 rfl rfl)
theorem dX3_strips_27 : decode cX3_strips 27 = .ok (.iload_n 1, 1) := dk_27 (dk_at dksX3_strips_1 4 rfl rfl)
theorem dX3_strips_28 : decode cX3_strips 28 = .ok (.imul, 1) := dk_104 (dk_at dksX3_strips_1 5 rfl rfl)
theorem dX3_strips_29 : decode cX3_strips 29 = .ok (.iadd, 1) := dk_96 (dk_at dksX3_strips_1 6 rfl rfl)
theorem dX3_strips_30 : decode cX3_strips 30 = .ok (.iconst 2, 1) := dk_5 (dk_at dksX3_strips_1 7 rfl rfl)
theorem dX3_strips_31 : decode cX3_strips 31 = .ok (.iadd, 1) := dk_96 (dk_at dksX3_strips_1 8 rfl rfl)
theorem dX3_strips_32 : decode cX3_strips 32 = .ok (.dup2, 1) := dk_92 (dk_at dksX3_strips_1 9 rfl rfl)
theorem dX3_strips_33 : decode cX3_strips 33 = .ok (.iaload, 1) := dk_46 (dk_at dksX3_strips_1 10 rfl rfl)
theorem dX3_strips_34 : decode cX3_strips 34 = .ok (.iconst 1, 1) := dk_4 (dk_at dksX3_strips_1 11 rfl rfl)
theorem dX3_strips_35 : decode cX3_strips 35 = .ok (.isub, 1) := dk_100 (dk_at dksX3_strips_1 12 rfl rfl)
theorem dX3_strips_36 : decode cX3_strips 36 = .ok (.iastore, 1) := dk_79 (dk_at dksX3_strips_1 13 rfl rfl)
theorem dX3_strips_37 : decode cX3_strips 37 = .ok (.aload_n 0, 1) := dk_42 (dk_at dksX3_strips_1 14 rfl rfl)
theorem dX3_strips_38 : decode cX3_strips 38 = .ok (.getfield 7, 3) := dk_180 0 7 (dk_at dksX3_strips_1 15 rfl rfl)
theorem dX3_strips_41 : decode cX3_strips 41 = .ok (.sipush 223, 3) := dk_17 0 223 (dk_at dksX3_strips_1 18 rfl rfl)
theorem dX3_strips_44 : decode cX3_strips 44 = .ok (.iconst 5, 1) := dk_8 (dk_at dksX3_strips_1 21 rfl rfl)
theorem dX3_strips_45 : decode cX3_strips 45 = .ok (.iload_n 1, 1) := dk_27 (dk_at dksX3_strips_1 22 rfl rfl)
theorem dX3_strips_46 : decode cX3_strips 46 = .ok (.imul, 1) := dk_104 (dk_at dksX3_strips_1 23 rfl rfl)
theorem dX3_strips_47 : decode cX3_strips 47 = .ok (.iadd, 1) := dk_96 (dk_at dksX3_strips_2 0 rfl rfl)
theorem dX3_strips_48 : decode cX3_strips 48 = .ok (.iconst 4, 1) := dk_7 (dk_at dksX3_strips_2 1 rfl rfl)
theorem dX3_strips_49 : decode cX3_strips 49 = .ok (.iadd, 1) := dk_96 (dk_at dksX3_strips_2 2 rfl rfl)
theorem dX3_strips_50 : decode cX3_strips 50 = .ok (.dup2, 1) := dk_92 (dk_at dksX3_strips_2 3 rfl rfl)
theorem dX3_strips_51 : decode cX3_strips 51 = .ok (.iaload, 1) := dk_46 (dk_at dksX3_strips_2 4 rfl rfl)
theorem dX3_strips_52 : decode cX3_strips 52 = .ok (.iconst 1, 1) := dk_4 (dk_at dksX3_strips_2 5 rfl rfl)
theorem dX3_strips_53 : decode cX3_strips 53 = .ok (.iadd, 1) := dk_96 (dk_at dksX3_strips_2 6 rfl rfl)
theorem dX3_strips_54 : decode cX3_strips 54 = .ok (.iastore, 1) := dk_79 (dk_at dksX3_strips_2 7 rfl rfl)
theorem dX3_strips_55 : decode cX3_strips 55 = .ok (.aload_n 0, 1) := dk_42 (dk_at dksX3_strips_2 8 rfl rfl)
theorem dX3_strips_56 : decode cX3_strips 56 = .ok (.getfield 7, 3) := dk_180 0 7 (dk_at dksX3_strips_2 9 rfl rfl)
theorem dX3_strips_59 : decode cX3_strips 59 = .ok (.bipush 6, 2) := dk_16 6 (dk_at dksX3_strips_2 12 rfl rfl)
theorem dX3_strips_61 : decode cX3_strips 61 = .ok (.dup2, 1) := dk_92 (dk_at dksX3_strips_2 14 rfl rfl)
theorem dX3_strips_62 : decode cX3_strips 62 = .ok (.iaload, 1) := dk_46 (dk_at dksX3_strips_2 15 rfl rfl)
theorem dX3_strips_63 : decode cX3_strips 63 = .ok (.aload_n 0, 1) := dk_42 (dk_at dksX3_strips_2 16 rfl rfl)
theorem dX3_strips_64 : decode cX3_strips 64 = .ok (.iload_n 1, 1) := dk_27 (dk_at dksX3_strips_2 17 rfl rfl)
theorem dX3_strips_65 : decode cX3_strips 65 = .ok (.iconst 0, 1) := dk_3 (dk_at dksX3_strips_2 18 rfl rfl)
theorem dX3_strips_66 : decode cX3_strips 66 = .ok (.invokevirtual 80, 3) := dk_182 0 80 (dk_at dksX3_strips_2 19 rfl rfl)
theorem dX3_strips_69 : decode cX3_strips 69 = .ok (.iadd, 1) := dk_96 (dk_at dksX3_strips_2 22 rfl rfl)
theorem dX3_strips_70 : decode cX3_strips 70 = .ok (.iastore, 1) := dk_79 (dk_at dksX3_strips_2 23 rfl rfl)
theorem dX3_strips_71 : decode cX3_strips 71 = .ok (.aload_n 0, 1) := dk_42 (dk_at dksX3_strips_3 0 rfl rfl)
theorem dX3_strips_72 : decode cX3_strips 72 = .ok (.aload_n 0, 1) := dk_42 (dk_at dksX3_strips_3 1 rfl rfl)
theorem dX3_strips_73 : decode cX3_strips 73 = .ok (.getfield 7, 3) := dk_180 0 7 (dk_at dksX3_strips_3 2 rfl rfl)
theorem dX3_strips_76 : decode cX3_strips 76 = .ok (.iload_n 1, 1) := dk_27 (dk_at dksX3_strips_3 5 rfl rfl)
theorem dX3_strips_77 : decode cX3_strips 77 = .ok (.iload_n 2, 1) := dk_28 (dk_at dksX3_strips_3 6 rfl rfl)
theorem dX3_strips_78 : decode cX3_strips 78 = .ok (.iconst 1, 1) := dk_4 (dk_at dksX3_strips_3 7 rfl rfl)
theorem dX3_strips_79 : decode cX3_strips 79 = .ok (.isub, 1) := dk_100 (dk_at dksX3_strips_3 8 rfl rfl)
theorem dX3_strips_80 : decode cX3_strips 80 = .ok (.invokestatic 77, 3) := dk_184 0 77 (dk_at dksX3_strips_3 9 rfl rfl)
theorem dX3_strips_83 : decode cX3_strips 83 = .ok (.iaload, 1) := dk_46 (dk_at dksX3_strips_3 12 rfl rfl)
theorem dX3_strips_84 : decode cX3_strips 84 = .ok (.invokevirtual 113, 3) := dk_182 0 113 (dk_at dksX3_strips_3 13 rfl rfl)
theorem dX3_strips_87 : decode cX3_strips 87 = .ok (.ireturn, 1) := dk_172 (dk_at dksX3_strips_3 16 rfl rfl)
abbrev cX3_isMatched : ByteArray := prog_19_method_55_code
def yX3_isMatched : MethodName := ⟨RX3, "isMatched", "(I)Z"⟩
def dkwX3_isMatched_3 : List UInt8 := [132, 3, 1, 167, 255, 214, 28, 172]
abbrev dktX3_isMatched_3 : List UInt8 := dkwX3_isMatched_3 ++ []
def dkwX3_isMatched_2 : List UInt8 := [184, 0, 77, 4, 96, 46, 42, 27, 29, 182, 0, 83, 160, 0, 7, 4, 167, 0, 4, 3, 126, 61]
abbrev dktX3_isMatched_2 : List UInt8 := dkwX3_isMatched_2 ++ dktX3_isMatched_3
def dkwX3_isMatched_1 : List UInt8 := [3, 172, 4, 61, 3, 62, 29, 42, 27, 5, 182, 0, 80, 162, 0, 38, 28, 42, 180, 0, 7, 27, 29]
abbrev dktX3_isMatched_1 : List UInt8 := dkwX3_isMatched_1 ++ dktX3_isMatched_2
def dkwX3_isMatched_0 : List UInt8 := [42, 42, 27, 182, 0, 167, 153, 0, 7, 3, 167, 0, 4, 4, 181, 0, 38, 42, 180, 0, 38, 158, 0, 5]
abbrev dktX3_isMatched_0 : List UInt8 := dkwX3_isMatched_0 ++ dktX3_isMatched_1
theorem dksX3_isMatched_0 : cX3_isMatched.data.toList.drop 0 = dktX3_isMatched_0 := by decide +kernel
theorem dksX3_isMatched_1 : cX3_isMatched.data.toList.drop 24 = dktX3_isMatched_1 := dk_seg dksX3_isMatched_0 24 rfl rfl
theorem dksX3_isMatched_2 : cX3_isMatched.data.toList.drop 47 = dktX3_isMatched_2 := dk_seg dksX3_isMatched_1 23 rfl rfl
theorem dksX3_isMatched_3 : cX3_isMatched.data.toList.drop 69 = dktX3_isMatched_3 := dk_seg dksX3_isMatched_2 22 rfl rfl
theorem dX3_isMatched_0 : decode cX3_isMatched 0 = .ok (.aload_n 0, 1) := dk_42 (dk_at dksX3_isMatched_0 0 rfl rfl)
theorem dX3_isMatched_1 : decode cX3_isMatched 1 = .ok (.aload_n 0, 1) := dk_42 (dk_at dksX3_isMatched_0 1 rfl rfl)
theorem dX3_isMatched_2 : decode cX3_isMatched 2 = .ok (.iload_n 1, 1) := dk_27 (dk_at dksX3_isMatched_0 2 rfl rfl)
theorem dX3_isMatched_3 : decode cX3_isMatched 3 = .ok (.invokevirtual 167, 3) := dk_182 0 167 (dk_at dksX3_isMatched_0 3 rfl rfl)
theorem dX3_isMatched_6 : decode cX3_isMatched 6 = .ok (.ifCond .eq 7, 3) := dk_153 0 7 (dk_at dksX3_isMatched_0 6 rfl rfl)
theorem dX3_isMatched_9 : decode cX3_isMatched 9 = .ok (.iconst 0, 1) := dk_3 (dk_at dksX3_isMatched_0 9 rfl rfl)
theorem dX3_isMatched_10 : decode cX3_isMatched 10 = .ok (.goto 4, 3) := dk_167 0 4 (dk_at dksX3_isMatched_0 10 rfl rfl)
theorem dX3_isMatched_13 : decode cX3_isMatched 13 = .ok (.iconst 1, 1) := dk_4 (dk_at dksX3_isMatched_0 13 rfl rfl)
theorem dX3_isMatched_14 : decode cX3_isMatched 14 = .ok (.putfield 38, 3) := dk_181 0 38 (dk_at dksX3_isMatched_0 14 rfl rfl)
theorem dX3_isMatched_17 : decode cX3_isMatched 17 = .ok (.aload_n 0, 1) := dk_42 (dk_at dksX3_isMatched_0 17 rfl rfl)
theorem dX3_isMatched_18 : decode cX3_isMatched 18 = .ok (.getfield 38, 3) := dk_180 0 38 (dk_at dksX3_isMatched_0 18 rfl rfl)
theorem dX3_isMatched_21 : decode cX3_isMatched 21 = .ok (.ifCond .le 5, 3) := dk_158 0 5 (dk_at dksX3_isMatched_0 21 rfl rfl)
theorem dX3_isMatched_24 : decode cX3_isMatched 24 = .ok (.iconst 0, 1) := dk_3 (dk_at dksX3_isMatched_1 0 rfl rfl)
theorem dX3_isMatched_25 : decode cX3_isMatched 25 = .ok (.ireturn, 1) := dk_172 (dk_at dksX3_isMatched_1 1 rfl rfl)
theorem dX3_isMatched_26 : decode cX3_isMatched 26 = .ok (.iconst 1, 1) := dk_4 (dk_at dksX3_isMatched_1 2 rfl rfl)
theorem dX3_isMatched_27 : decode cX3_isMatched 27 = .ok (.istore_n 2, 1) := dk_61 (dk_at dksX3_isMatched_1 3 rfl rfl)
theorem dX3_isMatched_28 : decode cX3_isMatched 28 = .ok (.iconst 0, 1) := dk_3 (dk_at dksX3_isMatched_1 4 rfl rfl)
theorem dX3_isMatched_29 : decode cX3_isMatched 29 = .ok (.istore_n 3, 1) := dk_62 (dk_at dksX3_isMatched_1 5 rfl rfl)
theorem dX3_isMatched_30 : decode cX3_isMatched 30 = .ok (.iload_n 3, 1) := dk_29 (dk_at dksX3_isMatched_1 6 rfl rfl)
theorem dX3_isMatched_31 : decode cX3_isMatched 31 = .ok (.aload_n 0, 1) := dk_42 (dk_at dksX3_isMatched_1 7 rfl rfl)
theorem dX3_isMatched_32 : decode cX3_isMatched 32 = .ok (.iload_n 1, 1) := dk_27 (dk_at dksX3_isMatched_1 8 rfl rfl)
theorem dX3_isMatched_33 : decode cX3_isMatched 33 = .ok (.iconst 2, 1) := dk_5 (dk_at dksX3_isMatched_1 9 rfl rfl)
theorem dX3_isMatched_34 : decode cX3_isMatched 34 = .ok (.invokevirtual 80, 3) := dk_182 0 80 (dk_at dksX3_isMatched_1 10 rfl rfl)
theorem dX3_isMatched_37 : decode cX3_isMatched 37 = .ok (.if_icmp .ge 38, 3) := dk_162 0 38 (dk_at dksX3_isMatched_1 13 rfl rfl)
theorem dX3_isMatched_40 : decode cX3_isMatched 40 = .ok (.iload_n 2, 1) := dk_28 (dk_at dksX3_isMatched_1 16 rfl rfl)
theorem dX3_isMatched_41 : decode cX3_isMatched 41 = .ok (.aload_n 0, 1) := dk_42 (dk_at dksX3_isMatched_1 17 rfl rfl)
theorem dX3_isMatched_42 : decode cX3_isMatched 42 = .ok (.getfield 7, 3) := dk_180 0 7 (dk_at dksX3_isMatched_1 18 rfl rfl)
theorem dX3_isMatched_45 : decode cX3_isMatched 45 = .ok (.iload_n 1, 1) := dk_27 (dk_at dksX3_isMatched_1 21 rfl rfl)
theorem dX3_isMatched_46 : decode cX3_isMatched 46 = .ok (.iload_n 3, 1) := dk_29 (dk_at dksX3_isMatched_1 22 rfl rfl)
theorem dX3_isMatched_47 : decode cX3_isMatched 47 = .ok (.invokestatic 77, 3) := dk_184 0 77 (dk_at dksX3_isMatched_2 0 rfl rfl)
theorem dX3_isMatched_50 : decode cX3_isMatched 50 = .ok (.iconst 1, 1) := dk_4 (dk_at dksX3_isMatched_2 3 rfl rfl)
theorem dX3_isMatched_51 : decode cX3_isMatched 51 = .ok (.iadd, 1) := dk_96 (dk_at dksX3_isMatched_2 4 rfl rfl)
theorem dX3_isMatched_52 : decode cX3_isMatched 52 = .ok (.iaload, 1) := dk_46 (dk_at dksX3_isMatched_2 5 rfl rfl)
theorem dX3_isMatched_53 : decode cX3_isMatched 53 = .ok (.aload_n 0, 1) := dk_42 (dk_at dksX3_isMatched_2 6 rfl rfl)
theorem dX3_isMatched_54 : decode cX3_isMatched 54 = .ok (.iload_n 1, 1) := dk_27 (dk_at dksX3_isMatched_2 7 rfl rfl)
theorem dX3_isMatched_55 : decode cX3_isMatched 55 = .ok (.iload_n 3, 1) := dk_29 (dk_at dksX3_isMatched_2 8 rfl rfl)
theorem dX3_isMatched_56 : decode cX3_isMatched 56 = .ok (.invokevirtual 83, 3) := dk_182 0 83 (dk_at dksX3_isMatched_2 9 rfl rfl)
theorem dX3_isMatched_59 : decode cX3_isMatched 59 = .ok (.if_icmp .ne 7, 3) := dk_160 0 7 (dk_at dksX3_isMatched_2 12 rfl rfl)
theorem dX3_isMatched_62 : decode cX3_isMatched 62 = .ok (.iconst 1, 1) := dk_4 (dk_at dksX3_isMatched_2 15 rfl rfl)
theorem dX3_isMatched_63 : decode cX3_isMatched 63 = .ok (.goto 4, 3) := dk_167 0 4 (dk_at dksX3_isMatched_2 16 rfl rfl)
theorem dX3_isMatched_66 : decode cX3_isMatched 66 = .ok (.iconst 0, 1) := dk_3 (dk_at dksX3_isMatched_2 19 rfl rfl)
theorem dX3_isMatched_67 : decode cX3_isMatched 67 = .ok (.iand, 1) := dk_126 (dk_at dksX3_isMatched_2 20 rfl rfl)
theorem dX3_isMatched_68 : decode cX3_isMatched 68 = .ok (.istore_n 2, 1) := dk_61 (dk_at dksX3_isMatched_2 21 rfl rfl)
theorem dX3_isMatched_69 : decode cX3_isMatched 69 = .ok (.iinc 3 1, 3) := dk_132 3 1 (dk_at dksX3_isMatched_3 0 rfl rfl)
theorem dX3_isMatched_72 : decode cX3_isMatched 72 = .ok (.goto (-42), 3) := dk_167 255 214 (dk_at dksX3_isMatched_3 3 rfl rfl)
theorem dX3_isMatched_75 : decode cX3_isMatched 75 = .ok (.iload_n 2, 1) := dk_28 (dk_at dksX3_isMatched_3 6 rfl rfl)
theorem dX3_isMatched_76 : decode cX3_isMatched 76 = .ok (.ireturn, 1) := dk_172 (dk_at dksX3_isMatched_3 7 rfl rfl)
abbrev cX3_bestRoll : ByteArray := prog_19_method_56_code
def yX3_bestRoll : MethodName := ⟨RX3, "bestRoll", "(I)I"⟩
def dkwX3_bestRoll_1 : List UInt8 := [2, 160, 0, 11, 42, 5, 182, 0, 63, 167, 0, 8, 42, 27, 182, 0, 116, 172]
abbrev dktX3_bestRoll_1 : List UInt8 := dkwX3_bestRoll_1 ++ []
def dkwX3_bestRoll_0 : List UInt8 := [42, 3, 181, 0, 38, 42, 27, 182, 0, 167, 154, 0, 9, 42, 4, 182, 0, 63, 172, 42, 27, 182, 0, 116]
abbrev dktX3_bestRoll_0 : List UInt8 := dkwX3_bestRoll_0 ++ dktX3_bestRoll_1
theorem dksX3_bestRoll_0 : cX3_bestRoll.data.toList.drop 0 = dktX3_bestRoll_0 := by decide +kernel
theorem dksX3_bestRoll_1 : cX3_bestRoll.data.toList.drop 24 = dktX3_bestRoll_1 := dk_seg dksX3_bestRoll_0 24 rfl rfl
theorem dX3_bestRoll_0 : decode cX3_bestRoll 0 = .ok (.aload_n 0, 1) := dk_42 (dk_at dksX3_bestRoll_0 0 rfl rfl)
theorem dX3_bestRoll_1 : decode cX3_bestRoll 1 = .ok (.iconst 0, 1) := dk_3 (dk_at dksX3_bestRoll_0 1 rfl rfl)
theorem dX3_bestRoll_2 : decode cX3_bestRoll 2 = .ok (.putfield 38, 3) := dk_181 0 38 (dk_at dksX3_bestRoll_0 2 rfl rfl)
theorem dX3_bestRoll_5 : decode cX3_bestRoll 5 = .ok (.aload_n 0, 1) := dk_42 (dk_at dksX3_bestRoll_0 5 rfl rfl)
theorem dX3_bestRoll_6 : decode cX3_bestRoll 6 = .ok (.iload_n 1, 1) := dk_27 (dk_at dksX3_bestRoll_0 6 rfl rfl)
theorem dX3_bestRoll_7 : decode cX3_bestRoll 7 = .ok (.invokevirtual 167, 3) := dk_182 0 167 (dk_at dksX3_bestRoll_0 7 rfl rfl)
theorem dX3_bestRoll_10 : decode cX3_bestRoll 10 = .ok (.ifCond .ne 9, 3) := dk_154 0 9 (dk_at dksX3_bestRoll_0 10 rfl rfl)
theorem dX3_bestRoll_13 : decode cX3_bestRoll 13 = .ok (.aload_n 0, 1) := dk_42 (dk_at dksX3_bestRoll_0 13 rfl rfl)
theorem dX3_bestRoll_14 : decode cX3_bestRoll 14 = .ok (.iconst 1, 1) := dk_4 (dk_at dksX3_bestRoll_0 14 rfl rfl)
theorem dX3_bestRoll_15 : decode cX3_bestRoll 15 = .ok (.invokevirtual 63, 3) := dk_182 0 63 (dk_at dksX3_bestRoll_0 15 rfl rfl)
theorem dX3_bestRoll_18 : decode cX3_bestRoll 18 = .ok (.ireturn, 1) := dk_172 (dk_at dksX3_bestRoll_0 18 rfl rfl)
theorem dX3_bestRoll_19 : decode cX3_bestRoll 19 = .ok (.aload_n 0, 1) := dk_42 (dk_at dksX3_bestRoll_0 19 rfl rfl)
theorem dX3_bestRoll_20 : decode cX3_bestRoll 20 = .ok (.iload_n 1, 1) := dk_27 (dk_at dksX3_bestRoll_0 20 rfl rfl)
theorem dX3_bestRoll_21 : decode cX3_bestRoll 21 = .ok (.invokevirtual 116, 3) := dk_182 0 116 (dk_at dksX3_bestRoll_0 21 rfl rfl)
theorem dX3_bestRoll_24 : decode cX3_bestRoll 24 = .ok (.iconst (-1), 1) := dk_2 (dk_at dksX3_bestRoll_1 0 rfl rfl)
theorem dX3_bestRoll_25 : decode cX3_bestRoll 25 = .ok (.if_icmp .ne 11, 3) := dk_160 0 11 (dk_at dksX3_bestRoll_1 1 rfl rfl)
theorem dX3_bestRoll_28 : decode cX3_bestRoll 28 = .ok (.aload_n 0, 1) := dk_42 (dk_at dksX3_bestRoll_1 4 rfl rfl)
theorem dX3_bestRoll_29 : decode cX3_bestRoll 29 = .ok (.iconst 2, 1) := dk_5 (dk_at dksX3_bestRoll_1 5 rfl rfl)
theorem dX3_bestRoll_30 : decode cX3_bestRoll 30 = .ok (.invokevirtual 63, 3) := dk_182 0 63 (dk_at dksX3_bestRoll_1 6 rfl rfl)
theorem dX3_bestRoll_33 : decode cX3_bestRoll 33 = .ok (.goto 8, 3) := dk_167 0 8 (dk_at dksX3_bestRoll_1 9 rfl rfl)
theorem dX3_bestRoll_36 : decode cX3_bestRoll 36 = .ok (.aload_n 0, 1) := dk_42 (dk_at dksX3_bestRoll_1 12 rfl rfl)
theorem dX3_bestRoll_37 : decode cX3_bestRoll 37 = .ok (.iload_n 1, 1) := dk_27 (dk_at dksX3_bestRoll_1 13 rfl rfl)
theorem dX3_bestRoll_38 : decode cX3_bestRoll 38 = .ok (.invokevirtual 116, 3) := dk_182 0 116 (dk_at dksX3_bestRoll_1 14 rfl rfl)
theorem dX3_bestRoll_41 : decode cX3_bestRoll 41 = .ok (.ireturn, 1) := dk_172 (dk_at dksX3_bestRoll_1 17 rfl rfl)
abbrev cX3_best : ByteArray := prog_19_method_29_code
def yX3_best : MethodName := ⟨RX3, "best", "(I)I"⟩
def dkwX3_best_3 : List UInt8 := [162, 0, 5, 29, 61, 132, 3, 1, 167, 255, 181, 28, 172]
abbrev dktX3_best_3 : List UInt8 := dkwX3_best_3 ++ []
def dkwX3_best_2 : List UInt8 := [27, 29, 182, 0, 104, 42, 27, 28, 182, 0, 104, 160, 0, 18, 42, 29, 182, 0, 107, 42, 28, 182, 0, 107]
abbrev dktX3_best_2 : List UInt8 := dkwX3_best_2 ++ dktX3_best_3
def dkwX3_best_1 : List UInt8 := [167, 0, 53, 28, 2, 159, 0, 46, 42, 27, 29, 182, 0, 104, 42, 27, 28, 182, 0, 104, 161, 0, 31, 42]
abbrev dktX3_best_1 : List UInt8 := dkwX3_best_1 ++ dktX3_best_2
def dkwX3_best_0 : List UInt8 := [2, 61, 3, 62, 29, 42, 180, 0, 7, 5, 46, 162, 0, 71, 42, 27, 29, 182, 0, 110, 158, 0, 6]
abbrev dktX3_best_0 : List UInt8 := dkwX3_best_0 ++ dktX3_best_1
theorem dksX3_best_0 : cX3_best.data.toList.drop 0 = dktX3_best_0 := by decide +kernel
theorem dksX3_best_1 : cX3_best.data.toList.drop 23 = dktX3_best_1 := dk_seg dksX3_best_0 23 rfl rfl
theorem dksX3_best_2 : cX3_best.data.toList.drop 47 = dktX3_best_2 := dk_seg dksX3_best_1 24 rfl rfl
theorem dksX3_best_3 : cX3_best.data.toList.drop 71 = dktX3_best_3 := dk_seg dksX3_best_2 24 rfl rfl
theorem dX3_best_0 : decode cX3_best 0 = .ok (.iconst (-1), 1) := dk_2 (dk_at dksX3_best_0 0 rfl rfl)
theorem dX3_best_1 : decode cX3_best 1 = .ok (.istore_n 2, 1) := dk_61 (dk_at dksX3_best_0 1 rfl rfl)
theorem dX3_best_2 : decode cX3_best 2 = .ok (.iconst 0, 1) := dk_3 (dk_at dksX3_best_0 2 rfl rfl)
theorem dX3_best_3 : decode cX3_best 3 = .ok (.istore_n 3, 1) := dk_62 (dk_at dksX3_best_0 3 rfl rfl)
theorem dX3_best_4 : decode cX3_best 4 = .ok (.iload_n 3, 1) := dk_29 (dk_at dksX3_best_0 4 rfl rfl)
theorem dX3_best_5 : decode cX3_best 5 = .ok (.aload_n 0, 1) := dk_42 (dk_at dksX3_best_0 5 rfl rfl)
theorem dX3_best_6 : decode cX3_best 6 = .ok (.getfield 7, 3) := dk_180 0 7 (dk_at dksX3_best_0 6 rfl rfl)
theorem dX3_best_9 : decode cX3_best 9 = .ok (.iconst 2, 1) := dk_5 (dk_at dksX3_best_0 9 rfl rfl)
theorem dX3_best_10 : decode cX3_best 10 = .ok (.iaload, 1) := dk_46 (dk_at dksX3_best_0 10 rfl rfl)
theorem dX3_best_11 : decode cX3_best 11 = .ok (.if_icmp .ge 71, 3) := dk_162 0 71 (dk_at dksX3_best_0 11 rfl rfl)
theorem dX3_best_14 : decode cX3_best 14 = .ok (.aload_n 0, 1) := dk_42 (dk_at dksX3_best_0 14 rfl rfl)
theorem dX3_best_15 : decode cX3_best 15 = .ok (.iload_n 1, 1) := dk_27 (dk_at dksX3_best_0 15 rfl rfl)
theorem dX3_best_16 : decode cX3_best 16 = .ok (.iload_n 3, 1) := dk_29 (dk_at dksX3_best_0 16 rfl rfl)
theorem dX3_best_17 : decode cX3_best 17 = .ok (.invokevirtual 110, 3) := dk_182 0 110 (dk_at dksX3_best_0 17 rfl rfl)
theorem dX3_best_20 : decode cX3_best 20 = .ok (.ifCond .le 6, 3) := dk_158 0 6 (dk_at dksX3_best_0 20 rfl rfl)
theorem dX3_best_23 : decode cX3_best 23 = .ok (.goto 53, 3) := dk_167 0 53 (dk_at dksX3_best_1 0 rfl rfl)
theorem dX3_best_26 : decode cX3_best 26 = .ok (.iload_n 2, 1) := dk_28 (dk_at dksX3_best_1 3 rfl rfl)
theorem dX3_best_27 : decode cX3_best 27 = .ok (.iconst (-1), 1) := dk_2 (dk_at dksX3_best_1 4 rfl rfl)
theorem dX3_best_28 : decode cX3_best 28 = .ok (.if_icmp .eq 46, 3) := dk_159 0 46 (dk_at dksX3_best_1 5 rfl rfl)
theorem dX3_best_31 : decode cX3_best 31 = .ok (.aload_n 0, 1) := dk_42 (dk_at dksX3_best_1 8 rfl rfl)
theorem dX3_best_32 : decode cX3_best 32 = .ok (.iload_n 1, 1) := dk_27 (dk_at dksX3_best_1 9 rfl rfl)
theorem dX3_best_33 : decode cX3_best 33 = .ok (.iload_n 3, 1) := dk_29 (dk_at dksX3_best_1 10 rfl rfl)
theorem dX3_best_34 : decode cX3_best 34 = .ok (.invokevirtual 104, 3) := dk_182 0 104 (dk_at dksX3_best_1 11 rfl rfl)
theorem dX3_best_37 : decode cX3_best 37 = .ok (.aload_n 0, 1) := dk_42 (dk_at dksX3_best_1 14 rfl rfl)
theorem dX3_best_38 : decode cX3_best 38 = .ok (.iload_n 1, 1) := dk_27 (dk_at dksX3_best_1 15 rfl rfl)
theorem dX3_best_39 : decode cX3_best 39 = .ok (.iload_n 2, 1) := dk_28 (dk_at dksX3_best_1 16 rfl rfl)
theorem dX3_best_40 : decode cX3_best 40 = .ok (.invokevirtual 104, 3) := dk_182 0 104 (dk_at dksX3_best_1 17 rfl rfl)
theorem dX3_best_43 : decode cX3_best 43 = .ok (.if_icmp .lt 31, 3) := dk_161 0 31 (dk_at dksX3_best_1 20 rfl rfl)
theorem dX3_best_46 : decode cX3_best 46 = .ok (.aload_n 0, 1) := dk_42 (dk_at dksX3_best_1 23 rfl rfl)
theorem dX3_best_47 : decode cX3_best 47 = .ok (.iload_n 1, 1) := dk_27 (dk_at dksX3_best_2 0 rfl rfl)
theorem dX3_best_48 : decode cX3_best 48 = .ok (.iload_n 3, 1) := dk_29 (dk_at dksX3_best_2 1 rfl rfl)
theorem dX3_best_49 : decode cX3_best 49 = .ok (.invokevirtual 104, 3) := dk_182 0 104 (dk_at dksX3_best_2 2 rfl rfl)
theorem dX3_best_52 : decode cX3_best 52 = .ok (.aload_n 0, 1) := dk_42 (dk_at dksX3_best_2 5 rfl rfl)
theorem dX3_best_53 : decode cX3_best 53 = .ok (.iload_n 1, 1) := dk_27 (dk_at dksX3_best_2 6 rfl rfl)
theorem dX3_best_54 : decode cX3_best 54 = .ok (.iload_n 2, 1) := dk_28 (dk_at dksX3_best_2 7 rfl rfl)
theorem dX3_best_55 : decode cX3_best 55 = .ok (.invokevirtual 104, 3) := dk_182 0 104 (dk_at dksX3_best_2 8 rfl rfl)
theorem dX3_best_58 : decode cX3_best 58 = .ok (.if_icmp .ne 18, 3) := dk_160 0 18 (dk_at dksX3_best_2 11 rfl rfl)
theorem dX3_best_61 : decode cX3_best 61 = .ok (.aload_n 0, 1) := dk_42 (dk_at dksX3_best_2 14 rfl rfl)
theorem dX3_best_62 : decode cX3_best 62 = .ok (.iload_n 3, 1) := dk_29 (dk_at dksX3_best_2 15 rfl rfl)
theorem dX3_best_63 : decode cX3_best 63 = .ok (.invokevirtual 107, 3) := dk_182 0 107 (dk_at dksX3_best_2 16 rfl rfl)
theorem dX3_best_66 : decode cX3_best 66 = .ok (.aload_n 0, 1) := dk_42 (dk_at dksX3_best_2 19 rfl rfl)
theorem dX3_best_67 : decode cX3_best 67 = .ok (.iload_n 2, 1) := dk_28 (dk_at dksX3_best_2 20 rfl rfl)
theorem dX3_best_68 : decode cX3_best 68 = .ok (.invokevirtual 107, 3) := dk_182 0 107 (dk_at dksX3_best_2 21 rfl rfl)
theorem dX3_best_71 : decode cX3_best 71 = .ok (.if_icmp .ge 5, 3) := dk_162 0 5 (dk_at dksX3_best_3 0 rfl rfl)
theorem dX3_best_74 : decode cX3_best 74 = .ok (.iload_n 3, 1) := dk_29 (dk_at dksX3_best_3 3 rfl rfl)
theorem dX3_best_75 : decode cX3_best 75 = .ok (.istore_n 2, 1) := dk_61 (dk_at dksX3_best_3 4 rfl rfl)
theorem dX3_best_76 : decode cX3_best 76 = .ok (.iinc 3 1, 3) := dk_132 3 1 (dk_at dksX3_best_3 5 rfl rfl)
theorem dX3_best_79 : decode cX3_best 79 = .ok (.goto (-75), 3) := dk_167 255 181 (dk_at dksX3_best_3 8 rfl rfl)
theorem dX3_best_82 : decode cX3_best 82 = .ok (.iload_n 2, 1) := dk_28 (dk_at dksX3_best_3 11 rfl rfl)
theorem dX3_best_83 : decode cX3_best 83 = .ok (.ireturn, 1) := dk_172 (dk_at dksX3_best_3 12 rfl rfl)
abbrev cX3_finish : ByteArray := prog_19_method_57_code
def yX3_finish : MethodName := ⟨RX3, "finish", "(I)I"⟩
def dkwX3_finish_1 : List UInt8 := [182, 0, 132, 167, 0, 8, 42, 4, 182, 0, 63, 172]
abbrev dktX3_finish_1 : List UInt8 := dkwX3_finish_1 ++ []
def dkwX3_finish_0 : List UInt8 := [42, 3, 181, 0, 38, 42, 182, 0, 125, 42, 27, 182, 0, 167, 153, 0, 16, 42, 42, 27, 182, 0, 173, 5]
abbrev dktX3_finish_0 : List UInt8 := dkwX3_finish_0 ++ dktX3_finish_1
theorem dksX3_finish_0 : cX3_finish.data.toList.drop 0 = dktX3_finish_0 := by decide +kernel
theorem dksX3_finish_1 : cX3_finish.data.toList.drop 24 = dktX3_finish_1 := dk_seg dksX3_finish_0 24 rfl rfl
theorem dX3_finish_0 : decode cX3_finish 0 = .ok (.aload_n 0, 1) := dk_42 (dk_at dksX3_finish_0 0 rfl rfl)
theorem dX3_finish_1 : decode cX3_finish 1 = .ok (.iconst 0, 1) := dk_3 (dk_at dksX3_finish_0 1 rfl rfl)
theorem dX3_finish_2 : decode cX3_finish 2 = .ok (.putfield 38, 3) := dk_181 0 38 (dk_at dksX3_finish_0 2 rfl rfl)
theorem dX3_finish_5 : decode cX3_finish 5 = .ok (.aload_n 0, 1) := dk_42 (dk_at dksX3_finish_0 5 rfl rfl)
theorem dX3_finish_6 : decode cX3_finish 6 = .ok (.invokevirtual 125, 3) := dk_182 0 125 (dk_at dksX3_finish_0 6 rfl rfl)
theorem dX3_finish_9 : decode cX3_finish 9 = .ok (.aload_n 0, 1) := dk_42 (dk_at dksX3_finish_0 9 rfl rfl)
theorem dX3_finish_10 : decode cX3_finish 10 = .ok (.iload_n 1, 1) := dk_27 (dk_at dksX3_finish_0 10 rfl rfl)
theorem dX3_finish_11 : decode cX3_finish 11 = .ok (.invokevirtual 167, 3) := dk_182 0 167 (dk_at dksX3_finish_0 11 rfl rfl)
theorem dX3_finish_14 : decode cX3_finish 14 = .ok (.ifCond .eq 16, 3) := dk_153 0 16 (dk_at dksX3_finish_0 14 rfl rfl)
theorem dX3_finish_17 : decode cX3_finish 17 = .ok (.aload_n 0, 1) := dk_42 (dk_at dksX3_finish_0 17 rfl rfl)
theorem dX3_finish_18 : decode cX3_finish 18 = .ok (.aload_n 0, 1) := dk_42 (dk_at dksX3_finish_0 18 rfl rfl)
theorem dX3_finish_19 : decode cX3_finish 19 = .ok (.iload_n 1, 1) := dk_27 (dk_at dksX3_finish_0 19 rfl rfl)
theorem dX3_finish_20 : decode cX3_finish 20 = .ok (.invokevirtual 173, 3) := dk_182 0 173 (dk_at dksX3_finish_0 20 rfl rfl)
theorem dX3_finish_23 : decode cX3_finish 23 = .ok (.iconst 2, 1) := dk_5 (dk_at dksX3_finish_0 23 rfl rfl)
theorem dX3_finish_24 : decode cX3_finish 24 = .ok (.invokevirtual 132, 3) := dk_182 0 132 (dk_at dksX3_finish_1 0 rfl rfl)
theorem dX3_finish_27 : decode cX3_finish 27 = .ok (.goto 8, 3) := dk_167 0 8 (dk_at dksX3_finish_1 3 rfl rfl)
theorem dX3_finish_30 : decode cX3_finish 30 = .ok (.aload_n 0, 1) := dk_42 (dk_at dksX3_finish_1 6 rfl rfl)
theorem dX3_finish_31 : decode cX3_finish 31 = .ok (.iconst 1, 1) := dk_4 (dk_at dksX3_finish_1 7 rfl rfl)
theorem dX3_finish_32 : decode cX3_finish 32 = .ok (.invokevirtual 63, 3) := dk_182 0 63 (dk_at dksX3_finish_1 8 rfl rfl)
theorem dX3_finish_35 : decode cX3_finish 35 = .ok (.ireturn, 1) := dk_172 (dk_at dksX3_finish_1 11 rfl rfl)
abbrev cX3_finishes : ByteArray := prog_19_method_30_code
def yX3_finishes : MethodName := ⟨RX3, "finishes", "(I)I"⟩
def dkwX3_finishes_3 : List UInt8 := [182, 0, 95, 167, 0, 8, 42, 28, 182, 0, 113, 172]
abbrev dktX3_finishes_3 : List UInt8 := dkwX3_finishes_3 ++ []
def dkwX3_finishes_2 : List UInt8 := [54, 4, 132, 2, 1, 42, 27, 182, 0, 116, 62, 167, 255, 234, 28, 154, 0, 13, 42, 16, 14, 27]
abbrev dktX3_finishes_2 : List UInt8 := dkwX3_finishes_2 ++ dktX3_finishes_3
def dkwX3_finishes_1 : List UInt8 := [182, 0, 95, 172, 3, 61, 42, 27, 182, 0, 116, 62, 29, 2, 159, 0, 23, 42, 27, 29, 182, 0, 119]
abbrev dktX3_finishes_1 : List UInt8 := dkwX3_finishes_1 ++ dktX3_finishes_2
def dkwX3_finishes_0 : List UInt8 := [42, 27, 5, 182, 0, 80, 42, 27, 4, 182, 0, 80, 160, 0, 15, 42, 7, 42, 27, 4, 182, 0, 80]
abbrev dktX3_finishes_0 : List UInt8 := dkwX3_finishes_0 ++ dktX3_finishes_1
theorem dksX3_finishes_0 : cX3_finishes.data.toList.drop 0 = dktX3_finishes_0 := by decide +kernel
theorem dksX3_finishes_1 : cX3_finishes.data.toList.drop 23 = dktX3_finishes_1 := dk_seg dksX3_finishes_0 23 rfl rfl
theorem dksX3_finishes_2 : cX3_finishes.data.toList.drop 46 = dktX3_finishes_2 := dk_seg dksX3_finishes_1 23 rfl rfl
theorem dksX3_finishes_3 : cX3_finishes.data.toList.drop 68 = dktX3_finishes_3 := dk_seg dksX3_finishes_2 22 rfl rfl
theorem dX3_finishes_0 : decode cX3_finishes 0 = .ok (.aload_n 0, 1) := dk_42 (dk_at dksX3_finishes_0 0 rfl rfl)
theorem dX3_finishes_1 : decode cX3_finishes 1 = .ok (.iload_n 1, 1) := dk_27 (dk_at dksX3_finishes_0 1 rfl rfl)
theorem dX3_finishes_2 : decode cX3_finishes 2 = .ok (.iconst 2, 1) := dk_5 (dk_at dksX3_finishes_0 2 rfl rfl)
theorem dX3_finishes_3 : decode cX3_finishes 3 = .ok (.invokevirtual 80, 3) := dk_182 0 80 (dk_at dksX3_finishes_0 3 rfl rfl)
theorem dX3_finishes_6 : decode cX3_finishes 6 = .ok (.aload_n 0, 1) := dk_42 (dk_at dksX3_finishes_0 6 rfl rfl)
theorem dX3_finishes_7 : decode cX3_finishes 7 = .ok (.iload_n 1, 1) := dk_27 (dk_at dksX3_finishes_0 7 rfl rfl)
theorem dX3_finishes_8 : decode cX3_finishes 8 = .ok (.iconst 1, 1) := dk_4 (dk_at dksX3_finishes_0 8 rfl rfl)
theorem dX3_finishes_9 : decode cX3_finishes 9 = .ok (.invokevirtual 80, 3) := dk_182 0 80 (dk_at dksX3_finishes_0 9 rfl rfl)
theorem dX3_finishes_12 : decode cX3_finishes 12 = .ok (.if_icmp .ne 15, 3) := dk_160 0 15 (dk_at dksX3_finishes_0 12 rfl rfl)
theorem dX3_finishes_15 : decode cX3_finishes 15 = .ok (.aload_n 0, 1) := dk_42 (dk_at dksX3_finishes_0 15 rfl rfl)
theorem dX3_finishes_16 : decode cX3_finishes 16 = .ok (.iconst 4, 1) := dk_7 (dk_at dksX3_finishes_0 16 rfl rfl)
theorem dX3_finishes_17 : decode cX3_finishes 17 = .ok (.aload_n 0, 1) := dk_42 (dk_at dksX3_finishes_0 17 rfl rfl)
theorem dX3_finishes_18 : decode cX3_finishes 18 = .ok (.iload_n 1, 1) := dk_27 (dk_at dksX3_finishes_0 18 rfl rfl)
theorem dX3_finishes_19 : decode cX3_finishes 19 = .ok (.iconst 1, 1) := dk_4 (dk_at dksX3_finishes_0 19 rfl rfl)
theorem dX3_finishes_20 : decode cX3_finishes 20 = .ok (.invokevirtual 80, 3) := dk_182 0 80 (dk_at dksX3_finishes_0 20 rfl rfl)
theorem dX3_finishes_23 : decode cX3_finishes 23 = .ok (.invokevirtual 95, 3) := dk_182 0 95 (dk_at dksX3_finishes_1 0 rfl rfl)
theorem dX3_finishes_26 : decode cX3_finishes 26 = .ok (.ireturn, 1) := dk_172 (dk_at dksX3_finishes_1 3 rfl rfl)
theorem dX3_finishes_27 : decode cX3_finishes 27 = .ok (.iconst 0, 1) := dk_3 (dk_at dksX3_finishes_1 4 rfl rfl)
theorem dX3_finishes_28 : decode cX3_finishes 28 = .ok (.istore_n 2, 1) := dk_61 (dk_at dksX3_finishes_1 5 rfl rfl)
theorem dX3_finishes_29 : decode cX3_finishes 29 = .ok (.aload_n 0, 1) := dk_42 (dk_at dksX3_finishes_1 6 rfl rfl)
theorem dX3_finishes_30 : decode cX3_finishes 30 = .ok (.iload_n 1, 1) := dk_27 (dk_at dksX3_finishes_1 7 rfl rfl)
theorem dX3_finishes_31 : decode cX3_finishes 31 = .ok (.invokevirtual 116, 3) := dk_182 0 116 (dk_at dksX3_finishes_1 8 rfl rfl)
theorem dX3_finishes_34 : decode cX3_finishes 34 = .ok (.istore_n 3, 1) := dk_62 (dk_at dksX3_finishes_1 11 rfl rfl)
theorem dX3_finishes_35 : decode cX3_finishes 35 = .ok (.iload_n 3, 1) := dk_29 (dk_at dksX3_finishes_1 12 rfl rfl)
theorem dX3_finishes_36 : decode cX3_finishes 36 = .ok (.iconst (-1), 1) := dk_2 (dk_at dksX3_finishes_1 13 rfl rfl)
theorem dX3_finishes_37 : decode cX3_finishes 37 = .ok (.if_icmp .eq 23, 3) := dk_159 0 23 (dk_at dksX3_finishes_1 14 rfl rfl)
theorem dX3_finishes_40 : decode cX3_finishes 40 = .ok (.aload_n 0, 1) := dk_42 (dk_at dksX3_finishes_1 17 rfl rfl)
theorem dX3_finishes_41 : decode cX3_finishes 41 = .ok (.iload_n 1, 1) := dk_27 (dk_at dksX3_finishes_1 18 rfl rfl)
theorem dX3_finishes_42 : decode cX3_finishes 42 = .ok (.iload_n 3, 1) := dk_29 (dk_at dksX3_finishes_1 19 rfl rfl)
theorem dX3_finishes_43 : decode cX3_finishes 43 = .ok (.invokevirtual 119, 3) := dk_182 0 119 (dk_at dksX3_finishes_1 20 rfl rfl)
theorem dX3_finishes_46 : decode cX3_finishes 46 = .ok (.istore 4, 2) := dk_54 4 (dk_at dksX3_finishes_2 0 rfl rfl)
theorem dX3_finishes_48 : decode cX3_finishes 48 = .ok (.iinc 2 1, 3) := dk_132 2 1 (dk_at dksX3_finishes_2 2 rfl rfl)
theorem dX3_finishes_51 : decode cX3_finishes 51 = .ok (.aload_n 0, 1) := dk_42 (dk_at dksX3_finishes_2 5 rfl rfl)
theorem dX3_finishes_52 : decode cX3_finishes 52 = .ok (.iload_n 1, 1) := dk_27 (dk_at dksX3_finishes_2 6 rfl rfl)
theorem dX3_finishes_53 : decode cX3_finishes 53 = .ok (.invokevirtual 116, 3) := dk_182 0 116 (dk_at dksX3_finishes_2 7 rfl rfl)
theorem dX3_finishes_56 : decode cX3_finishes 56 = .ok (.istore_n 3, 1) := dk_62 (dk_at dksX3_finishes_2 10 rfl rfl)
theorem dX3_finishes_57 : decode cX3_finishes 57 = .ok (.goto (-22), 3) := dk_167 255 234 (dk_at dksX3_finishes_2 11 rfl rfl)
theorem dX3_finishes_60 : decode cX3_finishes 60 = .ok (.iload_n 2, 1) := dk_28 (dk_at dksX3_finishes_2 14 rfl rfl)
theorem dX3_finishes_61 : decode cX3_finishes 61 = .ok (.ifCond .ne 13, 3) := dk_154 0 13 (dk_at dksX3_finishes_2 15 rfl rfl)
theorem dX3_finishes_64 : decode cX3_finishes 64 = .ok (.aload_n 0, 1) := dk_42 (dk_at dksX3_finishes_2 18 rfl rfl)
theorem dX3_finishes_65 : decode cX3_finishes 65 = .ok (.bipush 14, 2) := dk_16 14 (dk_at dksX3_finishes_2 19 rfl rfl)
theorem dX3_finishes_67 : decode cX3_finishes 67 = .ok (.iload_n 1, 1) := dk_27 (dk_at dksX3_finishes_2 21 rfl rfl)
theorem dX3_finishes_68 : decode cX3_finishes 68 = .ok (.invokevirtual 95, 3) := dk_182 0 95 (dk_at dksX3_finishes_3 0 rfl rfl)
theorem dX3_finishes_71 : decode cX3_finishes 71 = .ok (.goto 8, 3) := dk_167 0 8 (dk_at dksX3_finishes_3 3 rfl rfl)
theorem dX3_finishes_74 : decode cX3_finishes 74 = .ok (.aload_n 0, 1) := dk_42 (dk_at dksX3_finishes_3 6 rfl rfl)
theorem dX3_finishes_75 : decode cX3_finishes 75 = .ok (.iload_n 2, 1) := dk_28 (dk_at dksX3_finishes_3 7 rfl rfl)
theorem dX3_finishes_76 : decode cX3_finishes 76 = .ok (.invokevirtual 113, 3) := dk_182 0 113 (dk_at dksX3_finishes_3 8 rfl rfl)
theorem dX3_finishes_79 : decode cX3_finishes 79 = .ok (.ireturn, 1) := dk_172 (dk_at dksX3_finishes_3 11 rfl rfl)
abbrev cX3_dropsFrom : ByteArray := prog_19_method_58_code
def yX3_dropsFrom : MethodName := ⟨RX3, "dropsFrom", "(II)I"⟩
def dkwX3_dropsFrom_4 : List UInt8 := [79, 132, 4, 1, 167, 255, 231, 29, 172]
abbrev dktX3_dropsFrom_4 : List UInt8 := dkwX3_dropsFrom_4 ++ []
def dkwX3_dropsFrom_3 : List UInt8 := [3, 54, 4, 21, 4, 17, 3, 25, 162, 0, 23, 42, 180, 0, 7, 21, 4, 42, 180, 0, 22, 21, 4, 46]
abbrev dktX3_dropsFrom_3 : List UInt8 := dkwX3_dropsFrom_3 ++ dktX3_dropsFrom_4
def dkwX3_dropsFrom_2 : List UInt8 := [79, 132, 3, 1, 167, 255, 234, 3, 62, 42, 27, 28, 182, 0, 119, 154, 0, 9, 132, 3, 1, 167, 255, 244]
abbrev dktX3_dropsFrom_2 : List UInt8 := dkwX3_dropsFrom_2 ++ dktX3_dropsFrom_3
def dkwX3_dropsFrom_1 : List UInt8 := [182, 0, 63, 172, 3, 62, 29, 17, 3, 25, 162, 0, 21, 42, 180, 0, 22, 29, 42, 180, 0, 7, 29, 46]
abbrev dktX3_dropsFrom_1 : List UInt8 := dkwX3_dropsFrom_1 ++ dktX3_dropsFrom_2
def dkwX3_dropsFrom_0 : List UInt8 := [42, 3, 181, 0, 38, 42, 27, 182, 0, 167, 153, 0, 11, 42, 28, 182, 0, 155, 154, 0, 9, 42, 4]
abbrev dktX3_dropsFrom_0 : List UInt8 := dkwX3_dropsFrom_0 ++ dktX3_dropsFrom_1
theorem dksX3_dropsFrom_0 : cX3_dropsFrom.data.toList.drop 0 = dktX3_dropsFrom_0 := by decide +kernel
theorem dksX3_dropsFrom_1 : cX3_dropsFrom.data.toList.drop 23 = dktX3_dropsFrom_1 := dk_seg dksX3_dropsFrom_0 23 rfl rfl
theorem dksX3_dropsFrom_2 : cX3_dropsFrom.data.toList.drop 47 = dktX3_dropsFrom_2 := dk_seg dksX3_dropsFrom_1 24 rfl rfl
theorem dksX3_dropsFrom_3 : cX3_dropsFrom.data.toList.drop 71 = dktX3_dropsFrom_3 := dk_seg dksX3_dropsFrom_2 24 rfl rfl
theorem dksX3_dropsFrom_4 : cX3_dropsFrom.data.toList.drop 95 = dktX3_dropsFrom_4 := dk_seg dksX3_dropsFrom_3 24 rfl rfl
theorem dX3_dropsFrom_0 : decode cX3_dropsFrom 0 = .ok (.aload_n 0, 1) := dk_42 (dk_at dksX3_dropsFrom_0 0 rfl rfl)
theorem dX3_dropsFrom_1 : decode cX3_dropsFrom 1 = .ok (.iconst 0, 1) := dk_3 (dk_at dksX3_dropsFrom_0 1 rfl rfl)
theorem dX3_dropsFrom_2 : decode cX3_dropsFrom 2 = .ok (.putfield 38, 3) := dk_181 0 38 (dk_at dksX3_dropsFrom_0 2 rfl rfl)
theorem dX3_dropsFrom_5 : decode cX3_dropsFrom 5 = .ok (.aload_n 0, 1) := dk_42 (dk_at dksX3_dropsFrom_0 5 rfl rfl)
theorem dX3_dropsFrom_6 : decode cX3_dropsFrom 6 = .ok (.iload_n 1, 1) := dk_27 (dk_at dksX3_dropsFrom_0 6 rfl rfl)
theorem dX3_dropsFrom_7 : decode cX3_dropsFrom 7 = .ok (.invokevirtual 167, 3) := dk_182 0 167 (dk_at dksX3_dropsFrom_0 7 rfl rfl)
theorem dX3_dropsFrom_10 : decode cX3_dropsFrom 10 = .ok (.ifCond .eq 11, 3) := dk_153 0 11 (dk_at dksX3_dropsFrom_0 10 rfl rfl)
theorem dX3_dropsFrom_13 : decode cX3_dropsFrom 13 = .ok (.aload_n 0, 1) := dk_42 (dk_at dksX3_dropsFrom_0 13 rfl rfl)
theorem dX3_dropsFrom_14 : decode cX3_dropsFrom 14 = .ok (.iload_n 2, 1) := dk_28 (dk_at dksX3_dropsFrom_0 14 rfl rfl)
theorem dX3_dropsFrom_15 : decode cX3_dropsFrom 15 = .ok (.invokevirtual 155, 3) := dk_182 0 155 (dk_at dksX3_dropsFrom_0 15 rfl rfl)
theorem dX3_dropsFrom_18 : decode cX3_dropsFrom 18 = .ok (.ifCond .ne 9, 3) := dk_154 0 9 (dk_at dksX3_dropsFrom_0 18 rfl rfl)
theorem dX3_dropsFrom_21 : decode cX3_dropsFrom 21 = .ok (.aload_n 0, 1) := dk_42 (dk_at dksX3_dropsFrom_0 21 rfl rfl)
theorem dX3_dropsFrom_22 : decode cX3_dropsFrom 22 = .ok (.iconst 1, 1) := dk_4 (dk_at dksX3_dropsFrom_0 22 rfl rfl)
theorem dX3_dropsFrom_23 : decode cX3_dropsFrom 23 = .ok (.invokevirtual 63, 3) := dk_182 0 63 (dk_at dksX3_dropsFrom_1 0 rfl rfl)
theorem dX3_dropsFrom_26 : decode cX3_dropsFrom 26 = .ok (.ireturn, 1) := dk_172 (dk_at dksX3_dropsFrom_1 3 rfl rfl)
theorem dX3_dropsFrom_27 : decode cX3_dropsFrom 27 = .ok (.iconst 0, 1) := dk_3 (dk_at dksX3_dropsFrom_1 4 rfl rfl)
theorem dX3_dropsFrom_28 : decode cX3_dropsFrom 28 = .ok (.istore_n 3, 1) := dk_62 (dk_at dksX3_dropsFrom_1 5 rfl rfl)
theorem dX3_dropsFrom_29 : decode cX3_dropsFrom 29 = .ok (.iload_n 3, 1) := dk_29 (dk_at dksX3_dropsFrom_1 6 rfl rfl)
theorem dX3_dropsFrom_30 : decode cX3_dropsFrom 30 = .ok (.sipush 793, 3) := dk_17 3 25 (dk_at dksX3_dropsFrom_1 7 rfl rfl)
theorem dX3_dropsFrom_33 : decode cX3_dropsFrom 33 = .ok (.if_icmp .ge 21, 3) := dk_162 0 21 (dk_at dksX3_dropsFrom_1 10 rfl rfl)
theorem dX3_dropsFrom_36 : decode cX3_dropsFrom 36 = .ok (.aload_n 0, 1) := dk_42 (dk_at dksX3_dropsFrom_1 13 rfl rfl)
theorem dX3_dropsFrom_37 : decode cX3_dropsFrom 37 = .ok (.getfield 22, 3) := dk_180 0 22 (dk_at dksX3_dropsFrom_1 14 rfl rfl)
theorem dX3_dropsFrom_40 : decode cX3_dropsFrom 40 = .ok (.iload_n 3, 1) := dk_29 (dk_at dksX3_dropsFrom_1 17 rfl rfl)
theorem dX3_dropsFrom_41 : decode cX3_dropsFrom 41 = .ok (.aload_n 0, 1) := dk_42 (dk_at dksX3_dropsFrom_1 18 rfl rfl)
theorem dX3_dropsFrom_42 : decode cX3_dropsFrom 42 = .ok (.getfield 7, 3) := dk_180 0 7 (dk_at dksX3_dropsFrom_1 19 rfl rfl)
theorem dX3_dropsFrom_45 : decode cX3_dropsFrom 45 = .ok (.iload_n 3, 1) := dk_29 (dk_at dksX3_dropsFrom_1 22 rfl rfl)
theorem dX3_dropsFrom_46 : decode cX3_dropsFrom 46 = .ok (.iaload, 1) := dk_46 (dk_at dksX3_dropsFrom_1 23 rfl rfl)
theorem dX3_dropsFrom_47 : decode cX3_dropsFrom 47 = .ok (.iastore, 1) := dk_79 (dk_at dksX3_dropsFrom_2 0 rfl rfl)
theorem dX3_dropsFrom_48 : decode cX3_dropsFrom 48 = .ok (.iinc 3 1, 3) := dk_132 3 1 (dk_at dksX3_dropsFrom_2 1 rfl rfl)
theorem dX3_dropsFrom_51 : decode cX3_dropsFrom 51 = .ok (.goto (-22), 3) := dk_167 255 234 (dk_at dksX3_dropsFrom_2 4 rfl rfl)
theorem dX3_dropsFrom_54 : decode cX3_dropsFrom 54 = .ok (.iconst 0, 1) := dk_3 (dk_at dksX3_dropsFrom_2 7 rfl rfl)
theorem dX3_dropsFrom_55 : decode cX3_dropsFrom 55 = .ok (.istore_n 3, 1) := dk_62 (dk_at dksX3_dropsFrom_2 8 rfl rfl)
theorem dX3_dropsFrom_56 : decode cX3_dropsFrom 56 = .ok (.aload_n 0, 1) := dk_42 (dk_at dksX3_dropsFrom_2 9 rfl rfl)
theorem dX3_dropsFrom_57 : decode cX3_dropsFrom 57 = .ok (.iload_n 1, 1) := dk_27 (dk_at dksX3_dropsFrom_2 10 rfl rfl)
theorem dX3_dropsFrom_58 : decode cX3_dropsFrom 58 = .ok (.iload_n 2, 1) := dk_28 (dk_at dksX3_dropsFrom_2 11 rfl rfl)
theorem dX3_dropsFrom_59 : decode cX3_dropsFrom 59 = .ok (.invokevirtual 119, 3) := dk_182 0 119 (dk_at dksX3_dropsFrom_2 12 rfl rfl)
theorem dX3_dropsFrom_62 : decode cX3_dropsFrom 62 = .ok (.ifCond .ne 9, 3) := dk_154 0 9 (dk_at dksX3_dropsFrom_2 15 rfl rfl)
theorem dX3_dropsFrom_65 : decode cX3_dropsFrom 65 = .ok (.iinc 3 1, 3) := dk_132 3 1 (dk_at dksX3_dropsFrom_2 18 rfl rfl)
theorem dX3_dropsFrom_68 : decode cX3_dropsFrom 68 = .ok (.goto (-12), 3) := dk_167 255 244 (dk_at dksX3_dropsFrom_2 21 rfl rfl)
theorem dX3_dropsFrom_71 : decode cX3_dropsFrom 71 = .ok (.iconst 0, 1) := dk_3 (dk_at dksX3_dropsFrom_3 0 rfl rfl)
theorem dX3_dropsFrom_72 : decode cX3_dropsFrom 72 = .ok (.istore 4, 2) := dk_54 4 (dk_at dksX3_dropsFrom_3 1 rfl rfl)
theorem dX3_dropsFrom_74 : decode cX3_dropsFrom 74 = .ok (.iload 4, 2) := dk_21 4 (dk_at dksX3_dropsFrom_3 3 rfl rfl)
theorem dX3_dropsFrom_76 : decode cX3_dropsFrom 76 = .ok (.sipush 793, 3) := dk_17 3 25 (dk_at dksX3_dropsFrom_3 5 rfl rfl)
theorem dX3_dropsFrom_79 : decode cX3_dropsFrom 79 = .ok (.if_icmp .ge 23, 3) := dk_162 0 23 (dk_at dksX3_dropsFrom_3 8 rfl rfl)
theorem dX3_dropsFrom_82 : decode cX3_dropsFrom 82 = .ok (.aload_n 0, 1) := dk_42 (dk_at dksX3_dropsFrom_3 11 rfl rfl)
theorem dX3_dropsFrom_83 : decode cX3_dropsFrom 83 = .ok (.getfield 7, 3) := dk_180 0 7 (dk_at dksX3_dropsFrom_3 12 rfl rfl)
theorem dX3_dropsFrom_86 : decode cX3_dropsFrom 86 = .ok (.iload 4, 2) := dk_21 4 (dk_at dksX3_dropsFrom_3 15 rfl rfl)
theorem dX3_dropsFrom_88 : decode cX3_dropsFrom 88 = .ok (.aload_n 0, 1) := dk_42 (dk_at dksX3_dropsFrom_3 17 rfl rfl)
theorem dX3_dropsFrom_89 : decode cX3_dropsFrom 89 = .ok (.getfield 22, 3) := dk_180 0 22 (dk_at dksX3_dropsFrom_3 18 rfl rfl)
theorem dX3_dropsFrom_92 : decode cX3_dropsFrom 92 = .ok (.iload 4, 2) := dk_21 4 (dk_at dksX3_dropsFrom_3 21 rfl rfl)
theorem dX3_dropsFrom_94 : decode cX3_dropsFrom 94 = .ok (.iaload, 1) := dk_46 (dk_at dksX3_dropsFrom_3 23 rfl rfl)
theorem dX3_dropsFrom_95 : decode cX3_dropsFrom 95 = .ok (.iastore, 1) := dk_79 (dk_at dksX3_dropsFrom_4 0 rfl rfl)
theorem dX3_dropsFrom_96 : decode cX3_dropsFrom 96 = .ok (.iinc 4 1, 3) := dk_132 4 1 (dk_at dksX3_dropsFrom_4 1 rfl rfl)
theorem dX3_dropsFrom_99 : decode cX3_dropsFrom 99 = .ok (.goto (-25), 3) := dk_167 255 231 (dk_at dksX3_dropsFrom_4 4 rfl rfl)
theorem dX3_dropsFrom_102 : decode cX3_dropsFrom 102 = .ok (.iload_n 3, 1) := dk_29 (dk_at dksX3_dropsFrom_4 7 rfl rfl)
theorem dX3_dropsFrom_103 : decode cX3_dropsFrom 103 = .ok (.ireturn, 1) := dk_172 (dk_at dksX3_dropsFrom_4 8 rfl rfl)
abbrev cX3_dropsAgain : ByteArray := prog_19_method_59_code
def yX3_dropsAgain : MethodName := ⟨RX3, "dropsAgain", "(II)I"⟩
def dkwX3_dropsAgain_0 : List UInt8 := [42, 27, 28, 182, 0, 176, 172]
abbrev dktX3_dropsAgain_0 : List UInt8 := dkwX3_dropsAgain_0 ++ []
theorem dksX3_dropsAgain_0 : cX3_dropsAgain.data.toList.drop 0 = dktX3_dropsAgain_0 := by decide +kernel
theorem dX3_dropsAgain_0 : decode cX3_dropsAgain 0 = .ok (.aload_n 0, 1) := dk_42 (dk_at dksX3_dropsAgain_0 0 rfl rfl)
theorem dX3_dropsAgain_1 : decode cX3_dropsAgain 1 = .ok (.iload_n 1, 1) := dk_27 (dk_at dksX3_dropsAgain_0 1 rfl rfl)
theorem dX3_dropsAgain_2 : decode cX3_dropsAgain 2 = .ok (.iload_n 2, 1) := dk_28 (dk_at dksX3_dropsAgain_0 2 rfl rfl)
theorem dX3_dropsAgain_3 : decode cX3_dropsAgain 3 = .ok (.invokevirtual 176, 3) := dk_182 0 176 (dk_at dksX3_dropsAgain_0 3 rfl rfl)
theorem dX3_dropsAgain_6 : decode cX3_dropsAgain 6 = .ok (.ireturn, 1) := dk_172 (dk_at dksX3_dropsAgain_0 6 rfl rfl)
abbrev cX3_line : ByteArray := prog_19_method_63_code
def yX3_line : MethodName := ⟨RX3, "line", "(I)I"⟩
def dkwX3_line_4 : List UInt8 := [7, 182, 0, 70, 154, 0, 8, 18, 211, 167, 0, 5, 18, 213, 182, 0, 201, 42, 180, 0, 179, 172]
abbrev dktX3_line_4 : List UInt8 := dkwX3_line_4 ++ []
def dkwX3_line_3 : List UInt8 := [182, 0, 70, 182, 0, 196, 42, 42, 27, 8, 182, 0, 70, 4, 160, 0, 8, 18, 209, 167, 0, 19, 42, 27]
abbrev dktX3_line_3 : List UInt8 := dkwX3_line_3 ++ dktX3_line_4
def dkwX3_line_2 : List UInt8 := [182, 0, 201, 42, 42, 27, 5, 182, 0, 70, 182, 0, 196, 42, 18, 207, 182, 0, 201, 42, 42, 27, 6]
abbrev dktX3_line_2 : List UInt8 := dkwX3_line_2 ++ dktX3_line_3
def dkwX3_line_1 : List UInt8 := [42, 27, 182, 0, 196, 42, 18, 199, 182, 0, 201, 42, 42, 27, 182, 0, 107, 182, 0, 196, 42, 18, 205]
abbrev dktX3_line_1 : List UInt8 := dkwX3_line_1 ++ dktX3_line_2
def dkwX3_line_0 : List UInt8 := [42, 3, 181, 0, 38, 42, 27, 182, 0, 155, 154, 0, 9, 42, 4, 182, 0, 63, 172, 42, 3, 181, 0, 179]
abbrev dktX3_line_0 : List UInt8 := dkwX3_line_0 ++ dktX3_line_1
theorem dksX3_line_0 : cX3_line.data.toList.drop 0 = dktX3_line_0 := by decide +kernel
theorem dksX3_line_1 : cX3_line.data.toList.drop 24 = dktX3_line_1 := dk_seg dksX3_line_0 24 rfl rfl
theorem dksX3_line_2 : cX3_line.data.toList.drop 47 = dktX3_line_2 := dk_seg dksX3_line_1 23 rfl rfl
theorem dksX3_line_3 : cX3_line.data.toList.drop 70 = dktX3_line_3 := dk_seg dksX3_line_2 23 rfl rfl
theorem dksX3_line_4 : cX3_line.data.toList.drop 94 = dktX3_line_4 := dk_seg dksX3_line_3 24 rfl rfl
theorem dX3_line_0 : decode cX3_line 0 = .ok (.aload_n 0, 1) := dk_42 (dk_at dksX3_line_0 0 rfl rfl)
theorem dX3_line_1 : decode cX3_line 1 = .ok (.iconst 0, 1) := dk_3 (dk_at dksX3_line_0 1 rfl rfl)
theorem dX3_line_2 : decode cX3_line 2 = .ok (.putfield 38, 3) := dk_181 0 38 (dk_at dksX3_line_0 2 rfl rfl)
theorem dX3_line_5 : decode cX3_line 5 = .ok (.aload_n 0, 1) := dk_42 (dk_at dksX3_line_0 5 rfl rfl)
theorem dX3_line_6 : decode cX3_line 6 = .ok (.iload_n 1, 1) := dk_27 (dk_at dksX3_line_0 6 rfl rfl)
theorem dX3_line_7 : decode cX3_line 7 = .ok (.invokevirtual 155, 3) := dk_182 0 155 (dk_at dksX3_line_0 7 rfl rfl)
theorem dX3_line_10 : decode cX3_line 10 = .ok (.ifCond .ne 9, 3) := dk_154 0 9 (dk_at dksX3_line_0 10 rfl rfl)
theorem dX3_line_13 : decode cX3_line 13 = .ok (.aload_n 0, 1) := dk_42 (dk_at dksX3_line_0 13 rfl rfl)
theorem dX3_line_14 : decode cX3_line 14 = .ok (.iconst 1, 1) := dk_4 (dk_at dksX3_line_0 14 rfl rfl)
theorem dX3_line_15 : decode cX3_line 15 = .ok (.invokevirtual 63, 3) := dk_182 0 63 (dk_at dksX3_line_0 15 rfl rfl)
theorem dX3_line_18 : decode cX3_line 18 = .ok (.ireturn, 1) := dk_172 (dk_at dksX3_line_0 18 rfl rfl)
theorem dX3_line_19 : decode cX3_line 19 = .ok (.aload_n 0, 1) := dk_42 (dk_at dksX3_line_0 19 rfl rfl)
theorem dX3_line_20 : decode cX3_line 20 = .ok (.iconst 0, 1) := dk_3 (dk_at dksX3_line_0 20 rfl rfl)
theorem dX3_line_21 : decode cX3_line 21 = .ok (.putfield 179, 3) := dk_181 0 179 (dk_at dksX3_line_0 21 rfl rfl)
theorem dX3_line_24 : decode cX3_line 24 = .ok (.aload_n 0, 1) := dk_42 (dk_at dksX3_line_1 0 rfl rfl)
theorem dX3_line_25 : decode cX3_line 25 = .ok (.iload_n 1, 1) := dk_27 (dk_at dksX3_line_1 1 rfl rfl)
theorem dX3_line_26 : decode cX3_line 26 = .ok (.invokevirtual 196, 3) := dk_182 0 196 (dk_at dksX3_line_1 2 rfl rfl)
theorem dX3_line_29 : decode cX3_line 29 = .ok (.aload_n 0, 1) := dk_42 (dk_at dksX3_line_1 5 rfl rfl)
theorem dX3_line_30 : decode cX3_line 30 = .ok (.ldc 199, 2) := dk_18 199 (dk_at dksX3_line_1 6 rfl rfl)
theorem dX3_line_32 : decode cX3_line 32 = .ok (.invokevirtual 201, 3) := dk_182 0 201 (dk_at dksX3_line_1 8 rfl rfl)
theorem dX3_line_35 : decode cX3_line 35 = .ok (.aload_n 0, 1) := dk_42 (dk_at dksX3_line_1 11 rfl rfl)
theorem dX3_line_36 : decode cX3_line 36 = .ok (.aload_n 0, 1) := dk_42 (dk_at dksX3_line_1 12 rfl rfl)
theorem dX3_line_37 : decode cX3_line 37 = .ok (.iload_n 1, 1) := dk_27 (dk_at dksX3_line_1 13 rfl rfl)
theorem dX3_line_38 : decode cX3_line 38 = .ok (.invokevirtual 107, 3) := dk_182 0 107 (dk_at dksX3_line_1 14 rfl rfl)
theorem dX3_line_41 : decode cX3_line 41 = .ok (.invokevirtual 196, 3) := dk_182 0 196 (dk_at dksX3_line_1 17 rfl rfl)
theorem dX3_line_44 : decode cX3_line 44 = .ok (.aload_n 0, 1) := dk_42 (dk_at dksX3_line_1 20 rfl rfl)
theorem dX3_line_45 : decode cX3_line 45 = .ok (.ldc 205, 2) := dk_18 205 (dk_at dksX3_line_1 21 rfl rfl)
theorem dX3_line_47 : decode cX3_line 47 = .ok (.invokevirtual 201, 3) := dk_182 0 201 (dk_at dksX3_line_2 0 rfl rfl)
theorem dX3_line_50 : decode cX3_line 50 = .ok (.aload_n 0, 1) := dk_42 (dk_at dksX3_line_2 3 rfl rfl)
theorem dX3_line_51 : decode cX3_line 51 = .ok (.aload_n 0, 1) := dk_42 (dk_at dksX3_line_2 4 rfl rfl)
theorem dX3_line_52 : decode cX3_line 52 = .ok (.iload_n 1, 1) := dk_27 (dk_at dksX3_line_2 5 rfl rfl)
theorem dX3_line_53 : decode cX3_line 53 = .ok (.iconst 2, 1) := dk_5 (dk_at dksX3_line_2 6 rfl rfl)
theorem dX3_line_54 : decode cX3_line 54 = .ok (.invokevirtual 70, 3) := dk_182 0 70 (dk_at dksX3_line_2 7 rfl rfl)
theorem dX3_line_57 : decode cX3_line 57 = .ok (.invokevirtual 196, 3) := dk_182 0 196 (dk_at dksX3_line_2 10 rfl rfl)
theorem dX3_line_60 : decode cX3_line 60 = .ok (.aload_n 0, 1) := dk_42 (dk_at dksX3_line_2 13 rfl rfl)
theorem dX3_line_61 : decode cX3_line 61 = .ok (.ldc 207, 2) := dk_18 207 (dk_at dksX3_line_2 14 rfl rfl)
theorem dX3_line_63 : decode cX3_line 63 = .ok (.invokevirtual 201, 3) := dk_182 0 201 (dk_at dksX3_line_2 16 rfl rfl)
theorem dX3_line_66 : decode cX3_line 66 = .ok (.aload_n 0, 1) := dk_42 (dk_at dksX3_line_2 19 rfl rfl)
theorem dX3_line_67 : decode cX3_line 67 = .ok (.aload_n 0, 1) := dk_42 (dk_at dksX3_line_2 20 rfl rfl)
theorem dX3_line_68 : decode cX3_line 68 = .ok (.iload_n 1, 1) := dk_27 (dk_at dksX3_line_2 21 rfl rfl)
theorem dX3_line_69 : decode cX3_line 69 = .ok (.iconst 3, 1) := dk_6 (dk_at dksX3_line_2 22 rfl rfl)
theorem dX3_line_70 : decode cX3_line 70 = .ok (.invokevirtual 70, 3) := dk_182 0 70 (dk_at dksX3_line_3 0 rfl rfl)
theorem dX3_line_73 : decode cX3_line 73 = .ok (.invokevirtual 196, 3) := dk_182 0 196 (dk_at dksX3_line_3 3 rfl rfl)
theorem dX3_line_76 : decode cX3_line 76 = .ok (.aload_n 0, 1) := dk_42 (dk_at dksX3_line_3 6 rfl rfl)
theorem dX3_line_77 : decode cX3_line 77 = .ok (.aload_n 0, 1) := dk_42 (dk_at dksX3_line_3 7 rfl rfl)
theorem dX3_line_78 : decode cX3_line 78 = .ok (.iload_n 1, 1) := dk_27 (dk_at dksX3_line_3 8 rfl rfl)
theorem dX3_line_79 : decode cX3_line 79 = .ok (.iconst 5, 1) := dk_8 (dk_at dksX3_line_3 9 rfl rfl)
theorem dX3_line_80 : decode cX3_line 80 = .ok (.invokevirtual 70, 3) := dk_182 0 70 (dk_at dksX3_line_3 10 rfl rfl)
theorem dX3_line_83 : decode cX3_line 83 = .ok (.iconst 1, 1) := dk_4 (dk_at dksX3_line_3 13 rfl rfl)
theorem dX3_line_84 : decode cX3_line 84 = .ok (.if_icmp .ne 8, 3) := dk_160 0 8 (dk_at dksX3_line_3 14 rfl rfl)
theorem dX3_line_87 : decode cX3_line 87 = .ok (.ldc 209, 2) := dk_18 209 (dk_at dksX3_line_3 17 rfl rfl)
theorem dX3_line_89 : decode cX3_line 89 = .ok (.goto 19, 3) := dk_167 0 19 (dk_at dksX3_line_3 19 rfl rfl)
theorem dX3_line_92 : decode cX3_line 92 = .ok (.aload_n 0, 1) := dk_42 (dk_at dksX3_line_3 22 rfl rfl)
theorem dX3_line_93 : decode cX3_line 93 = .ok (.iload_n 1, 1) := dk_27 (dk_at dksX3_line_3 23 rfl rfl)
theorem dX3_line_94 : decode cX3_line 94 = .ok (.iconst 4, 1) := dk_7 (dk_at dksX3_line_4 0 rfl rfl)
theorem dX3_line_95 : decode cX3_line 95 = .ok (.invokevirtual 70, 3) := dk_182 0 70 (dk_at dksX3_line_4 1 rfl rfl)
theorem dX3_line_98 : decode cX3_line 98 = .ok (.ifCond .ne 8, 3) := dk_154 0 8 (dk_at dksX3_line_4 4 rfl rfl)
theorem dX3_line_101 : decode cX3_line 101 = .ok (.ldc 211, 2) := dk_18 211 (dk_at dksX3_line_4 7 rfl rfl)
theorem dX3_line_103 : decode cX3_line 103 = .ok (.goto 5, 3) := dk_167 0 5 (dk_at dksX3_line_4 9 rfl rfl)
theorem dX3_line_106 : decode cX3_line 106 = .ok (.ldc 213, 2) := dk_18 213 (dk_at dksX3_line_4 12 rfl rfl)
theorem dX3_line_108 : decode cX3_line 108 = .ok (.invokevirtual 201, 3) := dk_182 0 201 (dk_at dksX3_line_4 14 rfl rfl)
theorem dX3_line_111 : decode cX3_line 111 = .ok (.aload_n 0, 1) := dk_42 (dk_at dksX3_line_4 17 rfl rfl)
theorem dX3_line_112 : decode cX3_line 112 = .ok (.getfield 179, 3) := dk_180 0 179 (dk_at dksX3_line_4 18 rfl rfl)
theorem dX3_line_115 : decode cX3_line 115 = .ok (.ireturn, 1) := dk_172 (dk_at dksX3_line_4 21 rfl rfl)
abbrev cX3_putsNumber : ByteArray := prog_19_method_61_code
def yX3_putsNumber : MethodName := ⟨RX3, "putsNumber", "(I)V"⟩
def dkwX3_putsNumber_1 : List UInt8 := [42, 16, 48, 27, 29, 108, 16, 10, 112, 96, 182, 0, 182, 29, 16, 10, 108, 62, 167, 255, 234, 177]
abbrev dktX3_putsNumber_1 : List UInt8 := dkwX3_putsNumber_1 ++ []
def dkwX3_putsNumber_0 : List UInt8 := [4, 61, 27, 28, 108, 16, 9, 164, 0, 11, 28, 16, 10, 104, 61, 167, 255, 243, 28, 62, 29, 158, 0, 24]
abbrev dktX3_putsNumber_0 : List UInt8 := dkwX3_putsNumber_0 ++ dktX3_putsNumber_1
theorem dksX3_putsNumber_0 : cX3_putsNumber.data.toList.drop 0 = dktX3_putsNumber_0 := by decide +kernel
theorem dksX3_putsNumber_1 : cX3_putsNumber.data.toList.drop 24 = dktX3_putsNumber_1 := dk_seg dksX3_putsNumber_0 24 rfl rfl
theorem dX3_putsNumber_0 : decode cX3_putsNumber 0 = .ok (.iconst 1, 1) := dk_4 (dk_at dksX3_putsNumber_0 0 rfl rfl)
theorem dX3_putsNumber_1 : decode cX3_putsNumber 1 = .ok (.istore_n 2, 1) := dk_61 (dk_at dksX3_putsNumber_0 1 rfl rfl)
theorem dX3_putsNumber_2 : decode cX3_putsNumber 2 = .ok (.iload_n 1, 1) := dk_27 (dk_at dksX3_putsNumber_0 2 rfl rfl)
theorem dX3_putsNumber_3 : decode cX3_putsNumber 3 = .ok (.iload_n 2, 1) := dk_28 (dk_at dksX3_putsNumber_0 3 rfl rfl)
theorem dX3_putsNumber_4 : decode cX3_putsNumber 4 = .ok (.idiv, 1) := dk_108 (dk_at dksX3_putsNumber_0 4 rfl rfl)
theorem dX3_putsNumber_5 : decode cX3_putsNumber 5 = .ok (.bipush 9, 2) := dk_16 9 (dk_at dksX3_putsNumber_0 5 rfl rfl)
theorem dX3_putsNumber_7 : decode cX3_putsNumber 7 = .ok (.if_icmp .le 11, 3) := dk_164 0 11 (dk_at dksX3_putsNumber_0 7 rfl rfl)
theorem dX3_putsNumber_10 : decode cX3_putsNumber 10 = .ok (.iload_n 2, 1) := dk_28 (dk_at dksX3_putsNumber_0 10 rfl rfl)
theorem dX3_putsNumber_11 : decode cX3_putsNumber 11 = .ok (.bipush 10, 2) := dk_16 10 (dk_at dksX3_putsNumber_0 11 rfl rfl)
theorem dX3_putsNumber_13 : decode cX3_putsNumber 13 = .ok (.imul, 1) := dk_104 (dk_at dksX3_putsNumber_0 13 rfl rfl)
theorem dX3_putsNumber_14 : decode cX3_putsNumber 14 = .ok (.istore_n 2, 1) := dk_61 (dk_at dksX3_putsNumber_0 14 rfl rfl)
theorem dX3_putsNumber_15 : decode cX3_putsNumber 15 = .ok (.goto (-13), 3) := dk_167 255 243 (dk_at dksX3_putsNumber_0 15 rfl rfl)
theorem dX3_putsNumber_18 : decode cX3_putsNumber 18 = .ok (.iload_n 2, 1) := dk_28 (dk_at dksX3_putsNumber_0 18 rfl rfl)
theorem dX3_putsNumber_19 : decode cX3_putsNumber 19 = .ok (.istore_n 3, 1) := dk_62 (dk_at dksX3_putsNumber_0 19 rfl rfl)
theorem dX3_putsNumber_20 : decode cX3_putsNumber 20 = .ok (.iload_n 3, 1) := dk_29 (dk_at dksX3_putsNumber_0 20 rfl rfl)
theorem dX3_putsNumber_21 : decode cX3_putsNumber 21 = .ok (.ifCond .le 24, 3) := dk_158 0 24 (dk_at dksX3_putsNumber_0 21 rfl rfl)
theorem dX3_putsNumber_24 : decode cX3_putsNumber 24 = .ok (.aload_n 0, 1) := dk_42 (dk_at dksX3_putsNumber_1 0 rfl rfl)
theorem dX3_putsNumber_25 : decode cX3_putsNumber 25 = .ok (.bipush 48, 2) := dk_16 48 (dk_at dksX3_putsNumber_1 1 rfl rfl)
theorem dX3_putsNumber_27 : decode cX3_putsNumber 27 = .ok (.iload_n 1, 1) := dk_27 (dk_at dksX3_putsNumber_1 3 rfl rfl)
theorem dX3_putsNumber_28 : decode cX3_putsNumber 28 = .ok (.iload_n 3, 1) := dk_29 (dk_at dksX3_putsNumber_1 4 rfl rfl)
theorem dX3_putsNumber_29 : decode cX3_putsNumber 29 = .ok (.idiv, 1) := dk_108 (dk_at dksX3_putsNumber_1 5 rfl rfl)
theorem dX3_putsNumber_30 : decode cX3_putsNumber 30 = .ok (.bipush 10, 2) := dk_16 10 (dk_at dksX3_putsNumber_1 6 rfl rfl)
theorem dX3_putsNumber_32 : decode cX3_putsNumber 32 = .ok (.irem, 1) := dk_112 (dk_at dksX3_putsNumber_1 8 rfl rfl)
theorem dX3_putsNumber_33 : decode cX3_putsNumber 33 = .ok (.iadd, 1) := dk_96 (dk_at dksX3_putsNumber_1 9 rfl rfl)
theorem dX3_putsNumber_34 : decode cX3_putsNumber 34 = .ok (.invokevirtual 182, 3) := dk_182 0 182 (dk_at dksX3_putsNumber_1 10 rfl rfl)
theorem dX3_putsNumber_37 : decode cX3_putsNumber 37 = .ok (.iload_n 3, 1) := dk_29 (dk_at dksX3_putsNumber_1 13 rfl rfl)
theorem dX3_putsNumber_38 : decode cX3_putsNumber 38 = .ok (.bipush 10, 2) := dk_16 10 (dk_at dksX3_putsNumber_1 14 rfl rfl)
theorem dX3_putsNumber_40 : decode cX3_putsNumber 40 = .ok (.idiv, 1) := dk_108 (dk_at dksX3_putsNumber_1 16 rfl rfl)
theorem dX3_putsNumber_41 : decode cX3_putsNumber 41 = .ok (.istore_n 3, 1) := dk_62 (dk_at dksX3_putsNumber_1 17 rfl rfl)
theorem dX3_putsNumber_42 : decode cX3_putsNumber 42 = .ok (.goto (-22), 3) := dk_167 255 234 (dk_at dksX3_putsNumber_1 18 rfl rfl)
theorem dX3_putsNumber_45 : decode cX3_putsNumber 45 = .ok (.return_, 1) := dk_177 (dk_at dksX3_putsNumber_1 21 rfl rfl)
abbrev cX3_puts : ByteArray := prog_19_method_60_code
def yX3_puts : MethodName := ⟨RX3, "puts", "(I)V"⟩
def dkwX3_puts_0 : List UInt8 := [42, 180, 0, 31, 42, 180, 0, 179, 27, 79, 42, 89, 180, 0, 179, 4, 96, 181, 0, 179, 177]
abbrev dktX3_puts_0 : List UInt8 := dkwX3_puts_0 ++ []
theorem dksX3_puts_0 : cX3_puts.data.toList.drop 0 = dktX3_puts_0 := by decide +kernel
theorem dX3_puts_0 : decode cX3_puts 0 = .ok (.aload_n 0, 1) := dk_42 (dk_at dksX3_puts_0 0 rfl rfl)
theorem dX3_puts_1 : decode cX3_puts 1 = .ok (.getfield 31, 3) := dk_180 0 31 (dk_at dksX3_puts_0 1 rfl rfl)
theorem dX3_puts_4 : decode cX3_puts 4 = .ok (.aload_n 0, 1) := dk_42 (dk_at dksX3_puts_0 4 rfl rfl)
theorem dX3_puts_5 : decode cX3_puts 5 = .ok (.getfield 179, 3) := dk_180 0 179 (dk_at dksX3_puts_0 5 rfl rfl)
theorem dX3_puts_8 : decode cX3_puts 8 = .ok (.iload_n 1, 1) := dk_27 (dk_at dksX3_puts_0 8 rfl rfl)
theorem dX3_puts_9 : decode cX3_puts 9 = .ok (.iastore, 1) := dk_79 (dk_at dksX3_puts_0 9 rfl rfl)
theorem dX3_puts_10 : decode cX3_puts 10 = .ok (.aload_n 0, 1) := dk_42 (dk_at dksX3_puts_0 10 rfl rfl)
theorem dX3_puts_11 : decode cX3_puts 11 = .ok (.dup, 1) := dk_89 (dk_at dksX3_puts_0 11 rfl rfl)
theorem dX3_puts_12 : decode cX3_puts 12 = .ok (.getfield 179, 3) := dk_180 0 179 (dk_at dksX3_puts_0 12 rfl rfl)
theorem dX3_puts_15 : decode cX3_puts 15 = .ok (.iconst 1, 1) := dk_4 (dk_at dksX3_puts_0 15 rfl rfl)
theorem dX3_puts_16 : decode cX3_puts 16 = .ok (.iadd, 1) := dk_96 (dk_at dksX3_puts_0 16 rfl rfl)
theorem dX3_puts_17 : decode cX3_puts 17 = .ok (.putfield 179, 3) := dk_181 0 179 (dk_at dksX3_puts_0 17 rfl rfl)
theorem dX3_puts_20 : decode cX3_puts 20 = .ok (.return_, 1) := dk_177 (dk_at dksX3_puts_0 20 rfl rfl)
abbrev cX3_putsWord : ByteArray := prog_19_method_62_code
def yX3_putsWord : MethodName := ⟨RX3, "putsWord", "(Ljava/lang/String;)V"⟩
def dkwX3_putsWord_1 : List UInt8 := [167, 255, 236, 177]
abbrev dktX3_putsWord_1 : List UInt8 := dkwX3_putsWord_1 ++ []
def dkwX3_putsWord_0 : List UInt8 := [3, 61, 28, 43, 182, 0, 186, 162, 0, 18, 42, 43, 28, 182, 0, 192, 182, 0, 182, 132, 2, 1]
abbrev dktX3_putsWord_0 : List UInt8 := dkwX3_putsWord_0 ++ dktX3_putsWord_1
theorem dksX3_putsWord_0 : cX3_putsWord.data.toList.drop 0 = dktX3_putsWord_0 := by decide +kernel
theorem dksX3_putsWord_1 : cX3_putsWord.data.toList.drop 22 = dktX3_putsWord_1 := dk_seg dksX3_putsWord_0 22 rfl rfl
theorem dX3_putsWord_0 : decode cX3_putsWord 0 = .ok (.iconst 0, 1) := dk_3 (dk_at dksX3_putsWord_0 0 rfl rfl)
theorem dX3_putsWord_1 : decode cX3_putsWord 1 = .ok (.istore_n 2, 1) := dk_61 (dk_at dksX3_putsWord_0 1 rfl rfl)
theorem dX3_putsWord_2 : decode cX3_putsWord 2 = .ok (.iload_n 2, 1) := dk_28 (dk_at dksX3_putsWord_0 2 rfl rfl)
theorem dX3_putsWord_3 : decode cX3_putsWord 3 = .ok (.aload_n 1, 1) := dk_43 (dk_at dksX3_putsWord_0 3 rfl rfl)
theorem dX3_putsWord_4 : decode cX3_putsWord 4 = .ok (.invokevirtual 186, 3) := dk_182 0 186 (dk_at dksX3_putsWord_0 4 rfl rfl)
theorem dX3_putsWord_7 : decode cX3_putsWord 7 = .ok (.if_icmp .ge 18, 3) := dk_162 0 18 (dk_at dksX3_putsWord_0 7 rfl rfl)
theorem dX3_putsWord_10 : decode cX3_putsWord 10 = .ok (.aload_n 0, 1) := dk_42 (dk_at dksX3_putsWord_0 10 rfl rfl)
theorem dX3_putsWord_11 : decode cX3_putsWord 11 = .ok (.aload_n 1, 1) := dk_43 (dk_at dksX3_putsWord_0 11 rfl rfl)
theorem dX3_putsWord_12 : decode cX3_putsWord 12 = .ok (.iload_n 2, 1) := dk_28 (dk_at dksX3_putsWord_0 12 rfl rfl)
theorem dX3_putsWord_13 : decode cX3_putsWord 13 = .ok (.invokevirtual 192, 3) := dk_182 0 192 (dk_at dksX3_putsWord_0 13 rfl rfl)
theorem dX3_putsWord_16 : decode cX3_putsWord 16 = .ok (.invokevirtual 182, 3) := dk_182 0 182 (dk_at dksX3_putsWord_0 16 rfl rfl)
theorem dX3_putsWord_19 : decode cX3_putsWord 19 = .ok (.iinc 2 1, 3) := dk_132 2 1 (dk_at dksX3_putsWord_0 19 rfl rfl)
theorem dX3_putsWord_22 : decode cX3_putsWord 22 = .ok (.goto (-20), 3) := dk_167 255 236 (dk_at dksX3_putsWord_1 0 rfl rfl)
theorem dX3_putsWord_25 : decode cX3_putsWord 25 = .ok (.return_, 1) := dk_177 (dk_at dksX3_putsWord_1 3 rfl rfl)
abbrev cX3_character : ByteArray := prog_19_method_64_code
def yX3_character : MethodName := ⟨RX3, "character", "(I)C"⟩
def dkwX3_character_1 : List UInt8 := [180, 0, 38, 158, 0, 7, 3, 167, 0, 10, 42, 180, 0, 31, 27, 46, 146, 172]
abbrev dktX3_character_1 : List UInt8 := dkwX3_character_1 ++ []
def dkwX3_character_0 : List UInt8 := [42, 27, 3, 42, 180, 0, 179, 4, 100, 184, 0, 66, 153, 0, 7, 3, 167, 0, 4, 4, 181, 0, 38, 42]
abbrev dktX3_character_0 : List UInt8 := dkwX3_character_0 ++ dktX3_character_1
theorem dksX3_character_0 : cX3_character.data.toList.drop 0 = dktX3_character_0 := by decide +kernel
theorem dksX3_character_1 : cX3_character.data.toList.drop 24 = dktX3_character_1 := dk_seg dksX3_character_0 24 rfl rfl
theorem dX3_character_0 : decode cX3_character 0 = .ok (.aload_n 0, 1) := dk_42 (dk_at dksX3_character_0 0 rfl rfl)
theorem dX3_character_1 : decode cX3_character 1 = .ok (.iload_n 1, 1) := dk_27 (dk_at dksX3_character_0 1 rfl rfl)
theorem dX3_character_2 : decode cX3_character 2 = .ok (.iconst 0, 1) := dk_3 (dk_at dksX3_character_0 2 rfl rfl)
theorem dX3_character_3 : decode cX3_character 3 = .ok (.aload_n 0, 1) := dk_42 (dk_at dksX3_character_0 3 rfl rfl)
theorem dX3_character_4 : decode cX3_character 4 = .ok (.getfield 179, 3) := dk_180 0 179 (dk_at dksX3_character_0 4 rfl rfl)
theorem dX3_character_7 : decode cX3_character 7 = .ok (.iconst 1, 1) := dk_4 (dk_at dksX3_character_0 7 rfl rfl)
theorem dX3_character_8 : decode cX3_character 8 = .ok (.isub, 1) := dk_100 (dk_at dksX3_character_0 8 rfl rfl)
theorem dX3_character_9 : decode cX3_character 9 = .ok (.invokestatic 66, 3) := dk_184 0 66 (dk_at dksX3_character_0 9 rfl rfl)
theorem dX3_character_12 : decode cX3_character 12 = .ok (.ifCond .eq 7, 3) := dk_153 0 7 (dk_at dksX3_character_0 12 rfl rfl)
theorem dX3_character_15 : decode cX3_character 15 = .ok (.iconst 0, 1) := dk_3 (dk_at dksX3_character_0 15 rfl rfl)
theorem dX3_character_16 : decode cX3_character 16 = .ok (.goto 4, 3) := dk_167 0 4 (dk_at dksX3_character_0 16 rfl rfl)
theorem dX3_character_19 : decode cX3_character 19 = .ok (.iconst 1, 1) := dk_4 (dk_at dksX3_character_0 19 rfl rfl)
theorem dX3_character_20 : decode cX3_character 20 = .ok (.putfield 38, 3) := dk_181 0 38 (dk_at dksX3_character_0 20 rfl rfl)
theorem dX3_character_23 : decode cX3_character 23 = .ok (.aload_n 0, 1) := dk_42 (dk_at dksX3_character_0 23 rfl rfl)
theorem dX3_character_24 : decode cX3_character 24 = .ok (.getfield 38, 3) := dk_180 0 38 (dk_at dksX3_character_1 0 rfl rfl)
theorem dX3_character_27 : decode cX3_character 27 = .ok (.ifCond .le 7, 3) := dk_158 0 7 (dk_at dksX3_character_1 3 rfl rfl)
theorem dX3_character_30 : decode cX3_character 30 = .ok (.iconst 0, 1) := dk_3 (dk_at dksX3_character_1 6 rfl rfl)
theorem dX3_character_31 : decode cX3_character 31 = .ok (.goto 10, 3) := dk_167 0 10 (dk_at dksX3_character_1 7 rfl rfl)
theorem dX3_character_34 : decode cX3_character 34 = .ok (.aload_n 0, 1) := dk_42 (dk_at dksX3_character_1 10 rfl rfl)
theorem dX3_character_35 : decode cX3_character 35 = .ok (.getfield 31, 3) := dk_180 0 31 (dk_at dksX3_character_1 11 rfl rfl)
theorem dX3_character_38 : decode cX3_character 38 = .ok (.iload_n 1, 1) := dk_27 (dk_at dksX3_character_1 14 rfl rfl)
theorem dX3_character_39 : decode cX3_character 39 = .ok (.iaload, 1) := dk_46 (dk_at dksX3_character_1 15 rfl rfl)
theorem dX3_character_40 : decode cX3_character 40 = .ok (.i2c, 1) := dk_146 (dk_at dksX3_character_1 16 rfl rfl)
theorem dX3_character_41 : decode cX3_character 41 = .ok (.ireturn, 1) := dk_172 (dk_at dksX3_character_1 17 rfl rfl)
abbrev cX3_number : ByteArray := prog_19_method_71_code
def yX3_number : MethodName := ⟨RX3, "number", "(I)I"⟩
def dkwX3_number_6 : List UInt8 := [172, 42, 180, 0, 231, 172, 42, 4, 182, 0, 63, 172]
abbrev dktX3_number_6 : List UInt8 := dkwX3_number_6 ++ []
def dkwX3_number_5 : List UInt8 := [16, 6, 46, 172, 42, 182, 0, 225, 172, 42, 4, 182, 0, 215, 172, 42, 182, 0, 228, 172, 42, 180, 0, 41]
abbrev dktX3_number_5 : List UInt8 := dkwX3_number_5 ++ dktX3_number_6
def dkwX3_number_4 : List UInt8 := [180, 0, 7, 7, 46, 172, 42, 4, 182, 0, 219, 172, 42, 180, 0, 7, 8, 46, 172, 42, 180, 0, 7]
abbrev dktX3_number_4 : List UInt8 := dkwX3_number_4 ++ dktX3_number_5
def dkwX3_number_3 : List UInt8 := [182, 0, 215, 172, 42, 180, 0, 7, 6, 46, 172, 42, 3, 182, 0, 219, 172, 42, 182, 0, 222, 172, 42]
abbrev dktX3_number_3 : List UInt8 := dkwX3_number_3 ++ dktX3_number_4
def dkwX3_number_2 : List UInt8 := [42, 180, 0, 7, 3, 46, 172, 42, 180, 0, 7, 4, 46, 172, 42, 180, 0, 7, 5, 46, 172, 42, 3]
abbrev dktX3_number_2 : List UInt8 := dkwX3_number_2 ++ dktX3_number_3
def dkwX3_number_1 : List UInt8 := [170, 0, 0, 0, 0, 177, 0, 0, 0, 0, 0, 0, 0, 15, 0, 0, 0, 78, 0, 0, 0, 85, 0, 0, 0, 92, 0, 0, 0, 99, 0, 0, 0, 105, 0, 0, 0, 112, 0, 0, 0, 118, 0, 0, 0, 123, 0, 0, 0, 130, 0, 0, 0, 136, 0, 0, 0, 143, 0, 0, 0, 151, 0, 0, 0, 156, 0, 0, 0, 162, 0, 0, 0, 167, 0, 0, 0, 172]
abbrev dktX3_number_1 : List UInt8 := dkwX3_number_1 ++ dktX3_number_2
def dkwX3_number_0 : List UInt8 := [42, 3, 181, 0, 38, 27]
abbrev dktX3_number_0 : List UInt8 := dkwX3_number_0 ++ dktX3_number_1
theorem dksX3_number_0 : cX3_number.data.toList.drop 0 = dktX3_number_0 := by decide +kernel
theorem dksX3_number_1 : cX3_number.data.toList.drop 6 = dktX3_number_1 := dk_seg dksX3_number_0 6 rfl rfl
theorem dksX3_number_2 : cX3_number.data.toList.drop 84 = dktX3_number_2 := dk_seg dksX3_number_1 78 rfl rfl
theorem dksX3_number_3 : cX3_number.data.toList.drop 107 = dktX3_number_3 := dk_seg dksX3_number_2 23 rfl rfl
theorem dksX3_number_4 : cX3_number.data.toList.drop 130 = dktX3_number_4 := dk_seg dksX3_number_3 23 rfl rfl
theorem dksX3_number_5 : cX3_number.data.toList.drop 153 = dktX3_number_5 := dk_seg dksX3_number_4 23 rfl rfl
theorem dksX3_number_6 : cX3_number.data.toList.drop 177 = dktX3_number_6 := dk_seg dksX3_number_5 24 rfl rfl
theorem dX3_number_0 : decode cX3_number 0 = .ok (.aload_n 0, 1) := dk_42 (dk_at dksX3_number_0 0 rfl rfl)
theorem dX3_number_1 : decode cX3_number 1 = .ok (.iconst 0, 1) := dk_3 (dk_at dksX3_number_0 1 rfl rfl)
theorem dX3_number_2 : decode cX3_number 2 = .ok (.putfield 38, 3) := dk_181 0 38 (dk_at dksX3_number_0 2 rfl rfl)
theorem dX3_number_5 : decode cX3_number 5 = .ok (.iload_n 1, 1) := dk_27 (dk_at dksX3_number_0 5 rfl rfl)
theorem dX3_number_6 : decode cX3_number 6 = .ok (.tableswitch 177 0 15 #[78, 85, 92, 99, 105, 112, 118, 123, 130, 136, 143, 151, 156, 162, 167, 172], 78) := by decide +kernel
theorem dX3_number_84 : decode cX3_number 84 = .ok (.aload_n 0, 1) := dk_42 (dk_at dksX3_number_2 0 rfl rfl)
theorem dX3_number_85 : decode cX3_number 85 = .ok (.getfield 7, 3) := dk_180 0 7 (dk_at dksX3_number_2 1 rfl rfl)
theorem dX3_number_88 : decode cX3_number 88 = .ok (.iconst 0, 1) := dk_3 (dk_at dksX3_number_2 4 rfl rfl)
theorem dX3_number_89 : decode cX3_number 89 = .ok (.iaload, 1) := dk_46 (dk_at dksX3_number_2 5 rfl rfl)
theorem dX3_number_90 : decode cX3_number 90 = .ok (.ireturn, 1) := dk_172 (dk_at dksX3_number_2 6 rfl rfl)
theorem dX3_number_91 : decode cX3_number 91 = .ok (.aload_n 0, 1) := dk_42 (dk_at dksX3_number_2 7 rfl rfl)
theorem dX3_number_92 : decode cX3_number 92 = .ok (.getfield 7, 3) := dk_180 0 7 (dk_at dksX3_number_2 8 rfl rfl)
theorem dX3_number_95 : decode cX3_number 95 = .ok (.iconst 1, 1) := dk_4 (dk_at dksX3_number_2 11 rfl rfl)
theorem dX3_number_96 : decode cX3_number 96 = .ok (.iaload, 1) := dk_46 (dk_at dksX3_number_2 12 rfl rfl)
theorem dX3_number_97 : decode cX3_number 97 = .ok (.ireturn, 1) := dk_172 (dk_at dksX3_number_2 13 rfl rfl)
theorem dX3_number_98 : decode cX3_number 98 = .ok (.aload_n 0, 1) := dk_42 (dk_at dksX3_number_2 14 rfl rfl)
theorem dX3_number_99 : decode cX3_number 99 = .ok (.getfield 7, 3) := dk_180 0 7 (dk_at dksX3_number_2 15 rfl rfl)
theorem dX3_number_102 : decode cX3_number 102 = .ok (.iconst 2, 1) := dk_5 (dk_at dksX3_number_2 18 rfl rfl)
theorem dX3_number_103 : decode cX3_number 103 = .ok (.iaload, 1) := dk_46 (dk_at dksX3_number_2 19 rfl rfl)
theorem dX3_number_104 : decode cX3_number 104 = .ok (.ireturn, 1) := dk_172 (dk_at dksX3_number_2 20 rfl rfl)
theorem dX3_number_105 : decode cX3_number 105 = .ok (.aload_n 0, 1) := dk_42 (dk_at dksX3_number_2 21 rfl rfl)
theorem dX3_number_106 : decode cX3_number 106 = .ok (.iconst 0, 1) := dk_3 (dk_at dksX3_number_2 22 rfl rfl)
theorem dX3_number_107 : decode cX3_number 107 = .ok (.invokevirtual 215, 3) := dk_182 0 215 (dk_at dksX3_number_3 0 rfl rfl)
theorem dX3_number_110 : decode cX3_number 110 = .ok (.ireturn, 1) := dk_172 (dk_at dksX3_number_3 3 rfl rfl)
theorem dX3_number_111 : decode cX3_number 111 = .ok (.aload_n 0, 1) := dk_42 (dk_at dksX3_number_3 4 rfl rfl)
theorem dX3_number_112 : decode cX3_number 112 = .ok (.getfield 7, 3) := dk_180 0 7 (dk_at dksX3_number_3 5 rfl rfl)
theorem dX3_number_115 : decode cX3_number 115 = .ok (.iconst 3, 1) := dk_6 (dk_at dksX3_number_3 8 rfl rfl)
theorem dX3_number_116 : decode cX3_number 116 = .ok (.iaload, 1) := dk_46 (dk_at dksX3_number_3 9 rfl rfl)
theorem dX3_number_117 : decode cX3_number 117 = .ok (.ireturn, 1) := dk_172 (dk_at dksX3_number_3 10 rfl rfl)
theorem dX3_number_118 : decode cX3_number 118 = .ok (.aload_n 0, 1) := dk_42 (dk_at dksX3_number_3 11 rfl rfl)
theorem dX3_number_119 : decode cX3_number 119 = .ok (.iconst 0, 1) := dk_3 (dk_at dksX3_number_3 12 rfl rfl)
theorem dX3_number_120 : decode cX3_number 120 = .ok (.invokevirtual 219, 3) := dk_182 0 219 (dk_at dksX3_number_3 13 rfl rfl)
theorem dX3_number_123 : decode cX3_number 123 = .ok (.ireturn, 1) := dk_172 (dk_at dksX3_number_3 16 rfl rfl)
theorem dX3_number_124 : decode cX3_number 124 = .ok (.aload_n 0, 1) := dk_42 (dk_at dksX3_number_3 17 rfl rfl)
theorem dX3_number_125 : decode cX3_number 125 = .ok (.invokevirtual 222, 3) := dk_182 0 222 (dk_at dksX3_number_3 18 rfl rfl)
theorem dX3_number_128 : decode cX3_number 128 = .ok (.ireturn, 1) := dk_172 (dk_at dksX3_number_3 21 rfl rfl)
theorem dX3_number_129 : decode cX3_number 129 = .ok (.aload_n 0, 1) := dk_42 (dk_at dksX3_number_3 22 rfl rfl)
theorem dX3_number_130 : decode cX3_number 130 = .ok (.getfield 7, 3) := dk_180 0 7 (dk_at dksX3_number_4 0 rfl rfl)
theorem dX3_number_133 : decode cX3_number 133 = .ok (.iconst 4, 1) := dk_7 (dk_at dksX3_number_4 3 rfl rfl)
theorem dX3_number_134 : decode cX3_number 134 = .ok (.iaload, 1) := dk_46 (dk_at dksX3_number_4 4 rfl rfl)
theorem dX3_number_135 : decode cX3_number 135 = .ok (.ireturn, 1) := dk_172 (dk_at dksX3_number_4 5 rfl rfl)
theorem dX3_number_136 : decode cX3_number 136 = .ok (.aload_n 0, 1) := dk_42 (dk_at dksX3_number_4 6 rfl rfl)
theorem dX3_number_137 : decode cX3_number 137 = .ok (.iconst 1, 1) := dk_4 (dk_at dksX3_number_4 7 rfl rfl)
theorem dX3_number_138 : decode cX3_number 138 = .ok (.invokevirtual 219, 3) := dk_182 0 219 (dk_at dksX3_number_4 8 rfl rfl)
theorem dX3_number_141 : decode cX3_number 141 = .ok (.ireturn, 1) := dk_172 (dk_at dksX3_number_4 11 rfl rfl)
theorem dX3_number_142 : decode cX3_number 142 = .ok (.aload_n 0, 1) := dk_42 (dk_at dksX3_number_4 12 rfl rfl)
theorem dX3_number_143 : decode cX3_number 143 = .ok (.getfield 7, 3) := dk_180 0 7 (dk_at dksX3_number_4 13 rfl rfl)
theorem dX3_number_146 : decode cX3_number 146 = .ok (.iconst 5, 1) := dk_8 (dk_at dksX3_number_4 16 rfl rfl)
theorem dX3_number_147 : decode cX3_number 147 = .ok (.iaload, 1) := dk_46 (dk_at dksX3_number_4 17 rfl rfl)
theorem dX3_number_148 : decode cX3_number 148 = .ok (.ireturn, 1) := dk_172 (dk_at dksX3_number_4 18 rfl rfl)
theorem dX3_number_149 : decode cX3_number 149 = .ok (.aload_n 0, 1) := dk_42 (dk_at dksX3_number_4 19 rfl rfl)
theorem dX3_number_150 : decode cX3_number 150 = .ok (.getfield 7, 3) := dk_180 0 7 (dk_at dksX3_number_4 20 rfl rfl)
theorem dX3_number_153 : decode cX3_number 153 = .ok (.bipush 6, 2) := dk_16 6 (dk_at dksX3_number_5 0 rfl rfl)
theorem dX3_number_155 : decode cX3_number 155 = .ok (.iaload, 1) := dk_46 (dk_at dksX3_number_5 2 rfl rfl)
theorem dX3_number_156 : decode cX3_number 156 = .ok (.ireturn, 1) := dk_172 (dk_at dksX3_number_5 3 rfl rfl)
theorem dX3_number_157 : decode cX3_number 157 = .ok (.aload_n 0, 1) := dk_42 (dk_at dksX3_number_5 4 rfl rfl)
theorem dX3_number_158 : decode cX3_number 158 = .ok (.invokevirtual 225, 3) := dk_182 0 225 (dk_at dksX3_number_5 5 rfl rfl)
theorem dX3_number_161 : decode cX3_number 161 = .ok (.ireturn, 1) := dk_172 (dk_at dksX3_number_5 8 rfl rfl)
theorem dX3_number_162 : decode cX3_number 162 = .ok (.aload_n 0, 1) := dk_42 (dk_at dksX3_number_5 9 rfl rfl)
theorem dX3_number_163 : decode cX3_number 163 = .ok (.iconst 1, 1) := dk_4 (dk_at dksX3_number_5 10 rfl rfl)
theorem dX3_number_164 : decode cX3_number 164 = .ok (.invokevirtual 215, 3) := dk_182 0 215 (dk_at dksX3_number_5 11 rfl rfl)
theorem dX3_number_167 : decode cX3_number 167 = .ok (.ireturn, 1) := dk_172 (dk_at dksX3_number_5 14 rfl rfl)
theorem dX3_number_168 : decode cX3_number 168 = .ok (.aload_n 0, 1) := dk_42 (dk_at dksX3_number_5 15 rfl rfl)
theorem dX3_number_169 : decode cX3_number 169 = .ok (.invokevirtual 228, 3) := dk_182 0 228 (dk_at dksX3_number_5 16 rfl rfl)
theorem dX3_number_172 : decode cX3_number 172 = .ok (.ireturn, 1) := dk_172 (dk_at dksX3_number_5 19 rfl rfl)
theorem dX3_number_173 : decode cX3_number 173 = .ok (.aload_n 0, 1) := dk_42 (dk_at dksX3_number_5 20 rfl rfl)
theorem dX3_number_174 : decode cX3_number 174 = .ok (.getfield 41, 3) := dk_180 0 41 (dk_at dksX3_number_5 21 rfl rfl)
theorem dX3_number_177 : decode cX3_number 177 = .ok (.ireturn, 1) := dk_172 (dk_at dksX3_number_6 0 rfl rfl)
theorem dX3_number_178 : decode cX3_number 178 = .ok (.aload_n 0, 1) := dk_42 (dk_at dksX3_number_6 1 rfl rfl)
theorem dX3_number_179 : decode cX3_number 179 = .ok (.getfield 231, 3) := dk_180 0 231 (dk_at dksX3_number_6 2 rfl rfl)
theorem dX3_number_182 : decode cX3_number 182 = .ok (.ireturn, 1) := dk_172 (dk_at dksX3_number_6 5 rfl rfl)
theorem dX3_number_183 : decode cX3_number 183 = .ok (.aload_n 0, 1) := dk_42 (dk_at dksX3_number_6 6 rfl rfl)
theorem dX3_number_184 : decode cX3_number 184 = .ok (.iconst 1, 1) := dk_4 (dk_at dksX3_number_6 7 rfl rfl)
theorem dX3_number_185 : decode cX3_number 185 = .ok (.invokevirtual 63, 3) := dk_182 0 63 (dk_at dksX3_number_6 8 rfl rfl)
theorem dX3_number_188 : decode cX3_number 188 = .ok (.ireturn, 1) := dk_172 (dk_at dksX3_number_6 11 rfl rfl)
abbrev cX3_given : ByteArray := prog_19_method_67_code
def yX3_given : MethodName := ⟨RX3, "given", "(Z)I"⟩
def dkwX3_given_1 : List UInt8 := [153, 0, 12, 42, 29, 5, 182, 0, 70, 167, 0, 4, 4, 104, 96, 61, 132, 3, 1, 167, 255, 219, 28, 172]
abbrev dktX3_given_1 : List UInt8 := dkwX3_given_1 ++ []
def dkwX3_given_0 : List UInt8 := [3, 61, 3, 62, 29, 42, 180, 0, 7, 5, 46, 162, 0, 33, 28, 42, 29, 8, 182, 0, 70, 27]
abbrev dktX3_given_0 : List UInt8 := dkwX3_given_0 ++ dktX3_given_1
theorem dksX3_given_0 : cX3_given.data.toList.drop 0 = dktX3_given_0 := by decide +kernel
theorem dksX3_given_1 : cX3_given.data.toList.drop 22 = dktX3_given_1 := dk_seg dksX3_given_0 22 rfl rfl
theorem dX3_given_0 : decode cX3_given 0 = .ok (.iconst 0, 1) := dk_3 (dk_at dksX3_given_0 0 rfl rfl)
theorem dX3_given_1 : decode cX3_given 1 = .ok (.istore_n 2, 1) := dk_61 (dk_at dksX3_given_0 1 rfl rfl)
theorem dX3_given_2 : decode cX3_given 2 = .ok (.iconst 0, 1) := dk_3 (dk_at dksX3_given_0 2 rfl rfl)
theorem dX3_given_3 : decode cX3_given 3 = .ok (.istore_n 3, 1) := dk_62 (dk_at dksX3_given_0 3 rfl rfl)
theorem dX3_given_4 : decode cX3_given 4 = .ok (.iload_n 3, 1) := dk_29 (dk_at dksX3_given_0 4 rfl rfl)
theorem dX3_given_5 : decode cX3_given 5 = .ok (.aload_n 0, 1) := dk_42 (dk_at dksX3_given_0 5 rfl rfl)
theorem dX3_given_6 : decode cX3_given 6 = .ok (.getfield 7, 3) := dk_180 0 7 (dk_at dksX3_given_0 6 rfl rfl)
theorem dX3_given_9 : decode cX3_given 9 = .ok (.iconst 2, 1) := dk_5 (dk_at dksX3_given_0 9 rfl rfl)
theorem dX3_given_10 : decode cX3_given 10 = .ok (.iaload, 1) := dk_46 (dk_at dksX3_given_0 10 rfl rfl)
theorem dX3_given_11 : decode cX3_given 11 = .ok (.if_icmp .ge 33, 3) := dk_162 0 33 (dk_at dksX3_given_0 11 rfl rfl)
theorem dX3_given_14 : decode cX3_given 14 = .ok (.iload_n 2, 1) := dk_28 (dk_at dksX3_given_0 14 rfl rfl)
theorem dX3_given_15 : decode cX3_given 15 = .ok (.aload_n 0, 1) := dk_42 (dk_at dksX3_given_0 15 rfl rfl)
theorem dX3_given_16 : decode cX3_given 16 = .ok (.iload_n 3, 1) := dk_29 (dk_at dksX3_given_0 16 rfl rfl)
theorem dX3_given_17 : decode cX3_given 17 = .ok (.iconst 5, 1) := dk_8 (dk_at dksX3_given_0 17 rfl rfl)
theorem dX3_given_18 : decode cX3_given 18 = .ok (.invokevirtual 70, 3) := dk_182 0 70 (dk_at dksX3_given_0 18 rfl rfl)
theorem dX3_given_21 : decode cX3_given 21 = .ok (.iload_n 1, 1) := dk_27 (dk_at dksX3_given_0 21 rfl rfl)
theorem dX3_given_22 : decode cX3_given 22 = .ok (.ifCond .eq 12, 3) := dk_153 0 12 (dk_at dksX3_given_1 0 rfl rfl)
theorem dX3_given_25 : decode cX3_given 25 = .ok (.aload_n 0, 1) := dk_42 (dk_at dksX3_given_1 3 rfl rfl)
theorem dX3_given_26 : decode cX3_given 26 = .ok (.iload_n 3, 1) := dk_29 (dk_at dksX3_given_1 4 rfl rfl)
theorem dX3_given_27 : decode cX3_given 27 = .ok (.iconst 2, 1) := dk_5 (dk_at dksX3_given_1 5 rfl rfl)
theorem dX3_given_28 : decode cX3_given 28 = .ok (.invokevirtual 70, 3) := dk_182 0 70 (dk_at dksX3_given_1 6 rfl rfl)
theorem dX3_given_31 : decode cX3_given 31 = .ok (.goto 4, 3) := dk_167 0 4 (dk_at dksX3_given_1 9 rfl rfl)
theorem dX3_given_34 : decode cX3_given 34 = .ok (.iconst 1, 1) := dk_4 (dk_at dksX3_given_1 12 rfl rfl)
theorem dX3_given_35 : decode cX3_given 35 = .ok (.imul, 1) := dk_104 (dk_at dksX3_given_1 13 rfl rfl)
theorem dX3_given_36 : decode cX3_given 36 = .ok (.iadd, 1) := dk_96 (dk_at dksX3_given_1 14 rfl rfl)
theorem dX3_given_37 : decode cX3_given 37 = .ok (.istore_n 2, 1) := dk_61 (dk_at dksX3_given_1 15 rfl rfl)
theorem dX3_given_38 : decode cX3_given 38 = .ok (.iinc 3 1, 3) := dk_132 3 1 (dk_at dksX3_given_1 16 rfl rfl)
theorem dX3_given_41 : decode cX3_given 41 = .ok (.goto (-37), 3) := dk_167 255 219 (dk_at dksX3_given_1 19 rfl rfl)
theorem dX3_given_44 : decode cX3_given 44 = .ok (.iload_n 2, 1) := dk_28 (dk_at dksX3_given_1 22 rfl rfl)
theorem dX3_given_45 : decode cX3_given 45 = .ok (.ireturn, 1) := dk_172 (dk_at dksX3_given_1 23 rfl rfl)
abbrev cX3_hung : ByteArray := prog_19_method_65_code
def yX3_hung : MethodName := ⟨RX3, "hung", "(Z)I"⟩
def dkwX3_hung_1 : List UInt8 := [153, 0, 12, 42, 29, 3, 182, 0, 80, 167, 0, 4, 4, 104, 96, 61, 132, 3, 1, 167, 255, 219, 28, 172]
abbrev dktX3_hung_1 : List UInt8 := dkwX3_hung_1 ++ []
def dkwX3_hung_0 : List UInt8 := [3, 61, 3, 62, 29, 42, 180, 0, 7, 6, 46, 162, 0, 33, 28, 42, 29, 5, 182, 0, 80, 27]
abbrev dktX3_hung_0 : List UInt8 := dkwX3_hung_0 ++ dktX3_hung_1
theorem dksX3_hung_0 : cX3_hung.data.toList.drop 0 = dktX3_hung_0 := by decide +kernel
theorem dksX3_hung_1 : cX3_hung.data.toList.drop 22 = dktX3_hung_1 := dk_seg dksX3_hung_0 22 rfl rfl
theorem dX3_hung_0 : decode cX3_hung 0 = .ok (.iconst 0, 1) := dk_3 (dk_at dksX3_hung_0 0 rfl rfl)
theorem dX3_hung_1 : decode cX3_hung 1 = .ok (.istore_n 2, 1) := dk_61 (dk_at dksX3_hung_0 1 rfl rfl)
theorem dX3_hung_2 : decode cX3_hung 2 = .ok (.iconst 0, 1) := dk_3 (dk_at dksX3_hung_0 2 rfl rfl)
theorem dX3_hung_3 : decode cX3_hung 3 = .ok (.istore_n 3, 1) := dk_62 (dk_at dksX3_hung_0 3 rfl rfl)
theorem dX3_hung_4 : decode cX3_hung 4 = .ok (.iload_n 3, 1) := dk_29 (dk_at dksX3_hung_0 4 rfl rfl)
theorem dX3_hung_5 : decode cX3_hung 5 = .ok (.aload_n 0, 1) := dk_42 (dk_at dksX3_hung_0 5 rfl rfl)
theorem dX3_hung_6 : decode cX3_hung 6 = .ok (.getfield 7, 3) := dk_180 0 7 (dk_at dksX3_hung_0 6 rfl rfl)
theorem dX3_hung_9 : decode cX3_hung 9 = .ok (.iconst 3, 1) := dk_6 (dk_at dksX3_hung_0 9 rfl rfl)
theorem dX3_hung_10 : decode cX3_hung 10 = .ok (.iaload, 1) := dk_46 (dk_at dksX3_hung_0 10 rfl rfl)
theorem dX3_hung_11 : decode cX3_hung 11 = .ok (.if_icmp .ge 33, 3) := dk_162 0 33 (dk_at dksX3_hung_0 11 rfl rfl)
theorem dX3_hung_14 : decode cX3_hung 14 = .ok (.iload_n 2, 1) := dk_28 (dk_at dksX3_hung_0 14 rfl rfl)
theorem dX3_hung_15 : decode cX3_hung 15 = .ok (.aload_n 0, 1) := dk_42 (dk_at dksX3_hung_0 15 rfl rfl)
theorem dX3_hung_16 : decode cX3_hung 16 = .ok (.iload_n 3, 1) := dk_29 (dk_at dksX3_hung_0 16 rfl rfl)
theorem dX3_hung_17 : decode cX3_hung 17 = .ok (.iconst 2, 1) := dk_5 (dk_at dksX3_hung_0 17 rfl rfl)
theorem dX3_hung_18 : decode cX3_hung 18 = .ok (.invokevirtual 80, 3) := dk_182 0 80 (dk_at dksX3_hung_0 18 rfl rfl)
theorem dX3_hung_21 : decode cX3_hung 21 = .ok (.iload_n 1, 1) := dk_27 (dk_at dksX3_hung_0 21 rfl rfl)
theorem dX3_hung_22 : decode cX3_hung 22 = .ok (.ifCond .eq 12, 3) := dk_153 0 12 (dk_at dksX3_hung_1 0 rfl rfl)
theorem dX3_hung_25 : decode cX3_hung 25 = .ok (.aload_n 0, 1) := dk_42 (dk_at dksX3_hung_1 3 rfl rfl)
theorem dX3_hung_26 : decode cX3_hung 26 = .ok (.iload_n 3, 1) := dk_29 (dk_at dksX3_hung_1 4 rfl rfl)
theorem dX3_hung_27 : decode cX3_hung 27 = .ok (.iconst 0, 1) := dk_3 (dk_at dksX3_hung_1 5 rfl rfl)
theorem dX3_hung_28 : decode cX3_hung 28 = .ok (.invokevirtual 80, 3) := dk_182 0 80 (dk_at dksX3_hung_1 6 rfl rfl)
theorem dX3_hung_31 : decode cX3_hung 31 = .ok (.goto 4, 3) := dk_167 0 4 (dk_at dksX3_hung_1 9 rfl rfl)
theorem dX3_hung_34 : decode cX3_hung 34 = .ok (.iconst 1, 1) := dk_4 (dk_at dksX3_hung_1 12 rfl rfl)
theorem dX3_hung_35 : decode cX3_hung 35 = .ok (.imul, 1) := dk_104 (dk_at dksX3_hung_1 13 rfl rfl)
theorem dX3_hung_36 : decode cX3_hung 36 = .ok (.iadd, 1) := dk_96 (dk_at dksX3_hung_1 14 rfl rfl)
theorem dX3_hung_37 : decode cX3_hung 37 = .ok (.istore_n 2, 1) := dk_61 (dk_at dksX3_hung_1 15 rfl rfl)
theorem dX3_hung_38 : decode cX3_hung 38 = .ok (.iinc 3 1, 3) := dk_132 3 1 (dk_at dksX3_hung_1 16 rfl rfl)
theorem dX3_hung_41 : decode cX3_hung 41 = .ok (.goto (-37), 3) := dk_167 255 219 (dk_at dksX3_hung_1 19 rfl rfl)
theorem dX3_hung_44 : decode cX3_hung 44 = .ok (.iload_n 2, 1) := dk_28 (dk_at dksX3_hung_1 22 rfl rfl)
theorem dX3_hung_45 : decode cX3_hung 45 = .ok (.ireturn, 1) := dk_172 (dk_at dksX3_hung_1 23 rfl rfl)
abbrev cX3_fullRooms : ByteArray := prog_19_method_66_code
def yX3_fullRooms : MethodName := ⟨RX3, "fullRooms", "()I"⟩
def dkwX3_fullRooms_1 : List UInt8 := [182, 0, 80, 160, 0, 7, 4, 167, 0, 4, 3, 96, 60, 132, 2, 1, 167, 255, 220, 27, 172]
abbrev dktX3_fullRooms_1 : List UInt8 := dkwX3_fullRooms_1 ++ []
def dkwX3_fullRooms_0 : List UInt8 := [3, 60, 3, 61, 28, 42, 180, 0, 7, 6, 46, 162, 0, 32, 27, 42, 28, 5, 182, 0, 80, 42, 28, 4]
abbrev dktX3_fullRooms_0 : List UInt8 := dkwX3_fullRooms_0 ++ dktX3_fullRooms_1
theorem dksX3_fullRooms_0 : cX3_fullRooms.data.toList.drop 0 = dktX3_fullRooms_0 := by decide +kernel
theorem dksX3_fullRooms_1 : cX3_fullRooms.data.toList.drop 24 = dktX3_fullRooms_1 := dk_seg dksX3_fullRooms_0 24 rfl rfl
theorem dX3_fullRooms_0 : decode cX3_fullRooms 0 = .ok (.iconst 0, 1) := dk_3 (dk_at dksX3_fullRooms_0 0 rfl rfl)
theorem dX3_fullRooms_1 : decode cX3_fullRooms 1 = .ok (.istore_n 1, 1) := dk_60 (dk_at dksX3_fullRooms_0 1 rfl rfl)
theorem dX3_fullRooms_2 : decode cX3_fullRooms 2 = .ok (.iconst 0, 1) := dk_3 (dk_at dksX3_fullRooms_0 2 rfl rfl)
theorem dX3_fullRooms_3 : decode cX3_fullRooms 3 = .ok (.istore_n 2, 1) := dk_61 (dk_at dksX3_fullRooms_0 3 rfl rfl)
theorem dX3_fullRooms_4 : decode cX3_fullRooms 4 = .ok (.iload_n 2, 1) := dk_28 (dk_at dksX3_fullRooms_0 4 rfl rfl)
theorem dX3_fullRooms_5 : decode cX3_fullRooms 5 = .ok (.aload_n 0, 1) := dk_42 (dk_at dksX3_fullRooms_0 5 rfl rfl)
theorem dX3_fullRooms_6 : decode cX3_fullRooms 6 = .ok (.getfield 7, 3) := dk_180 0 7 (dk_at dksX3_fullRooms_0 6 rfl rfl)
theorem dX3_fullRooms_9 : decode cX3_fullRooms 9 = .ok (.iconst 3, 1) := dk_6 (dk_at dksX3_fullRooms_0 9 rfl rfl)
theorem dX3_fullRooms_10 : decode cX3_fullRooms 10 = .ok (.iaload, 1) := dk_46 (dk_at dksX3_fullRooms_0 10 rfl rfl)
theorem dX3_fullRooms_11 : decode cX3_fullRooms 11 = .ok (.if_icmp .ge 32, 3) := dk_162 0 32 (dk_at dksX3_fullRooms_0 11 rfl rfl)
theorem dX3_fullRooms_14 : decode cX3_fullRooms 14 = .ok (.iload_n 1, 1) := dk_27 (dk_at dksX3_fullRooms_0 14 rfl rfl)
theorem dX3_fullRooms_15 : decode cX3_fullRooms 15 = .ok (.aload_n 0, 1) := dk_42 (dk_at dksX3_fullRooms_0 15 rfl rfl)
theorem dX3_fullRooms_16 : decode cX3_fullRooms 16 = .ok (.iload_n 2, 1) := dk_28 (dk_at dksX3_fullRooms_0 16 rfl rfl)
theorem dX3_fullRooms_17 : decode cX3_fullRooms 17 = .ok (.iconst 2, 1) := dk_5 (dk_at dksX3_fullRooms_0 17 rfl rfl)
theorem dX3_fullRooms_18 : decode cX3_fullRooms 18 = .ok (.invokevirtual 80, 3) := dk_182 0 80 (dk_at dksX3_fullRooms_0 18 rfl rfl)
theorem dX3_fullRooms_21 : decode cX3_fullRooms 21 = .ok (.aload_n 0, 1) := dk_42 (dk_at dksX3_fullRooms_0 21 rfl rfl)
theorem dX3_fullRooms_22 : decode cX3_fullRooms 22 = .ok (.iload_n 2, 1) := dk_28 (dk_at dksX3_fullRooms_0 22 rfl rfl)
theorem dX3_fullRooms_23 : decode cX3_fullRooms 23 = .ok (.iconst 1, 1) := dk_4 (dk_at dksX3_fullRooms_0 23 rfl rfl)
theorem dX3_fullRooms_24 : decode cX3_fullRooms 24 = .ok (.invokevirtual 80, 3) := dk_182 0 80 (dk_at dksX3_fullRooms_1 0 rfl rfl)
theorem dX3_fullRooms_27 : decode cX3_fullRooms 27 = .ok (.if_icmp .ne 7, 3) := dk_160 0 7 (dk_at dksX3_fullRooms_1 3 rfl rfl)
theorem dX3_fullRooms_30 : decode cX3_fullRooms 30 = .ok (.iconst 1, 1) := dk_4 (dk_at dksX3_fullRooms_1 6 rfl rfl)
theorem dX3_fullRooms_31 : decode cX3_fullRooms 31 = .ok (.goto 4, 3) := dk_167 0 4 (dk_at dksX3_fullRooms_1 7 rfl rfl)
theorem dX3_fullRooms_34 : decode cX3_fullRooms 34 = .ok (.iconst 0, 1) := dk_3 (dk_at dksX3_fullRooms_1 10 rfl rfl)
theorem dX3_fullRooms_35 : decode cX3_fullRooms 35 = .ok (.iadd, 1) := dk_96 (dk_at dksX3_fullRooms_1 11 rfl rfl)
theorem dX3_fullRooms_36 : decode cX3_fullRooms 36 = .ok (.istore_n 1, 1) := dk_60 (dk_at dksX3_fullRooms_1 12 rfl rfl)
theorem dX3_fullRooms_37 : decode cX3_fullRooms 37 = .ok (.iinc 2 1, 3) := dk_132 2 1 (dk_at dksX3_fullRooms_1 13 rfl rfl)
theorem dX3_fullRooms_40 : decode cX3_fullRooms 40 = .ok (.goto (-36), 3) := dk_167 255 220 (dk_at dksX3_fullRooms_1 16 rfl rfl)
theorem dX3_fullRooms_43 : decode cX3_fullRooms 43 = .ok (.iload_n 1, 1) := dk_27 (dk_at dksX3_fullRooms_1 19 rfl rfl)
theorem dX3_fullRooms_44 : decode cX3_fullRooms 44 = .ok (.ireturn, 1) := dk_172 (dk_at dksX3_fullRooms_1 20 rfl rfl)
abbrev cX3_lefts : ByteArray := prog_19_method_68_code
def yX3_lefts : MethodName := ⟨RX3, "lefts", "()I"⟩
def dkwX3_lefts_1 : List UInt8 := [132, 2, 1, 167, 255, 235, 27, 172]
abbrev dktX3_lefts_1 : List UInt8 := dkwX3_lefts_1 ++ []
def dkwX3_lefts_0 : List UInt8 := [3, 60, 3, 61, 28, 42, 180, 0, 7, 5, 46, 162, 0, 17, 27, 42, 28, 182, 0, 107, 96, 60]
abbrev dktX3_lefts_0 : List UInt8 := dkwX3_lefts_0 ++ dktX3_lefts_1
theorem dksX3_lefts_0 : cX3_lefts.data.toList.drop 0 = dktX3_lefts_0 := by decide +kernel
theorem dksX3_lefts_1 : cX3_lefts.data.toList.drop 22 = dktX3_lefts_1 := dk_seg dksX3_lefts_0 22 rfl rfl
theorem dX3_lefts_0 : decode cX3_lefts 0 = .ok (.iconst 0, 1) := dk_3 (dk_at dksX3_lefts_0 0 rfl rfl)
theorem dX3_lefts_1 : decode cX3_lefts 1 = .ok (.istore_n 1, 1) := dk_60 (dk_at dksX3_lefts_0 1 rfl rfl)
theorem dX3_lefts_2 : decode cX3_lefts 2 = .ok (.iconst 0, 1) := dk_3 (dk_at dksX3_lefts_0 2 rfl rfl)
theorem dX3_lefts_3 : decode cX3_lefts 3 = .ok (.istore_n 2, 1) := dk_61 (dk_at dksX3_lefts_0 3 rfl rfl)
theorem dX3_lefts_4 : decode cX3_lefts 4 = .ok (.iload_n 2, 1) := dk_28 (dk_at dksX3_lefts_0 4 rfl rfl)
theorem dX3_lefts_5 : decode cX3_lefts 5 = .ok (.aload_n 0, 1) := dk_42 (dk_at dksX3_lefts_0 5 rfl rfl)
theorem dX3_lefts_6 : decode cX3_lefts 6 = .ok (.getfield 7, 3) := dk_180 0 7 (dk_at dksX3_lefts_0 6 rfl rfl)
theorem dX3_lefts_9 : decode cX3_lefts 9 = .ok (.iconst 2, 1) := dk_5 (dk_at dksX3_lefts_0 9 rfl rfl)
theorem dX3_lefts_10 : decode cX3_lefts 10 = .ok (.iaload, 1) := dk_46 (dk_at dksX3_lefts_0 10 rfl rfl)
theorem dX3_lefts_11 : decode cX3_lefts 11 = .ok (.if_icmp .ge 17, 3) := dk_162 0 17 (dk_at dksX3_lefts_0 11 rfl rfl)
theorem dX3_lefts_14 : decode cX3_lefts 14 = .ok (.iload_n 1, 1) := dk_27 (dk_at dksX3_lefts_0 14 rfl rfl)
theorem dX3_lefts_15 : decode cX3_lefts 15 = .ok (.aload_n 0, 1) := dk_42 (dk_at dksX3_lefts_0 15 rfl rfl)
theorem dX3_lefts_16 : decode cX3_lefts 16 = .ok (.iload_n 2, 1) := dk_28 (dk_at dksX3_lefts_0 16 rfl rfl)
theorem dX3_lefts_17 : decode cX3_lefts 17 = .ok (.invokevirtual 107, 3) := dk_182 0 107 (dk_at dksX3_lefts_0 17 rfl rfl)
theorem dX3_lefts_20 : decode cX3_lefts 20 = .ok (.iadd, 1) := dk_96 (dk_at dksX3_lefts_0 20 rfl rfl)
theorem dX3_lefts_21 : decode cX3_lefts 21 = .ok (.istore_n 1, 1) := dk_60 (dk_at dksX3_lefts_0 21 rfl rfl)
theorem dX3_lefts_22 : decode cX3_lefts 22 = .ok (.iinc 2 1, 3) := dk_132 2 1 (dk_at dksX3_lefts_1 0 rfl rfl)
theorem dX3_lefts_25 : decode cX3_lefts 25 = .ok (.goto (-21), 3) := dk_167 255 235 (dk_at dksX3_lefts_1 3 rfl rfl)
theorem dX3_lefts_28 : decode cX3_lefts 28 = .ok (.iload_n 1, 1) := dk_27 (dk_at dksX3_lefts_1 6 rfl rfl)
theorem dX3_lefts_29 : decode cX3_lefts 29 = .ok (.ireturn, 1) := dk_172 (dk_at dksX3_lefts_1 7 rfl rfl)
abbrev cX3_grams : ByteArray := prog_19_method_70_code
def yX3_grams : MethodName := ⟨RX3, "grams", "()I"⟩
def dkwX3_grams_1 : List UInt8 := [132, 2, 1, 167, 255, 234, 27, 172]
abbrev dktX3_grams_1 : List UInt8 := dkwX3_grams_1 ++ []
def dkwX3_grams_0 : List UInt8 := [3, 60, 3, 61, 28, 42, 180, 0, 7, 4, 46, 162, 0, 18, 27, 42, 28, 5, 182, 0, 74, 96, 60]
abbrev dktX3_grams_0 : List UInt8 := dkwX3_grams_0 ++ dktX3_grams_1
theorem dksX3_grams_0 : cX3_grams.data.toList.drop 0 = dktX3_grams_0 := by decide +kernel
theorem dksX3_grams_1 : cX3_grams.data.toList.drop 23 = dktX3_grams_1 := dk_seg dksX3_grams_0 23 rfl rfl
theorem dX3_grams_0 : decode cX3_grams 0 = .ok (.iconst 0, 1) := dk_3 (dk_at dksX3_grams_0 0 rfl rfl)
theorem dX3_grams_1 : decode cX3_grams 1 = .ok (.istore_n 1, 1) := dk_60 (dk_at dksX3_grams_0 1 rfl rfl)
theorem dX3_grams_2 : decode cX3_grams 2 = .ok (.iconst 0, 1) := dk_3 (dk_at dksX3_grams_0 2 rfl rfl)
theorem dX3_grams_3 : decode cX3_grams 3 = .ok (.istore_n 2, 1) := dk_61 (dk_at dksX3_grams_0 3 rfl rfl)
theorem dX3_grams_4 : decode cX3_grams 4 = .ok (.iload_n 2, 1) := dk_28 (dk_at dksX3_grams_0 4 rfl rfl)
theorem dX3_grams_5 : decode cX3_grams 5 = .ok (.aload_n 0, 1) := dk_42 (dk_at dksX3_grams_0 5 rfl rfl)
theorem dX3_grams_6 : decode cX3_grams 6 = .ok (.getfield 7, 3) := dk_180 0 7 (dk_at dksX3_grams_0 6 rfl rfl)
theorem dX3_grams_9 : decode cX3_grams 9 = .ok (.iconst 1, 1) := dk_4 (dk_at dksX3_grams_0 9 rfl rfl)
theorem dX3_grams_10 : decode cX3_grams 10 = .ok (.iaload, 1) := dk_46 (dk_at dksX3_grams_0 10 rfl rfl)
theorem dX3_grams_11 : decode cX3_grams 11 = .ok (.if_icmp .ge 18, 3) := dk_162 0 18 (dk_at dksX3_grams_0 11 rfl rfl)
theorem dX3_grams_14 : decode cX3_grams 14 = .ok (.iload_n 1, 1) := dk_27 (dk_at dksX3_grams_0 14 rfl rfl)
theorem dX3_grams_15 : decode cX3_grams 15 = .ok (.aload_n 0, 1) := dk_42 (dk_at dksX3_grams_0 15 rfl rfl)
theorem dX3_grams_16 : decode cX3_grams 16 = .ok (.iload_n 2, 1) := dk_28 (dk_at dksX3_grams_0 16 rfl rfl)
theorem dX3_grams_17 : decode cX3_grams 17 = .ok (.iconst 2, 1) := dk_5 (dk_at dksX3_grams_0 17 rfl rfl)
theorem dX3_grams_18 : decode cX3_grams 18 = .ok (.invokevirtual 74, 3) := dk_182 0 74 (dk_at dksX3_grams_0 18 rfl rfl)
theorem dX3_grams_21 : decode cX3_grams 21 = .ok (.iadd, 1) := dk_96 (dk_at dksX3_grams_0 21 rfl rfl)
theorem dX3_grams_22 : decode cX3_grams 22 = .ok (.istore_n 1, 1) := dk_60 (dk_at dksX3_grams_0 22 rfl rfl)
theorem dX3_grams_23 : decode cX3_grams 23 = .ok (.iinc 2 1, 3) := dk_132 2 1 (dk_at dksX3_grams_1 0 rfl rfl)
theorem dX3_grams_26 : decode cX3_grams 26 = .ok (.goto (-22), 3) := dk_167 255 234 (dk_at dksX3_grams_1 3 rfl rfl)
theorem dX3_grams_29 : decode cX3_grams 29 = .ok (.iload_n 1, 1) := dk_27 (dk_at dksX3_grams_1 6 rfl rfl)
theorem dX3_grams_30 : decode cX3_grams 30 = .ok (.ireturn, 1) := dk_172 (dk_at dksX3_grams_1 7 rfl rfl)
abbrev cX3_printedAgain : ByteArray := prog_19_method_72_code
def yX3_printedAgain : MethodName := ⟨RX3, "printedAgain", "()I"⟩
def dkwX3_printedAgain_1 : List UInt8 := [96, 42, 182, 0, 225, 96, 42, 4, 182, 0, 215, 96, 172]
abbrev dktX3_printedAgain_1 : List UInt8 := dkwX3_printedAgain_1 ++ []
def dkwX3_printedAgain_0 : List UInt8 := [42, 3, 181, 0, 38, 42, 4, 182, 0, 219, 42, 180, 0, 7, 8, 46, 96, 42, 180, 0, 7, 16, 6, 46]
abbrev dktX3_printedAgain_0 : List UInt8 := dkwX3_printedAgain_0 ++ dktX3_printedAgain_1
theorem dksX3_printedAgain_0 : cX3_printedAgain.data.toList.drop 0 = dktX3_printedAgain_0 := by decide +kernel
theorem dksX3_printedAgain_1 : cX3_printedAgain.data.toList.drop 24 = dktX3_printedAgain_1 := dk_seg dksX3_printedAgain_0 24 rfl rfl
theorem dX3_printedAgain_0 : decode cX3_printedAgain 0 = .ok (.aload_n 0, 1) := dk_42 (dk_at dksX3_printedAgain_0 0 rfl rfl)
theorem dX3_printedAgain_1 : decode cX3_printedAgain 1 = .ok (.iconst 0, 1) := dk_3 (dk_at dksX3_printedAgain_0 1 rfl rfl)
theorem dX3_printedAgain_2 : decode cX3_printedAgain 2 = .ok (.putfield 38, 3) := dk_181 0 38 (dk_at dksX3_printedAgain_0 2 rfl rfl)
theorem dX3_printedAgain_5 : decode cX3_printedAgain 5 = .ok (.aload_n 0, 1) := dk_42 (dk_at dksX3_printedAgain_0 5 rfl rfl)
theorem dX3_printedAgain_6 : decode cX3_printedAgain 6 = .ok (.iconst 1, 1) := dk_4 (dk_at dksX3_printedAgain_0 6 rfl rfl)
theorem dX3_printedAgain_7 : decode cX3_printedAgain 7 = .ok (.invokevirtual 219, 3) := dk_182 0 219 (dk_at dksX3_printedAgain_0 7 rfl rfl)
theorem dX3_printedAgain_10 : decode cX3_printedAgain 10 = .ok (.aload_n 0, 1) := dk_42 (dk_at dksX3_printedAgain_0 10 rfl rfl)
theorem dX3_printedAgain_11 : decode cX3_printedAgain 11 = .ok (.getfield 7, 3) := dk_180 0 7 (dk_at dksX3_printedAgain_0 11 rfl rfl)
theorem dX3_printedAgain_14 : decode cX3_printedAgain 14 = .ok (.iconst 5, 1) := dk_8 (dk_at dksX3_printedAgain_0 14 rfl rfl)
theorem dX3_printedAgain_15 : decode cX3_printedAgain 15 = .ok (.iaload, 1) := dk_46 (dk_at dksX3_printedAgain_0 15 rfl rfl)
theorem dX3_printedAgain_16 : decode cX3_printedAgain 16 = .ok (.iadd, 1) := dk_96 (dk_at dksX3_printedAgain_0 16 rfl rfl)
theorem dX3_printedAgain_17 : decode cX3_printedAgain 17 = .ok (.aload_n 0, 1) := dk_42 (dk_at dksX3_printedAgain_0 17 rfl rfl)
theorem dX3_printedAgain_18 : decode cX3_printedAgain 18 = .ok (.getfield 7, 3) := dk_180 0 7 (dk_at dksX3_printedAgain_0 18 rfl rfl)
theorem dX3_printedAgain_21 : decode cX3_printedAgain 21 = .ok (.bipush 6, 2) := dk_16 6 (dk_at dksX3_printedAgain_0 21 rfl rfl)
theorem dX3_printedAgain_23 : decode cX3_printedAgain 23 = .ok (.iaload, 1) := dk_46 (dk_at dksX3_printedAgain_0 23 rfl rfl)
theorem dX3_printedAgain_24 : decode cX3_printedAgain 24 = .ok (.iadd, 1) := dk_96 (dk_at dksX3_printedAgain_1 0 rfl rfl)
theorem dX3_printedAgain_25 : decode cX3_printedAgain 25 = .ok (.aload_n 0, 1) := dk_42 (dk_at dksX3_printedAgain_1 1 rfl rfl)
theorem dX3_printedAgain_26 : decode cX3_printedAgain 26 = .ok (.invokevirtual 225, 3) := dk_182 0 225 (dk_at dksX3_printedAgain_1 2 rfl rfl)
theorem dX3_printedAgain_29 : decode cX3_printedAgain 29 = .ok (.iadd, 1) := dk_96 (dk_at dksX3_printedAgain_1 5 rfl rfl)
theorem dX3_printedAgain_30 : decode cX3_printedAgain 30 = .ok (.aload_n 0, 1) := dk_42 (dk_at dksX3_printedAgain_1 6 rfl rfl)
theorem dX3_printedAgain_31 : decode cX3_printedAgain 31 = .ok (.iconst 1, 1) := dk_4 (dk_at dksX3_printedAgain_1 7 rfl rfl)
theorem dX3_printedAgain_32 : decode cX3_printedAgain 32 = .ok (.invokevirtual 215, 3) := dk_182 0 215 (dk_at dksX3_printedAgain_1 8 rfl rfl)
theorem dX3_printedAgain_35 : decode cX3_printedAgain 35 = .ok (.iadd, 1) := dk_96 (dk_at dksX3_printedAgain_1 11 rfl rfl)
theorem dX3_printedAgain_36 : decode cX3_printedAgain 36 = .ok (.ireturn, 1) := dk_172 (dk_at dksX3_printedAgain_1 12 rfl rfl)
abbrev cX3_meanShade : ByteArray := prog_19_method_73_code
def yX3_meanShade : MethodName := ⟨RX3, "meanShade", "()D"⟩
def dkwX3_meanShade_2 : List UInt8 := [182, 0, 70, 96, 60, 132, 2, 1, 167, 255, 234, 27, 135, 42, 180, 0, 7, 5, 46, 135, 111, 175]
abbrev dktX3_meanShade_2 : List UInt8 := dkwX3_meanShade_2 ++ []
def dkwX3_meanShade_1 : List UInt8 := [158, 0, 5, 14, 175, 3, 60, 3, 61, 28, 42, 180, 0, 7, 5, 46, 162, 0, 18, 27, 42, 28, 6]
abbrev dktX3_meanShade_1 : List UInt8 := dkwX3_meanShade_1 ++ dktX3_meanShade_2
def dkwX3_meanShade_0 : List UInt8 := [42, 42, 180, 0, 7, 5, 46, 154, 0, 7, 4, 167, 0, 4, 3, 181, 0, 38, 42, 180, 0, 38]
abbrev dktX3_meanShade_0 : List UInt8 := dkwX3_meanShade_0 ++ dktX3_meanShade_1
theorem dksX3_meanShade_0 : cX3_meanShade.data.toList.drop 0 = dktX3_meanShade_0 := by decide +kernel
theorem dksX3_meanShade_1 : cX3_meanShade.data.toList.drop 22 = dktX3_meanShade_1 := dk_seg dksX3_meanShade_0 22 rfl rfl
theorem dksX3_meanShade_2 : cX3_meanShade.data.toList.drop 45 = dktX3_meanShade_2 := dk_seg dksX3_meanShade_1 23 rfl rfl
theorem dX3_meanShade_0 : decode cX3_meanShade 0 = .ok (.aload_n 0, 1) := dk_42 (dk_at dksX3_meanShade_0 0 rfl rfl)
theorem dX3_meanShade_1 : decode cX3_meanShade 1 = .ok (.aload_n 0, 1) := dk_42 (dk_at dksX3_meanShade_0 1 rfl rfl)
theorem dX3_meanShade_2 : decode cX3_meanShade 2 = .ok (.getfield 7, 3) := dk_180 0 7 (dk_at dksX3_meanShade_0 2 rfl rfl)
theorem dX3_meanShade_5 : decode cX3_meanShade 5 = .ok (.iconst 2, 1) := dk_5 (dk_at dksX3_meanShade_0 5 rfl rfl)
theorem dX3_meanShade_6 : decode cX3_meanShade 6 = .ok (.iaload, 1) := dk_46 (dk_at dksX3_meanShade_0 6 rfl rfl)
theorem dX3_meanShade_7 : decode cX3_meanShade 7 = .ok (.ifCond .ne 7, 3) := dk_154 0 7 (dk_at dksX3_meanShade_0 7 rfl rfl)
theorem dX3_meanShade_10 : decode cX3_meanShade 10 = .ok (.iconst 1, 1) := dk_4 (dk_at dksX3_meanShade_0 10 rfl rfl)
theorem dX3_meanShade_11 : decode cX3_meanShade 11 = .ok (.goto 4, 3) := dk_167 0 4 (dk_at dksX3_meanShade_0 11 rfl rfl)
theorem dX3_meanShade_14 : decode cX3_meanShade 14 = .ok (.iconst 0, 1) := dk_3 (dk_at dksX3_meanShade_0 14 rfl rfl)
theorem dX3_meanShade_15 : decode cX3_meanShade 15 = .ok (.putfield 38, 3) := dk_181 0 38 (dk_at dksX3_meanShade_0 15 rfl rfl)
theorem dX3_meanShade_18 : decode cX3_meanShade 18 = .ok (.aload_n 0, 1) := dk_42 (dk_at dksX3_meanShade_0 18 rfl rfl)
theorem dX3_meanShade_19 : decode cX3_meanShade 19 = .ok (.getfield 38, 3) := dk_180 0 38 (dk_at dksX3_meanShade_0 19 rfl rfl)
theorem dX3_meanShade_22 : decode cX3_meanShade 22 = .ok (.ifCond .le 5, 3) := dk_158 0 5 (dk_at dksX3_meanShade_1 0 rfl rfl)
theorem dX3_meanShade_25 : decode cX3_meanShade 25 = .ok (.dconst 0, 1) := dk_14 (dk_at dksX3_meanShade_1 3 rfl rfl)
theorem dX3_meanShade_26 : decode cX3_meanShade 26 = .ok (.dreturn, 1) := dk_175 (dk_at dksX3_meanShade_1 4 rfl rfl)
theorem dX3_meanShade_27 : decode cX3_meanShade 27 = .ok (.iconst 0, 1) := dk_3 (dk_at dksX3_meanShade_1 5 rfl rfl)
theorem dX3_meanShade_28 : decode cX3_meanShade 28 = .ok (.istore_n 1, 1) := dk_60 (dk_at dksX3_meanShade_1 6 rfl rfl)
theorem dX3_meanShade_29 : decode cX3_meanShade 29 = .ok (.iconst 0, 1) := dk_3 (dk_at dksX3_meanShade_1 7 rfl rfl)
theorem dX3_meanShade_30 : decode cX3_meanShade 30 = .ok (.istore_n 2, 1) := dk_61 (dk_at dksX3_meanShade_1 8 rfl rfl)
theorem dX3_meanShade_31 : decode cX3_meanShade 31 = .ok (.iload_n 2, 1) := dk_28 (dk_at dksX3_meanShade_1 9 rfl rfl)
theorem dX3_meanShade_32 : decode cX3_meanShade 32 = .ok (.aload_n 0, 1) := dk_42 (dk_at dksX3_meanShade_1 10 rfl rfl)
theorem dX3_meanShade_33 : decode cX3_meanShade 33 = .ok (.getfield 7, 3) := dk_180 0 7 (dk_at dksX3_meanShade_1 11 rfl rfl)
theorem dX3_meanShade_36 : decode cX3_meanShade 36 = .ok (.iconst 2, 1) := dk_5 (dk_at dksX3_meanShade_1 14 rfl rfl)
theorem dX3_meanShade_37 : decode cX3_meanShade 37 = .ok (.iaload, 1) := dk_46 (dk_at dksX3_meanShade_1 15 rfl rfl)
theorem dX3_meanShade_38 : decode cX3_meanShade 38 = .ok (.if_icmp .ge 18, 3) := dk_162 0 18 (dk_at dksX3_meanShade_1 16 rfl rfl)
theorem dX3_meanShade_41 : decode cX3_meanShade 41 = .ok (.iload_n 1, 1) := dk_27 (dk_at dksX3_meanShade_1 19 rfl rfl)
theorem dX3_meanShade_42 : decode cX3_meanShade 42 = .ok (.aload_n 0, 1) := dk_42 (dk_at dksX3_meanShade_1 20 rfl rfl)
theorem dX3_meanShade_43 : decode cX3_meanShade 43 = .ok (.iload_n 2, 1) := dk_28 (dk_at dksX3_meanShade_1 21 rfl rfl)
theorem dX3_meanShade_44 : decode cX3_meanShade 44 = .ok (.iconst 3, 1) := dk_6 (dk_at dksX3_meanShade_1 22 rfl rfl)
theorem dX3_meanShade_45 : decode cX3_meanShade 45 = .ok (.invokevirtual 70, 3) := dk_182 0 70 (dk_at dksX3_meanShade_2 0 rfl rfl)
theorem dX3_meanShade_48 : decode cX3_meanShade 48 = .ok (.iadd, 1) := dk_96 (dk_at dksX3_meanShade_2 3 rfl rfl)
theorem dX3_meanShade_49 : decode cX3_meanShade 49 = .ok (.istore_n 1, 1) := dk_60 (dk_at dksX3_meanShade_2 4 rfl rfl)
theorem dX3_meanShade_50 : decode cX3_meanShade 50 = .ok (.iinc 2 1, 3) := dk_132 2 1 (dk_at dksX3_meanShade_2 5 rfl rfl)
theorem dX3_meanShade_53 : decode cX3_meanShade 53 = .ok (.goto (-22), 3) := dk_167 255 234 (dk_at dksX3_meanShade_2 8 rfl rfl)
theorem dX3_meanShade_56 : decode cX3_meanShade 56 = .ok (.iload_n 1, 1) := dk_27 (dk_at dksX3_meanShade_2 11 rfl rfl)
theorem dX3_meanShade_57 : decode cX3_meanShade 57 = .ok (.i2d, 1) := dk_135 (dk_at dksX3_meanShade_2 12 rfl rfl)
theorem dX3_meanShade_58 : decode cX3_meanShade 58 = .ok (.aload_n 0, 1) := dk_42 (dk_at dksX3_meanShade_2 13 rfl rfl)
theorem dX3_meanShade_59 : decode cX3_meanShade 59 = .ok (.getfield 7, 3) := dk_180 0 7 (dk_at dksX3_meanShade_2 14 rfl rfl)
theorem dX3_meanShade_62 : decode cX3_meanShade 62 = .ok (.iconst 2, 1) := dk_5 (dk_at dksX3_meanShade_2 17 rfl rfl)
theorem dX3_meanShade_63 : decode cX3_meanShade 63 = .ok (.iaload, 1) := dk_46 (dk_at dksX3_meanShade_2 18 rfl rfl)
theorem dX3_meanShade_64 : decode cX3_meanShade 64 = .ok (.i2d, 1) := dk_135 (dk_at dksX3_meanShade_2 19 rfl rfl)
theorem dX3_meanShade_65 : decode cX3_meanShade 65 = .ok (.ddiv, 1) := dk_111 (dk_at dksX3_meanShade_2 20 rfl rfl)
theorem dX3_meanShade_66 : decode cX3_meanShade 66 = .ok (.dreturn, 1) := dk_175 (dk_at dksX3_meanShade_2 21 rfl rfl)
abbrev cX3_wasted : ByteArray := prog_19_method_74_code
def yX3_wasted : MethodName := ⟨RX3, "wasted", "()F"⟩
def dkwX3_wasted_1 : List UInt8 := [167, 0, 16, 42, 180, 0, 7, 8, 46, 134, 42, 182, 0, 233, 134, 110, 174]
abbrev dktX3_wasted_1 : List UInt8 := dkwX3_wasted_1 ++ []
def dkwX3_wasted_0 : List UInt8 := [42, 42, 182, 0, 233, 154, 0, 7, 4, 167, 0, 4, 3, 181, 0, 38, 42, 180, 0, 38, 158, 0, 7, 11]
abbrev dktX3_wasted_0 : List UInt8 := dkwX3_wasted_0 ++ dktX3_wasted_1
theorem dksX3_wasted_0 : cX3_wasted.data.toList.drop 0 = dktX3_wasted_0 := by decide +kernel
theorem dksX3_wasted_1 : cX3_wasted.data.toList.drop 24 = dktX3_wasted_1 := dk_seg dksX3_wasted_0 24 rfl rfl
theorem dX3_wasted_0 : decode cX3_wasted 0 = .ok (.aload_n 0, 1) := dk_42 (dk_at dksX3_wasted_0 0 rfl rfl)
theorem dX3_wasted_1 : decode cX3_wasted 1 = .ok (.aload_n 0, 1) := dk_42 (dk_at dksX3_wasted_0 1 rfl rfl)
theorem dX3_wasted_2 : decode cX3_wasted 2 = .ok (.invokevirtual 233, 3) := dk_182 0 233 (dk_at dksX3_wasted_0 2 rfl rfl)
theorem dX3_wasted_5 : decode cX3_wasted 5 = .ok (.ifCond .ne 7, 3) := dk_154 0 7 (dk_at dksX3_wasted_0 5 rfl rfl)
theorem dX3_wasted_8 : decode cX3_wasted 8 = .ok (.iconst 1, 1) := dk_4 (dk_at dksX3_wasted_0 8 rfl rfl)
theorem dX3_wasted_9 : decode cX3_wasted 9 = .ok (.goto 4, 3) := dk_167 0 4 (dk_at dksX3_wasted_0 9 rfl rfl)
theorem dX3_wasted_12 : decode cX3_wasted 12 = .ok (.iconst 0, 1) := dk_3 (dk_at dksX3_wasted_0 12 rfl rfl)
theorem dX3_wasted_13 : decode cX3_wasted 13 = .ok (.putfield 38, 3) := dk_181 0 38 (dk_at dksX3_wasted_0 13 rfl rfl)
theorem dX3_wasted_16 : decode cX3_wasted 16 = .ok (.aload_n 0, 1) := dk_42 (dk_at dksX3_wasted_0 16 rfl rfl)
theorem dX3_wasted_17 : decode cX3_wasted 17 = .ok (.getfield 38, 3) := dk_180 0 38 (dk_at dksX3_wasted_0 17 rfl rfl)
theorem dX3_wasted_20 : decode cX3_wasted 20 = .ok (.ifCond .le 7, 3) := dk_158 0 7 (dk_at dksX3_wasted_0 20 rfl rfl)
theorem dX3_wasted_23 : decode cX3_wasted 23 = .ok (.fconst 0, 1) := dk_11 (dk_at dksX3_wasted_0 23 rfl rfl)
theorem dX3_wasted_24 : decode cX3_wasted 24 = .ok (.goto 16, 3) := dk_167 0 16 (dk_at dksX3_wasted_1 0 rfl rfl)
theorem dX3_wasted_27 : decode cX3_wasted 27 = .ok (.aload_n 0, 1) := dk_42 (dk_at dksX3_wasted_1 3 rfl rfl)
theorem dX3_wasted_28 : decode cX3_wasted 28 = .ok (.getfield 7, 3) := dk_180 0 7 (dk_at dksX3_wasted_1 4 rfl rfl)
theorem dX3_wasted_31 : decode cX3_wasted 31 = .ok (.iconst 5, 1) := dk_8 (dk_at dksX3_wasted_1 7 rfl rfl)
theorem dX3_wasted_32 : decode cX3_wasted 32 = .ok (.iaload, 1) := dk_46 (dk_at dksX3_wasted_1 8 rfl rfl)
theorem dX3_wasted_33 : decode cX3_wasted 33 = .ok (.i2f, 1) := dk_134 (dk_at dksX3_wasted_1 9 rfl rfl)
theorem dX3_wasted_34 : decode cX3_wasted 34 = .ok (.aload_n 0, 1) := dk_42 (dk_at dksX3_wasted_1 10 rfl rfl)
theorem dX3_wasted_35 : decode cX3_wasted 35 = .ok (.invokevirtual 233, 3) := dk_182 0 233 (dk_at dksX3_wasted_1 11 rfl rfl)
theorem dX3_wasted_38 : decode cX3_wasted 38 = .ok (.i2f, 1) := dk_134 (dk_at dksX3_wasted_1 14 rfl rfl)
theorem dX3_wasted_39 : decode cX3_wasted 39 = .ok (.fdiv, 1) := dk_110 (dk_at dksX3_wasted_1 15 rfl rfl)
theorem dX3_wasted_40 : decode cX3_wasted 40 = .ok (.freturn, 1) := dk_174 (dk_at dksX3_wasted_1 16 rfl rfl)
abbrev cX3_used : ByteArray := prog_19_method_69_code
def yX3_used : MethodName := ⟨RX3, "used", "()I"⟩
def dkwX3_used_1 : List UInt8 := [132, 2, 1, 167, 255, 234, 27, 172]
abbrev dktX3_used_1 : List UInt8 := dkwX3_used_1 ++ []
def dkwX3_used_0 : List UInt8 := [3, 60, 3, 61, 28, 42, 180, 0, 7, 5, 46, 162, 0, 18, 27, 42, 28, 7, 182, 0, 70, 96, 60]
abbrev dktX3_used_0 : List UInt8 := dkwX3_used_0 ++ dktX3_used_1
theorem dksX3_used_0 : cX3_used.data.toList.drop 0 = dktX3_used_0 := by decide +kernel
theorem dksX3_used_1 : cX3_used.data.toList.drop 23 = dktX3_used_1 := dk_seg dksX3_used_0 23 rfl rfl
theorem dX3_used_0 : decode cX3_used 0 = .ok (.iconst 0, 1) := dk_3 (dk_at dksX3_used_0 0 rfl rfl)
theorem dX3_used_1 : decode cX3_used 1 = .ok (.istore_n 1, 1) := dk_60 (dk_at dksX3_used_0 1 rfl rfl)
theorem dX3_used_2 : decode cX3_used 2 = .ok (.iconst 0, 1) := dk_3 (dk_at dksX3_used_0 2 rfl rfl)
theorem dX3_used_3 : decode cX3_used 3 = .ok (.istore_n 2, 1) := dk_61 (dk_at dksX3_used_0 3 rfl rfl)
theorem dX3_used_4 : decode cX3_used 4 = .ok (.iload_n 2, 1) := dk_28 (dk_at dksX3_used_0 4 rfl rfl)
theorem dX3_used_5 : decode cX3_used 5 = .ok (.aload_n 0, 1) := dk_42 (dk_at dksX3_used_0 5 rfl rfl)
theorem dX3_used_6 : decode cX3_used 6 = .ok (.getfield 7, 3) := dk_180 0 7 (dk_at dksX3_used_0 6 rfl rfl)
theorem dX3_used_9 : decode cX3_used 9 = .ok (.iconst 2, 1) := dk_5 (dk_at dksX3_used_0 9 rfl rfl)
theorem dX3_used_10 : decode cX3_used 10 = .ok (.iaload, 1) := dk_46 (dk_at dksX3_used_0 10 rfl rfl)
theorem dX3_used_11 : decode cX3_used 11 = .ok (.if_icmp .ge 18, 3) := dk_162 0 18 (dk_at dksX3_used_0 11 rfl rfl)
theorem dX3_used_14 : decode cX3_used 14 = .ok (.iload_n 1, 1) := dk_27 (dk_at dksX3_used_0 14 rfl rfl)
theorem dX3_used_15 : decode cX3_used 15 = .ok (.aload_n 0, 1) := dk_42 (dk_at dksX3_used_0 15 rfl rfl)
theorem dX3_used_16 : decode cX3_used 16 = .ok (.iload_n 2, 1) := dk_28 (dk_at dksX3_used_0 16 rfl rfl)
theorem dX3_used_17 : decode cX3_used 17 = .ok (.iconst 4, 1) := dk_7 (dk_at dksX3_used_0 17 rfl rfl)
theorem dX3_used_18 : decode cX3_used 18 = .ok (.invokevirtual 70, 3) := dk_182 0 70 (dk_at dksX3_used_0 18 rfl rfl)
theorem dX3_used_21 : decode cX3_used 21 = .ok (.iadd, 1) := dk_96 (dk_at dksX3_used_0 21 rfl rfl)
theorem dX3_used_22 : decode cX3_used 22 = .ok (.istore_n 1, 1) := dk_60 (dk_at dksX3_used_0 22 rfl rfl)
theorem dX3_used_23 : decode cX3_used 23 = .ok (.iinc 2 1, 3) := dk_132 2 1 (dk_at dksX3_used_1 0 rfl rfl)
theorem dX3_used_26 : decode cX3_used 26 = .ok (.goto (-22), 3) := dk_167 255 234 (dk_at dksX3_used_1 3 rfl rfl)
theorem dX3_used_29 : decode cX3_used 29 = .ok (.iload_n 1, 1) := dk_27 (dk_at dksX3_used_1 6 rfl rfl)
theorem dX3_used_30 : decode cX3_used 30 = .ok (.ireturn, 1) := dk_172 (dk_at dksX3_used_1 7 rfl rfl)
abbrev cX3_feed : ByteArray := prog_19_method_75_code
def yX3_feed : MethodName := ⟨RX3, "feed", "(C)I"⟩
def dkwX3_feed_1 : List UInt8 := [42, 180, 0, 231, 27, 79, 42, 89, 180, 0, 231, 4, 96, 181, 0, 231, 42, 180, 0, 231, 172]
abbrev dktX3_feed_1 : List UInt8 := dkwX3_feed_1 ++ []
def dkwX3_feed_0 : List UInt8 := [42, 3, 181, 0, 38, 42, 180, 0, 231, 16, 60, 160, 0, 9, 42, 4, 182, 0, 63, 172, 42, 180, 0, 25]
abbrev dktX3_feed_0 : List UInt8 := dkwX3_feed_0 ++ dktX3_feed_1
theorem dksX3_feed_0 : cX3_feed.data.toList.drop 0 = dktX3_feed_0 := by decide +kernel
theorem dksX3_feed_1 : cX3_feed.data.toList.drop 24 = dktX3_feed_1 := dk_seg dksX3_feed_0 24 rfl rfl
theorem dX3_feed_0 : decode cX3_feed 0 = .ok (.aload_n 0, 1) := dk_42 (dk_at dksX3_feed_0 0 rfl rfl)
theorem dX3_feed_1 : decode cX3_feed 1 = .ok (.iconst 0, 1) := dk_3 (dk_at dksX3_feed_0 1 rfl rfl)
theorem dX3_feed_2 : decode cX3_feed 2 = .ok (.putfield 38, 3) := dk_181 0 38 (dk_at dksX3_feed_0 2 rfl rfl)
theorem dX3_feed_5 : decode cX3_feed 5 = .ok (.aload_n 0, 1) := dk_42 (dk_at dksX3_feed_0 5 rfl rfl)
theorem dX3_feed_6 : decode cX3_feed 6 = .ok (.getfield 231, 3) := dk_180 0 231 (dk_at dksX3_feed_0 6 rfl rfl)
theorem dX3_feed_9 : decode cX3_feed 9 = .ok (.bipush 60, 2) := dk_16 60 (dk_at dksX3_feed_0 9 rfl rfl)
theorem dX3_feed_11 : decode cX3_feed 11 = .ok (.if_icmp .ne 9, 3) := dk_160 0 9 (dk_at dksX3_feed_0 11 rfl rfl)
theorem dX3_feed_14 : decode cX3_feed 14 = .ok (.aload_n 0, 1) := dk_42 (dk_at dksX3_feed_0 14 rfl rfl)
theorem dX3_feed_15 : decode cX3_feed 15 = .ok (.iconst 1, 1) := dk_4 (dk_at dksX3_feed_0 15 rfl rfl)
theorem dX3_feed_16 : decode cX3_feed 16 = .ok (.invokevirtual 63, 3) := dk_182 0 63 (dk_at dksX3_feed_0 16 rfl rfl)
theorem dX3_feed_19 : decode cX3_feed 19 = .ok (.ireturn, 1) := dk_172 (dk_at dksX3_feed_0 19 rfl rfl)
theorem dX3_feed_20 : decode cX3_feed 20 = .ok (.aload_n 0, 1) := dk_42 (dk_at dksX3_feed_0 20 rfl rfl)
theorem dX3_feed_21 : decode cX3_feed 21 = .ok (.getfield 25, 3) := dk_180 0 25 (dk_at dksX3_feed_0 21 rfl rfl)
theorem dX3_feed_24 : decode cX3_feed 24 = .ok (.aload_n 0, 1) := dk_42 (dk_at dksX3_feed_1 0 rfl rfl)
theorem dX3_feed_25 : decode cX3_feed 25 = .ok (.getfield 231, 3) := dk_180 0 231 (dk_at dksX3_feed_1 1 rfl rfl)
theorem dX3_feed_28 : decode cX3_feed 28 = .ok (.iload_n 1, 1) := dk_27 (dk_at dksX3_feed_1 4 rfl rfl)
theorem dX3_feed_29 : decode cX3_feed 29 = .ok (.iastore, 1) := dk_79 (dk_at dksX3_feed_1 5 rfl rfl)
theorem dX3_feed_30 : decode cX3_feed 30 = .ok (.aload_n 0, 1) := dk_42 (dk_at dksX3_feed_1 6 rfl rfl)
theorem dX3_feed_31 : decode cX3_feed 31 = .ok (.dup, 1) := dk_89 (dk_at dksX3_feed_1 7 rfl rfl)
theorem dX3_feed_32 : decode cX3_feed 32 = .ok (.getfield 231, 3) := dk_180 0 231 (dk_at dksX3_feed_1 8 rfl rfl)
theorem dX3_feed_35 : decode cX3_feed 35 = .ok (.iconst 1, 1) := dk_4 (dk_at dksX3_feed_1 11 rfl rfl)
theorem dX3_feed_36 : decode cX3_feed 36 = .ok (.iadd, 1) := dk_96 (dk_at dksX3_feed_1 12 rfl rfl)
theorem dX3_feed_37 : decode cX3_feed 37 = .ok (.putfield 231, 3) := dk_181 0 231 (dk_at dksX3_feed_1 13 rfl rfl)
theorem dX3_feed_40 : decode cX3_feed 40 = .ok (.aload_n 0, 1) := dk_42 (dk_at dksX3_feed_1 16 rfl rfl)
theorem dX3_feed_41 : decode cX3_feed 41 = .ok (.getfield 231, 3) := dk_180 0 231 (dk_at dksX3_feed_1 17 rfl rfl)
theorem dX3_feed_44 : decode cX3_feed 44 = .ok (.ireturn, 1) := dk_172 (dk_at dksX3_feed_1 20 rfl rfl)
abbrev cX3_read : ByteArray := prog_19_method_82_code
def yX3_read : MethodName := ⟨RX3, "read", "()I"⟩
def dkwX3_read_8 : List UInt8 := [182, 0, 63, 172, 132, 1, 1, 167, 255, 170, 42, 42, 180, 0, 252, 182, 0, 50, 172]
abbrev dktX3_read_8 : List UInt8 := dkwX3_read_8 ++ []
def dkwX3_read_7 : List UInt8 := [28, 158, 0, 7, 28, 167, 0, 4, 3, 181, 0, 60, 42, 42, 180, 0, 44, 181, 1, 27, 42, 5]
abbrev dktX3_read_7 : List UInt8 := dkwX3_read_7 ++ dktX3_read_8
def dkwX3_read_6 : List UInt8 := [180, 0, 13, 29, 46, 79, 132, 3, 1, 167, 255, 234, 42, 16, 20, 181, 0, 54, 42, 27, 181, 0, 57, 42]
abbrev dktX3_read_6 : List UInt8 := dkwX3_read_6 ++ dktX3_read_7
def dkwX3_read_5 : List UInt8 := [182, 1, 24, 61, 28, 153, 0, 68, 3, 62, 29, 17, 3, 25, 162, 0, 21, 42, 180, 0, 7, 29, 42]
abbrev dktX3_read_5 : List UInt8 := dkwX3_read_5 ++ dktX3_read_6
def dkwX3_read_4 : List UInt8 := [180, 0, 236, 181, 0, 34, 42, 4, 182, 0, 63, 172, 3, 60, 27, 42, 180, 0, 252, 162, 0, 84, 42, 27]
abbrev dktX3_read_4 : List UInt8 := dkwX3_read_4 ++ dktX3_read_5
def dkwX3_read_3 : List UInt8 := [167, 255, 226, 42, 180, 0, 242, 154, 0, 14, 42, 180, 0, 236, 42, 180, 0, 239, 162, 0, 17, 42, 42]
abbrev dktX3_read_3 : List UInt8 := dkwX3_read_3 ++ dktX3_read_4
def dkwX3_read_2 : List UInt8 := [42, 182, 0, 246, 16, 59, 160, 0, 20, 42, 89, 180, 0, 236, 4, 96, 181, 0, 236, 42, 182, 1, 21]
abbrev dktX3_read_2 : List UInt8 := dkwX3_read_2 ++ dktX3_read_3
def dkwX3_read_1 : List UInt8 := [181, 0, 231, 42, 3, 181, 0, 252, 42, 3, 181, 0, 242, 42, 182, 1, 21, 42, 180, 0, 242, 154, 0, 29]
abbrev dktX3_read_1 : List UInt8 := dkwX3_read_1 ++ dktX3_read_2
def dkwX3_read_0 : List UInt8 := [42, 3, 181, 0, 38, 42, 182, 0, 125, 42, 3, 181, 0, 236, 42, 42, 180, 0, 231, 181, 0, 239, 42, 3]
abbrev dktX3_read_0 : List UInt8 := dkwX3_read_0 ++ dktX3_read_1
theorem dksX3_read_0 : cX3_read.data.toList.drop 0 = dktX3_read_0 := by decide +kernel
theorem dksX3_read_1 : cX3_read.data.toList.drop 24 = dktX3_read_1 := dk_seg dksX3_read_0 24 rfl rfl
theorem dksX3_read_2 : cX3_read.data.toList.drop 48 = dktX3_read_2 := dk_seg dksX3_read_1 24 rfl rfl
theorem dksX3_read_3 : cX3_read.data.toList.drop 71 = dktX3_read_3 := dk_seg dksX3_read_2 23 rfl rfl
theorem dksX3_read_4 : cX3_read.data.toList.drop 94 = dktX3_read_4 := dk_seg dksX3_read_3 23 rfl rfl
theorem dksX3_read_5 : cX3_read.data.toList.drop 118 = dktX3_read_5 := dk_seg dksX3_read_4 24 rfl rfl
theorem dksX3_read_6 : cX3_read.data.toList.drop 141 = dktX3_read_6 := dk_seg dksX3_read_5 23 rfl rfl
theorem dksX3_read_7 : cX3_read.data.toList.drop 165 = dktX3_read_7 := dk_seg dksX3_read_6 24 rfl rfl
theorem dksX3_read_8 : cX3_read.data.toList.drop 187 = dktX3_read_8 := dk_seg dksX3_read_7 22 rfl rfl
theorem dX3_read_0 : decode cX3_read 0 = .ok (.aload_n 0, 1) := dk_42 (dk_at dksX3_read_0 0 rfl rfl)
theorem dX3_read_1 : decode cX3_read 1 = .ok (.iconst 0, 1) := dk_3 (dk_at dksX3_read_0 1 rfl rfl)
theorem dX3_read_2 : decode cX3_read 2 = .ok (.putfield 38, 3) := dk_181 0 38 (dk_at dksX3_read_0 2 rfl rfl)
theorem dX3_read_5 : decode cX3_read 5 = .ok (.aload_n 0, 1) := dk_42 (dk_at dksX3_read_0 5 rfl rfl)
theorem dX3_read_6 : decode cX3_read 6 = .ok (.invokevirtual 125, 3) := dk_182 0 125 (dk_at dksX3_read_0 6 rfl rfl)
theorem dX3_read_9 : decode cX3_read 9 = .ok (.aload_n 0, 1) := dk_42 (dk_at dksX3_read_0 9 rfl rfl)
theorem dX3_read_10 : decode cX3_read 10 = .ok (.iconst 0, 1) := dk_3 (dk_at dksX3_read_0 10 rfl rfl)
theorem dX3_read_11 : decode cX3_read 11 = .ok (.putfield 236, 3) := dk_181 0 236 (dk_at dksX3_read_0 11 rfl rfl)
theorem dX3_read_14 : decode cX3_read 14 = .ok (.aload_n 0, 1) := dk_42 (dk_at dksX3_read_0 14 rfl rfl)
theorem dX3_read_15 : decode cX3_read 15 = .ok (.aload_n 0, 1) := dk_42 (dk_at dksX3_read_0 15 rfl rfl)
theorem dX3_read_16 : decode cX3_read 16 = .ok (.getfield 231, 3) := dk_180 0 231 (dk_at dksX3_read_0 16 rfl rfl)
theorem dX3_read_19 : decode cX3_read 19 = .ok (.putfield 239, 3) := dk_181 0 239 (dk_at dksX3_read_0 19 rfl rfl)
theorem dX3_read_22 : decode cX3_read 22 = .ok (.aload_n 0, 1) := dk_42 (dk_at dksX3_read_0 22 rfl rfl)
theorem dX3_read_23 : decode cX3_read 23 = .ok (.iconst 0, 1) := dk_3 (dk_at dksX3_read_0 23 rfl rfl)
theorem dX3_read_24 : decode cX3_read 24 = .ok (.putfield 231, 3) := dk_181 0 231 (dk_at dksX3_read_1 0 rfl rfl)
theorem dX3_read_27 : decode cX3_read 27 = .ok (.aload_n 0, 1) := dk_42 (dk_at dksX3_read_1 3 rfl rfl)
theorem dX3_read_28 : decode cX3_read 28 = .ok (.iconst 0, 1) := dk_3 (dk_at dksX3_read_1 4 rfl rfl)
theorem dX3_read_29 : decode cX3_read 29 = .ok (.putfield 252, 3) := dk_181 0 252 (dk_at dksX3_read_1 5 rfl rfl)
theorem dX3_read_32 : decode cX3_read 32 = .ok (.aload_n 0, 1) := dk_42 (dk_at dksX3_read_1 8 rfl rfl)
theorem dX3_read_33 : decode cX3_read 33 = .ok (.iconst 0, 1) := dk_3 (dk_at dksX3_read_1 9 rfl rfl)
theorem dX3_read_34 : decode cX3_read 34 = .ok (.putfield 242, 3) := dk_181 0 242 (dk_at dksX3_read_1 10 rfl rfl)
theorem dX3_read_37 : decode cX3_read 37 = .ok (.aload_n 0, 1) := dk_42 (dk_at dksX3_read_1 13 rfl rfl)
theorem dX3_read_38 : decode cX3_read 38 = .ok (.invokevirtual 277, 3) := dk_182 1 21 (dk_at dksX3_read_1 14 rfl rfl)
theorem dX3_read_41 : decode cX3_read 41 = .ok (.aload_n 0, 1) := dk_42 (dk_at dksX3_read_1 17 rfl rfl)
theorem dX3_read_42 : decode cX3_read 42 = .ok (.getfield 242, 3) := dk_180 0 242 (dk_at dksX3_read_1 18 rfl rfl)
theorem dX3_read_45 : decode cX3_read 45 = .ok (.ifCond .ne 29, 3) := dk_154 0 29 (dk_at dksX3_read_1 21 rfl rfl)
theorem dX3_read_48 : decode cX3_read 48 = .ok (.aload_n 0, 1) := dk_42 (dk_at dksX3_read_2 0 rfl rfl)
theorem dX3_read_49 : decode cX3_read 49 = .ok (.invokevirtual 246, 3) := dk_182 0 246 (dk_at dksX3_read_2 1 rfl rfl)
theorem dX3_read_52 : decode cX3_read 52 = .ok (.bipush 59, 2) := dk_16 59 (dk_at dksX3_read_2 4 rfl rfl)
theorem dX3_read_54 : decode cX3_read 54 = .ok (.if_icmp .ne 20, 3) := dk_160 0 20 (dk_at dksX3_read_2 6 rfl rfl)
theorem dX3_read_57 : decode cX3_read 57 = .ok (.aload_n 0, 1) := dk_42 (dk_at dksX3_read_2 9 rfl rfl)
theorem dX3_read_58 : decode cX3_read 58 = .ok (.dup, 1) := dk_89 (dk_at dksX3_read_2 10 rfl rfl)
theorem dX3_read_59 : decode cX3_read 59 = .ok (.getfield 236, 3) := dk_180 0 236 (dk_at dksX3_read_2 11 rfl rfl)
theorem dX3_read_62 : decode cX3_read 62 = .ok (.iconst 1, 1) := dk_4 (dk_at dksX3_read_2 14 rfl rfl)
theorem dX3_read_63 : decode cX3_read 63 = .ok (.iadd, 1) := dk_96 (dk_at dksX3_read_2 15 rfl rfl)
theorem dX3_read_64 : decode cX3_read 64 = .ok (.putfield 236, 3) := dk_181 0 236 (dk_at dksX3_read_2 16 rfl rfl)
theorem dX3_read_67 : decode cX3_read 67 = .ok (.aload_n 0, 1) := dk_42 (dk_at dksX3_read_2 19 rfl rfl)
theorem dX3_read_68 : decode cX3_read 68 = .ok (.invokevirtual 277, 3) := dk_182 1 21 (dk_at dksX3_read_2 20 rfl rfl)
theorem dX3_read_71 : decode cX3_read 71 = .ok (.goto (-30), 3) := dk_167 255 226 (dk_at dksX3_read_3 0 rfl rfl)
theorem dX3_read_74 : decode cX3_read 74 = .ok (.aload_n 0, 1) := dk_42 (dk_at dksX3_read_3 3 rfl rfl)
theorem dX3_read_75 : decode cX3_read 75 = .ok (.getfield 242, 3) := dk_180 0 242 (dk_at dksX3_read_3 4 rfl rfl)
theorem dX3_read_78 : decode cX3_read 78 = .ok (.ifCond .ne 14, 3) := dk_154 0 14 (dk_at dksX3_read_3 7 rfl rfl)
theorem dX3_read_81 : decode cX3_read 81 = .ok (.aload_n 0, 1) := dk_42 (dk_at dksX3_read_3 10 rfl rfl)
theorem dX3_read_82 : decode cX3_read 82 = .ok (.getfield 236, 3) := dk_180 0 236 (dk_at dksX3_read_3 11 rfl rfl)
theorem dX3_read_85 : decode cX3_read 85 = .ok (.aload_n 0, 1) := dk_42 (dk_at dksX3_read_3 14 rfl rfl)
theorem dX3_read_86 : decode cX3_read 86 = .ok (.getfield 239, 3) := dk_180 0 239 (dk_at dksX3_read_3 15 rfl rfl)
theorem dX3_read_89 : decode cX3_read 89 = .ok (.if_icmp .ge 17, 3) := dk_162 0 17 (dk_at dksX3_read_3 18 rfl rfl)
theorem dX3_read_92 : decode cX3_read 92 = .ok (.aload_n 0, 1) := dk_42 (dk_at dksX3_read_3 21 rfl rfl)
theorem dX3_read_93 : decode cX3_read 93 = .ok (.aload_n 0, 1) := dk_42 (dk_at dksX3_read_3 22 rfl rfl)
theorem dX3_read_94 : decode cX3_read 94 = .ok (.getfield 236, 3) := dk_180 0 236 (dk_at dksX3_read_4 0 rfl rfl)
theorem dX3_read_97 : decode cX3_read 97 = .ok (.putfield 34, 3) := dk_181 0 34 (dk_at dksX3_read_4 3 rfl rfl)
theorem dX3_read_100 : decode cX3_read 100 = .ok (.aload_n 0, 1) := dk_42 (dk_at dksX3_read_4 6 rfl rfl)
theorem dX3_read_101 : decode cX3_read 101 = .ok (.iconst 1, 1) := dk_4 (dk_at dksX3_read_4 7 rfl rfl)
theorem dX3_read_102 : decode cX3_read 102 = .ok (.invokevirtual 63, 3) := dk_182 0 63 (dk_at dksX3_read_4 8 rfl rfl)
theorem dX3_read_105 : decode cX3_read 105 = .ok (.ireturn, 1) := dk_172 (dk_at dksX3_read_4 11 rfl rfl)
theorem dX3_read_106 : decode cX3_read 106 = .ok (.iconst 0, 1) := dk_3 (dk_at dksX3_read_4 12 rfl rfl)
theorem dX3_read_107 : decode cX3_read 107 = .ok (.istore_n 1, 1) := dk_60 (dk_at dksX3_read_4 13 rfl rfl)
theorem dX3_read_108 : decode cX3_read 108 = .ok (.iload_n 1, 1) := dk_27 (dk_at dksX3_read_4 14 rfl rfl)
theorem dX3_read_109 : decode cX3_read 109 = .ok (.aload_n 0, 1) := dk_42 (dk_at dksX3_read_4 15 rfl rfl)
theorem dX3_read_110 : decode cX3_read 110 = .ok (.getfield 252, 3) := dk_180 0 252 (dk_at dksX3_read_4 16 rfl rfl)
theorem dX3_read_113 : decode cX3_read 113 = .ok (.if_icmp .ge 84, 3) := dk_162 0 84 (dk_at dksX3_read_4 19 rfl rfl)
theorem dX3_read_116 : decode cX3_read 116 = .ok (.aload_n 0, 1) := dk_42 (dk_at dksX3_read_4 22 rfl rfl)
theorem dX3_read_117 : decode cX3_read 117 = .ok (.iload_n 1, 1) := dk_27 (dk_at dksX3_read_4 23 rfl rfl)
theorem dX3_read_118 : decode cX3_read 118 = .ok (.invokevirtual 280, 3) := dk_182 1 24 (dk_at dksX3_read_5 0 rfl rfl)
theorem dX3_read_121 : decode cX3_read 121 = .ok (.istore_n 2, 1) := dk_61 (dk_at dksX3_read_5 3 rfl rfl)
theorem dX3_read_122 : decode cX3_read 122 = .ok (.iload_n 2, 1) := dk_28 (dk_at dksX3_read_5 4 rfl rfl)
theorem dX3_read_123 : decode cX3_read 123 = .ok (.ifCond .eq 68, 3) := dk_153 0 68 (dk_at dksX3_read_5 5 rfl rfl)
theorem dX3_read_126 : decode cX3_read 126 = .ok (.iconst 0, 1) := dk_3 (dk_at dksX3_read_5 8 rfl rfl)
theorem dX3_read_127 : decode cX3_read 127 = .ok (.istore_n 3, 1) := dk_62 (dk_at dksX3_read_5 9 rfl rfl)
theorem dX3_read_128 : decode cX3_read 128 = .ok (.iload_n 3, 1) := dk_29 (dk_at dksX3_read_5 10 rfl rfl)
theorem dX3_read_129 : decode cX3_read 129 = .ok (.sipush 793, 3) := dk_17 3 25 (dk_at dksX3_read_5 11 rfl rfl)
theorem dX3_read_132 : decode cX3_read 132 = .ok (.if_icmp .ge 21, 3) := dk_162 0 21 (dk_at dksX3_read_5 14 rfl rfl)
theorem dX3_read_135 : decode cX3_read 135 = .ok (.aload_n 0, 1) := dk_42 (dk_at dksX3_read_5 17 rfl rfl)
theorem dX3_read_136 : decode cX3_read 136 = .ok (.getfield 7, 3) := dk_180 0 7 (dk_at dksX3_read_5 18 rfl rfl)
theorem dX3_read_139 : decode cX3_read 139 = .ok (.iload_n 3, 1) := dk_29 (dk_at dksX3_read_5 21 rfl rfl)
theorem dX3_read_140 : decode cX3_read 140 = .ok (.aload_n 0, 1) := dk_42 (dk_at dksX3_read_5 22 rfl rfl)
theorem dX3_read_141 : decode cX3_read 141 = .ok (.getfield 13, 3) := dk_180 0 13 (dk_at dksX3_read_6 0 rfl rfl)
theorem dX3_read_144 : decode cX3_read 144 = .ok (.iload_n 3, 1) := dk_29 (dk_at dksX3_read_6 3 rfl rfl)
theorem dX3_read_145 : decode cX3_read 145 = .ok (.iaload, 1) := dk_46 (dk_at dksX3_read_6 4 rfl rfl)
theorem dX3_read_146 : decode cX3_read 146 = .ok (.iastore, 1) := dk_79 (dk_at dksX3_read_6 5 rfl rfl)
theorem dX3_read_147 : decode cX3_read 147 = .ok (.iinc 3 1, 3) := dk_132 3 1 (dk_at dksX3_read_6 6 rfl rfl)
theorem dX3_read_150 : decode cX3_read 150 = .ok (.goto (-22), 3) := dk_167 255 234 (dk_at dksX3_read_6 9 rfl rfl)
theorem dX3_read_153 : decode cX3_read 153 = .ok (.aload_n 0, 1) := dk_42 (dk_at dksX3_read_6 12 rfl rfl)
theorem dX3_read_154 : decode cX3_read 154 = .ok (.bipush 20, 2) := dk_16 20 (dk_at dksX3_read_6 13 rfl rfl)
theorem dX3_read_156 : decode cX3_read 156 = .ok (.putfield 54, 3) := dk_181 0 54 (dk_at dksX3_read_6 15 rfl rfl)
theorem dX3_read_159 : decode cX3_read 159 = .ok (.aload_n 0, 1) := dk_42 (dk_at dksX3_read_6 18 rfl rfl)
theorem dX3_read_160 : decode cX3_read 160 = .ok (.iload_n 1, 1) := dk_27 (dk_at dksX3_read_6 19 rfl rfl)
theorem dX3_read_161 : decode cX3_read 161 = .ok (.putfield 57, 3) := dk_181 0 57 (dk_at dksX3_read_6 20 rfl rfl)
theorem dX3_read_164 : decode cX3_read 164 = .ok (.aload_n 0, 1) := dk_42 (dk_at dksX3_read_6 23 rfl rfl)
theorem dX3_read_165 : decode cX3_read 165 = .ok (.iload_n 2, 1) := dk_28 (dk_at dksX3_read_7 0 rfl rfl)
theorem dX3_read_166 : decode cX3_read 166 = .ok (.ifCond .le 7, 3) := dk_158 0 7 (dk_at dksX3_read_7 1 rfl rfl)
theorem dX3_read_169 : decode cX3_read 169 = .ok (.iload_n 2, 1) := dk_28 (dk_at dksX3_read_7 4 rfl rfl)
theorem dX3_read_170 : decode cX3_read 170 = .ok (.goto 4, 3) := dk_167 0 4 (dk_at dksX3_read_7 5 rfl rfl)
theorem dX3_read_173 : decode cX3_read 173 = .ok (.iconst 0, 1) := dk_3 (dk_at dksX3_read_7 8 rfl rfl)
theorem dX3_read_174 : decode cX3_read 174 = .ok (.putfield 60, 3) := dk_181 0 60 (dk_at dksX3_read_7 9 rfl rfl)
theorem dX3_read_177 : decode cX3_read 177 = .ok (.aload_n 0, 1) := dk_42 (dk_at dksX3_read_7 12 rfl rfl)
theorem dX3_read_178 : decode cX3_read 178 = .ok (.aload_n 0, 1) := dk_42 (dk_at dksX3_read_7 13 rfl rfl)
theorem dX3_read_179 : decode cX3_read 179 = .ok (.getfield 44, 3) := dk_180 0 44 (dk_at dksX3_read_7 14 rfl rfl)
theorem dX3_read_182 : decode cX3_read 182 = .ok (.putfield 283, 3) := dk_181 1 27 (dk_at dksX3_read_7 17 rfl rfl)
theorem dX3_read_185 : decode cX3_read 185 = .ok (.aload_n 0, 1) := dk_42 (dk_at dksX3_read_7 20 rfl rfl)
theorem dX3_read_186 : decode cX3_read 186 = .ok (.iconst 2, 1) := dk_5 (dk_at dksX3_read_7 21 rfl rfl)
theorem dX3_read_187 : decode cX3_read 187 = .ok (.invokevirtual 63, 3) := dk_182 0 63 (dk_at dksX3_read_8 0 rfl rfl)
theorem dX3_read_190 : decode cX3_read 190 = .ok (.ireturn, 1) := dk_172 (dk_at dksX3_read_8 3 rfl rfl)
theorem dX3_read_191 : decode cX3_read 191 = .ok (.iinc 1 1, 3) := dk_132 1 1 (dk_at dksX3_read_8 4 rfl rfl)
theorem dX3_read_194 : decode cX3_read 194 = .ok (.goto (-86), 3) := dk_167 255 170 (dk_at dksX3_read_8 7 rfl rfl)
theorem dX3_read_197 : decode cX3_read 197 = .ok (.aload_n 0, 1) := dk_42 (dk_at dksX3_read_8 10 rfl rfl)
theorem dX3_read_198 : decode cX3_read 198 = .ok (.aload_n 0, 1) := dk_42 (dk_at dksX3_read_8 11 rfl rfl)
theorem dX3_read_199 : decode cX3_read 199 = .ok (.getfield 252, 3) := dk_180 0 252 (dk_at dksX3_read_8 12 rfl rfl)
theorem dX3_read_202 : decode cX3_read 202 = .ok (.invokevirtual 50, 3) := dk_182 0 50 (dk_at dksX3_read_8 15 rfl rfl)
theorem dX3_read_205 : decode cX3_read 205 = .ok (.ireturn, 1) := dk_172 (dk_at dksX3_read_8 18 rfl rfl)
abbrev cX3_readsOne : ByteArray := prog_19_method_80_code
def yX3_readsOne : MethodName := ⟨RX3, "readsOne", "()V"⟩
def dkwX3_readsOne_6 : List UInt8 := [181, 0, 242, 177]
abbrev dktX3_readsOne_6 : List UInt8 := dkwX3_readsOne_6 ++ []
def dkwX3_readsOne_5 : List UInt8 := [4, 4, 182, 1, 5, 167, 0, 22, 42, 16, 6, 19, 1, 19, 7, 6, 182, 1, 5, 167, 0, 8, 42, 4]
abbrev dktX3_readsOne_5 : List UInt8 := dkwX3_readsOne_5 ++ dktX3_readsOne_6
def dkwX3_readsOne_4 : List UInt8 := [182, 1, 5, 167, 0, 48, 42, 7, 19, 1, 15, 4, 4, 182, 1, 5, 167, 0, 35, 42, 8, 19, 1, 17]
abbrev dktX3_readsOne_4 : List UInt8 := dkwX3_readsOne_4 ++ dktX3_readsOne_5
def dkwX3_readsOne_3 : List UInt8 := [167, 0, 74, 42, 5, 19, 1, 11, 4, 4, 182, 1, 5, 167, 0, 61, 42, 6, 19, 1, 13, 7, 4]
abbrev dktX3_readsOne_3 : List UInt8 := dkwX3_readsOne_3 ++ dktX3_readsOne_4
def dkwX3_readsOne_2 : List UInt8 := [42, 3, 19, 1, 3, 4, 6, 182, 1, 5, 167, 0, 87, 42, 4, 19, 1, 9, 4, 5, 182, 1, 5]
abbrev dktX3_readsOne_2 : List UInt8 := dkwX3_readsOne_2 ++ dktX3_readsOne_3
def dkwX3_readsOne_1 : List UInt8 := [170, 0, 0, 0, 0, 0, 0, 180, 0, 0, 0, 98, 0, 0, 0, 115, 0, 0, 0, 127, 0, 0, 0, 153, 0, 0, 0, 180, 0, 0, 0, 180, 0, 0, 0, 140, 0, 0, 0, 180, 0, 0, 0, 101, 0, 0, 0, 180, 0, 0, 0, 180, 0, 0, 0, 180, 0, 0, 0, 180, 0, 0, 0, 166, 0, 0, 0, 180, 0, 0, 0, 180, 0, 0, 0, 88, 0, 0, 0, 180, 0, 0, 0, 180, 0, 0, 0, 114]
abbrev dktX3_readsOne_1 : List UInt8 := dkwX3_readsOne_1 ++ dktX3_readsOne_2
def dkwX3_readsOne_0 : List UInt8 := [42, 182, 0, 246]
abbrev dktX3_readsOne_0 : List UInt8 := dkwX3_readsOne_0 ++ dktX3_readsOne_1
theorem dksX3_readsOne_0 : cX3_readsOne.data.toList.drop 0 = dktX3_readsOne_0 := by decide +kernel
theorem dksX3_readsOne_1 : cX3_readsOne.data.toList.drop 4 = dktX3_readsOne_1 := dk_seg dksX3_readsOne_0 4 rfl rfl
theorem dksX3_readsOne_2 : cX3_readsOne.data.toList.drop 92 = dktX3_readsOne_2 := dk_seg dksX3_readsOne_1 88 rfl rfl
theorem dksX3_readsOne_3 : cX3_readsOne.data.toList.drop 115 = dktX3_readsOne_3 := dk_seg dksX3_readsOne_2 23 rfl rfl
theorem dksX3_readsOne_4 : cX3_readsOne.data.toList.drop 138 = dktX3_readsOne_4 := dk_seg dksX3_readsOne_3 23 rfl rfl
theorem dksX3_readsOne_5 : cX3_readsOne.data.toList.drop 162 = dktX3_readsOne_5 := dk_seg dksX3_readsOne_4 24 rfl rfl
theorem dksX3_readsOne_6 : cX3_readsOne.data.toList.drop 186 = dktX3_readsOne_6 := dk_seg dksX3_readsOne_5 24 rfl rfl
theorem dX3_readsOne_0 : decode cX3_readsOne 0 = .ok (.aload_n 0, 1) := dk_42 (dk_at dksX3_readsOne_0 0 rfl rfl)
theorem dX3_readsOne_1 : decode cX3_readsOne 1 = .ok (.invokevirtual 246, 3) := dk_182 0 246 (dk_at dksX3_readsOne_0 1 rfl rfl)
theorem dX3_readsOne_4 : decode cX3_readsOne 4 = .ok (.tableswitch 180 98 115 #[127, 153, 180, 180, 140, 180, 101, 180, 180, 180, 180, 166, 180, 180, 88, 180, 180, 114], 88) := by decide +kernel
theorem dX3_readsOne_92 : decode cX3_readsOne 92 = .ok (.aload_n 0, 1) := dk_42 (dk_at dksX3_readsOne_2 0 rfl rfl)
theorem dX3_readsOne_93 : decode cX3_readsOne 93 = .ok (.iconst 0, 1) := dk_3 (dk_at dksX3_readsOne_2 1 rfl rfl)
theorem dX3_readsOne_94 : decode cX3_readsOne 94 = .ok (.ldc_w 259, 3) := dk_19 1 3 (dk_at dksX3_readsOne_2 2 rfl rfl)
theorem dX3_readsOne_97 : decode cX3_readsOne 97 = .ok (.iconst 1, 1) := dk_4 (dk_at dksX3_readsOne_2 5 rfl rfl)
theorem dX3_readsOne_98 : decode cX3_readsOne 98 = .ok (.iconst 3, 1) := dk_6 (dk_at dksX3_readsOne_2 6 rfl rfl)
theorem dX3_readsOne_99 : decode cX3_readsOne 99 = .ok (.invokevirtual 261, 3) := dk_182 1 5 (dk_at dksX3_readsOne_2 7 rfl rfl)
theorem dX3_readsOne_102 : decode cX3_readsOne 102 = .ok (.goto 87, 3) := dk_167 0 87 (dk_at dksX3_readsOne_2 10 rfl rfl)
theorem dX3_readsOne_105 : decode cX3_readsOne 105 = .ok (.aload_n 0, 1) := dk_42 (dk_at dksX3_readsOne_2 13 rfl rfl)
theorem dX3_readsOne_106 : decode cX3_readsOne 106 = .ok (.iconst 1, 1) := dk_4 (dk_at dksX3_readsOne_2 14 rfl rfl)
theorem dX3_readsOne_107 : decode cX3_readsOne 107 = .ok (.ldc_w 265, 3) := dk_19 1 9 (dk_at dksX3_readsOne_2 15 rfl rfl)
theorem dX3_readsOne_110 : decode cX3_readsOne 110 = .ok (.iconst 1, 1) := dk_4 (dk_at dksX3_readsOne_2 18 rfl rfl)
theorem dX3_readsOne_111 : decode cX3_readsOne 111 = .ok (.iconst 2, 1) := dk_5 (dk_at dksX3_readsOne_2 19 rfl rfl)
theorem dX3_readsOne_112 : decode cX3_readsOne 112 = .ok (.invokevirtual 261, 3) := dk_182 1 5 (dk_at dksX3_readsOne_2 20 rfl rfl)
theorem dX3_readsOne_115 : decode cX3_readsOne 115 = .ok (.goto 74, 3) := dk_167 0 74 (dk_at dksX3_readsOne_3 0 rfl rfl)
theorem dX3_readsOne_118 : decode cX3_readsOne 118 = .ok (.aload_n 0, 1) := dk_42 (dk_at dksX3_readsOne_3 3 rfl rfl)
theorem dX3_readsOne_119 : decode cX3_readsOne 119 = .ok (.iconst 2, 1) := dk_5 (dk_at dksX3_readsOne_3 4 rfl rfl)
theorem dX3_readsOne_120 : decode cX3_readsOne 120 = .ok (.ldc_w 267, 3) := dk_19 1 11 (dk_at dksX3_readsOne_3 5 rfl rfl)
theorem dX3_readsOne_123 : decode cX3_readsOne 123 = .ok (.iconst 1, 1) := dk_4 (dk_at dksX3_readsOne_3 8 rfl rfl)
theorem dX3_readsOne_124 : decode cX3_readsOne 124 = .ok (.iconst 1, 1) := dk_4 (dk_at dksX3_readsOne_3 9 rfl rfl)
theorem dX3_readsOne_125 : decode cX3_readsOne 125 = .ok (.invokevirtual 261, 3) := dk_182 1 5 (dk_at dksX3_readsOne_3 10 rfl rfl)
theorem dX3_readsOne_128 : decode cX3_readsOne 128 = .ok (.goto 61, 3) := dk_167 0 61 (dk_at dksX3_readsOne_3 13 rfl rfl)
theorem dX3_readsOne_131 : decode cX3_readsOne 131 = .ok (.aload_n 0, 1) := dk_42 (dk_at dksX3_readsOne_3 16 rfl rfl)
theorem dX3_readsOne_132 : decode cX3_readsOne 132 = .ok (.iconst 3, 1) := dk_6 (dk_at dksX3_readsOne_3 17 rfl rfl)
theorem dX3_readsOne_133 : decode cX3_readsOne 133 = .ok (.ldc_w 269, 3) := dk_19 1 13 (dk_at dksX3_readsOne_3 18 rfl rfl)
theorem dX3_readsOne_136 : decode cX3_readsOne 136 = .ok (.iconst 4, 1) := dk_7 (dk_at dksX3_readsOne_3 21 rfl rfl)
theorem dX3_readsOne_137 : decode cX3_readsOne 137 = .ok (.iconst 1, 1) := dk_4 (dk_at dksX3_readsOne_3 22 rfl rfl)
theorem dX3_readsOne_138 : decode cX3_readsOne 138 = .ok (.invokevirtual 261, 3) := dk_182 1 5 (dk_at dksX3_readsOne_4 0 rfl rfl)
theorem dX3_readsOne_141 : decode cX3_readsOne 141 = .ok (.goto 48, 3) := dk_167 0 48 (dk_at dksX3_readsOne_4 3 rfl rfl)
theorem dX3_readsOne_144 : decode cX3_readsOne 144 = .ok (.aload_n 0, 1) := dk_42 (dk_at dksX3_readsOne_4 6 rfl rfl)
theorem dX3_readsOne_145 : decode cX3_readsOne 145 = .ok (.iconst 4, 1) := dk_7 (dk_at dksX3_readsOne_4 7 rfl rfl)
theorem dX3_readsOne_146 : decode cX3_readsOne 146 = .ok (.ldc_w 271, 3) := dk_19 1 15 (dk_at dksX3_readsOne_4 8 rfl rfl)
theorem dX3_readsOne_149 : decode cX3_readsOne 149 = .ok (.iconst 1, 1) := dk_4 (dk_at dksX3_readsOne_4 11 rfl rfl)
theorem dX3_readsOne_150 : decode cX3_readsOne 150 = .ok (.iconst 1, 1) := dk_4 (dk_at dksX3_readsOne_4 12 rfl rfl)
theorem dX3_readsOne_151 : decode cX3_readsOne 151 = .ok (.invokevirtual 261, 3) := dk_182 1 5 (dk_at dksX3_readsOne_4 13 rfl rfl)
theorem dX3_readsOne_154 : decode cX3_readsOne 154 = .ok (.goto 35, 3) := dk_167 0 35 (dk_at dksX3_readsOne_4 16 rfl rfl)
theorem dX3_readsOne_157 : decode cX3_readsOne 157 = .ok (.aload_n 0, 1) := dk_42 (dk_at dksX3_readsOne_4 19 rfl rfl)
theorem dX3_readsOne_158 : decode cX3_readsOne 158 = .ok (.iconst 5, 1) := dk_8 (dk_at dksX3_readsOne_4 20 rfl rfl)
theorem dX3_readsOne_159 : decode cX3_readsOne 159 = .ok (.ldc_w 273, 3) := dk_19 1 17 (dk_at dksX3_readsOne_4 21 rfl rfl)
theorem dX3_readsOne_162 : decode cX3_readsOne 162 = .ok (.iconst 1, 1) := dk_4 (dk_at dksX3_readsOne_5 0 rfl rfl)
theorem dX3_readsOne_163 : decode cX3_readsOne 163 = .ok (.iconst 1, 1) := dk_4 (dk_at dksX3_readsOne_5 1 rfl rfl)
theorem dX3_readsOne_164 : decode cX3_readsOne 164 = .ok (.invokevirtual 261, 3) := dk_182 1 5 (dk_at dksX3_readsOne_5 2 rfl rfl)
theorem dX3_readsOne_167 : decode cX3_readsOne 167 = .ok (.goto 22, 3) := dk_167 0 22 (dk_at dksX3_readsOne_5 5 rfl rfl)
theorem dX3_readsOne_170 : decode cX3_readsOne 170 = .ok (.aload_n 0, 1) := dk_42 (dk_at dksX3_readsOne_5 8 rfl rfl)
theorem dX3_readsOne_171 : decode cX3_readsOne 171 = .ok (.bipush 6, 2) := dk_16 6 (dk_at dksX3_readsOne_5 9 rfl rfl)
theorem dX3_readsOne_173 : decode cX3_readsOne 173 = .ok (.ldc_w 275, 3) := dk_19 1 19 (dk_at dksX3_readsOne_5 11 rfl rfl)
theorem dX3_readsOne_176 : decode cX3_readsOne 176 = .ok (.iconst 4, 1) := dk_7 (dk_at dksX3_readsOne_5 14 rfl rfl)
theorem dX3_readsOne_177 : decode cX3_readsOne 177 = .ok (.iconst 3, 1) := dk_6 (dk_at dksX3_readsOne_5 15 rfl rfl)
theorem dX3_readsOne_178 : decode cX3_readsOne 178 = .ok (.invokevirtual 261, 3) := dk_182 1 5 (dk_at dksX3_readsOne_5 16 rfl rfl)
theorem dX3_readsOne_181 : decode cX3_readsOne 181 = .ok (.goto 8, 3) := dk_167 0 8 (dk_at dksX3_readsOne_5 19 rfl rfl)
theorem dX3_readsOne_184 : decode cX3_readsOne 184 = .ok (.aload_n 0, 1) := dk_42 (dk_at dksX3_readsOne_5 22 rfl rfl)
theorem dX3_readsOne_185 : decode cX3_readsOne 185 = .ok (.iconst 1, 1) := dk_4 (dk_at dksX3_readsOne_5 23 rfl rfl)
theorem dX3_readsOne_186 : decode cX3_readsOne 186 = .ok (.putfield 242, 3) := dk_181 0 242 (dk_at dksX3_readsOne_6 0 rfl rfl)
theorem dX3_readsOne_189 : decode cX3_readsOne 189 = .ok (.return_, 1) := dk_177 (dk_at dksX3_readsOne_6 3 rfl rfl)
abbrev cX3_here : ByteArray := prog_19_method_76_code
def yX3_here : MethodName := ⟨RX3, "here", "()I"⟩
def dkwX3_here_1 : List UInt8 := [172]
abbrev dktX3_here_1 : List UInt8 := dkwX3_here_1 ++ []
def dkwX3_here_0 : List UInt8 := [42, 180, 0, 236, 42, 180, 0, 239, 162, 0, 15, 42, 180, 0, 25, 42, 180, 0, 236, 46, 167, 0, 4, 2]
abbrev dktX3_here_0 : List UInt8 := dkwX3_here_0 ++ dktX3_here_1
theorem dksX3_here_0 : cX3_here.data.toList.drop 0 = dktX3_here_0 := by decide +kernel
theorem dksX3_here_1 : cX3_here.data.toList.drop 24 = dktX3_here_1 := dk_seg dksX3_here_0 24 rfl rfl
theorem dX3_here_0 : decode cX3_here 0 = .ok (.aload_n 0, 1) := dk_42 (dk_at dksX3_here_0 0 rfl rfl)
theorem dX3_here_1 : decode cX3_here 1 = .ok (.getfield 236, 3) := dk_180 0 236 (dk_at dksX3_here_0 1 rfl rfl)
theorem dX3_here_4 : decode cX3_here 4 = .ok (.aload_n 0, 1) := dk_42 (dk_at dksX3_here_0 4 rfl rfl)
theorem dX3_here_5 : decode cX3_here 5 = .ok (.getfield 239, 3) := dk_180 0 239 (dk_at dksX3_here_0 5 rfl rfl)
theorem dX3_here_8 : decode cX3_here 8 = .ok (.if_icmp .ge 15, 3) := dk_162 0 15 (dk_at dksX3_here_0 8 rfl rfl)
theorem dX3_here_11 : decode cX3_here 11 = .ok (.aload_n 0, 1) := dk_42 (dk_at dksX3_here_0 11 rfl rfl)
theorem dX3_here_12 : decode cX3_here 12 = .ok (.getfield 25, 3) := dk_180 0 25 (dk_at dksX3_here_0 12 rfl rfl)
theorem dX3_here_15 : decode cX3_here 15 = .ok (.aload_n 0, 1) := dk_42 (dk_at dksX3_here_0 15 rfl rfl)
theorem dX3_here_16 : decode cX3_here 16 = .ok (.getfield 236, 3) := dk_180 0 236 (dk_at dksX3_here_0 16 rfl rfl)
theorem dX3_here_19 : decode cX3_here 19 = .ok (.iaload, 1) := dk_46 (dk_at dksX3_here_0 19 rfl rfl)
theorem dX3_here_20 : decode cX3_here 20 = .ok (.goto 4, 3) := dk_167 0 4 (dk_at dksX3_here_0 20 rfl rfl)
theorem dX3_here_23 : decode cX3_here 23 = .ok (.iconst (-1), 1) := dk_2 (dk_at dksX3_here_0 23 rfl rfl)
theorem dX3_here_24 : decode cX3_here 24 = .ok (.ireturn, 1) := dk_172 (dk_at dksX3_here_1 0 rfl rfl)
abbrev cX3_command : ByteArray := prog_19_method_79_code
def yX3_command : MethodName := ⟨RX3, "command", "(ILjava/lang/String;II)V"⟩
def dkwX3_command_3 : List UInt8 := [180, 0, 252, 4, 96, 181, 0, 252, 177]
abbrev dktX3_command_3 : List UInt8 := dkwX3_command_3 ++ []
def dkwX3_command_2 : List UInt8 := [54, 5, 21, 5, 21, 4, 163, 0, 16, 42, 21, 5, 7, 182, 0, 255, 132, 5, 1, 167, 255, 239, 42, 89]
abbrev dktX3_command_2 : List UInt8 := dkwX3_command_2 ++ dktX3_command_3
def dkwX3_command_1 : List UInt8 := [42, 44, 21, 5, 182, 0, 192, 182, 0, 249, 132, 5, 1, 167, 255, 234, 42, 4, 29, 182, 0, 255, 5]
abbrev dktX3_command_1 : List UInt8 := dkwX3_command_1 ++ dktX3_command_2
def dkwX3_command_0 : List UInt8 := [42, 180, 0, 28, 7, 42, 180, 0, 252, 104, 27, 79, 3, 54, 5, 21, 5, 44, 182, 0, 186, 162, 0, 19]
abbrev dktX3_command_0 : List UInt8 := dkwX3_command_0 ++ dktX3_command_1
theorem dksX3_command_0 : cX3_command.data.toList.drop 0 = dktX3_command_0 := by decide +kernel
theorem dksX3_command_1 : cX3_command.data.toList.drop 24 = dktX3_command_1 := dk_seg dksX3_command_0 24 rfl rfl
theorem dksX3_command_2 : cX3_command.data.toList.drop 47 = dktX3_command_2 := dk_seg dksX3_command_1 23 rfl rfl
theorem dksX3_command_3 : cX3_command.data.toList.drop 71 = dktX3_command_3 := dk_seg dksX3_command_2 24 rfl rfl
theorem dX3_command_0 : decode cX3_command 0 = .ok (.aload_n 0, 1) := dk_42 (dk_at dksX3_command_0 0 rfl rfl)
theorem dX3_command_1 : decode cX3_command 1 = .ok (.getfield 28, 3) := dk_180 0 28 (dk_at dksX3_command_0 1 rfl rfl)
theorem dX3_command_4 : decode cX3_command 4 = .ok (.iconst 4, 1) := dk_7 (dk_at dksX3_command_0 4 rfl rfl)
theorem dX3_command_5 : decode cX3_command 5 = .ok (.aload_n 0, 1) := dk_42 (dk_at dksX3_command_0 5 rfl rfl)
theorem dX3_command_6 : decode cX3_command 6 = .ok (.getfield 252, 3) := dk_180 0 252 (dk_at dksX3_command_0 6 rfl rfl)
theorem dX3_command_9 : decode cX3_command 9 = .ok (.imul, 1) := dk_104 (dk_at dksX3_command_0 9 rfl rfl)
theorem dX3_command_10 : decode cX3_command 10 = .ok (.iload_n 1, 1) := dk_27 (dk_at dksX3_command_0 10 rfl rfl)
theorem dX3_command_11 : decode cX3_command 11 = .ok (.iastore, 1) := dk_79 (dk_at dksX3_command_0 11 rfl rfl)
theorem dX3_command_12 : decode cX3_command 12 = .ok (.iconst 0, 1) := dk_3 (dk_at dksX3_command_0 12 rfl rfl)
theorem dX3_command_13 : decode cX3_command 13 = .ok (.istore 5, 2) := dk_54 5 (dk_at dksX3_command_0 13 rfl rfl)
theorem dX3_command_15 : decode cX3_command 15 = .ok (.iload 5, 2) := dk_21 5 (dk_at dksX3_command_0 15 rfl rfl)
theorem dX3_command_17 : decode cX3_command 17 = .ok (.aload_n 2, 1) := dk_44 (dk_at dksX3_command_0 17 rfl rfl)
theorem dX3_command_18 : decode cX3_command 18 = .ok (.invokevirtual 186, 3) := dk_182 0 186 (dk_at dksX3_command_0 18 rfl rfl)
theorem dX3_command_21 : decode cX3_command 21 = .ok (.if_icmp .ge 19, 3) := dk_162 0 19 (dk_at dksX3_command_0 21 rfl rfl)
theorem dX3_command_24 : decode cX3_command 24 = .ok (.aload_n 0, 1) := dk_42 (dk_at dksX3_command_1 0 rfl rfl)
theorem dX3_command_25 : decode cX3_command 25 = .ok (.aload_n 2, 1) := dk_44 (dk_at dksX3_command_1 1 rfl rfl)
theorem dX3_command_26 : decode cX3_command 26 = .ok (.iload 5, 2) := dk_21 5 (dk_at dksX3_command_1 2 rfl rfl)
theorem dX3_command_28 : decode cX3_command 28 = .ok (.invokevirtual 192, 3) := dk_182 0 192 (dk_at dksX3_command_1 4 rfl rfl)
theorem dX3_command_31 : decode cX3_command 31 = .ok (.invokevirtual 249, 3) := dk_182 0 249 (dk_at dksX3_command_1 7 rfl rfl)
theorem dX3_command_34 : decode cX3_command 34 = .ok (.iinc 5 1, 3) := dk_132 5 1 (dk_at dksX3_command_1 10 rfl rfl)
theorem dX3_command_37 : decode cX3_command 37 = .ok (.goto (-22), 3) := dk_167 255 234 (dk_at dksX3_command_1 13 rfl rfl)
theorem dX3_command_40 : decode cX3_command 40 = .ok (.aload_n 0, 1) := dk_42 (dk_at dksX3_command_1 16 rfl rfl)
theorem dX3_command_41 : decode cX3_command 41 = .ok (.iconst 1, 1) := dk_4 (dk_at dksX3_command_1 17 rfl rfl)
theorem dX3_command_42 : decode cX3_command 42 = .ok (.iload_n 3, 1) := dk_29 (dk_at dksX3_command_1 18 rfl rfl)
theorem dX3_command_43 : decode cX3_command 43 = .ok (.invokevirtual 255, 3) := dk_182 0 255 (dk_at dksX3_command_1 19 rfl rfl)
theorem dX3_command_46 : decode cX3_command 46 = .ok (.iconst 2, 1) := dk_5 (dk_at dksX3_command_1 22 rfl rfl)
theorem dX3_command_47 : decode cX3_command 47 = .ok (.istore 5, 2) := dk_54 5 (dk_at dksX3_command_2 0 rfl rfl)
theorem dX3_command_49 : decode cX3_command 49 = .ok (.iload 5, 2) := dk_21 5 (dk_at dksX3_command_2 2 rfl rfl)
theorem dX3_command_51 : decode cX3_command 51 = .ok (.iload 4, 2) := dk_21 4 (dk_at dksX3_command_2 4 rfl rfl)
theorem dX3_command_53 : decode cX3_command 53 = .ok (.if_icmp .gt 16, 3) := dk_163 0 16 (dk_at dksX3_command_2 6 rfl rfl)
theorem dX3_command_56 : decode cX3_command 56 = .ok (.aload_n 0, 1) := dk_42 (dk_at dksX3_command_2 9 rfl rfl)
theorem dX3_command_57 : decode cX3_command 57 = .ok (.iload 5, 2) := dk_21 5 (dk_at dksX3_command_2 10 rfl rfl)
theorem dX3_command_59 : decode cX3_command 59 = .ok (.iconst 4, 1) := dk_7 (dk_at dksX3_command_2 12 rfl rfl)
theorem dX3_command_60 : decode cX3_command 60 = .ok (.invokevirtual 255, 3) := dk_182 0 255 (dk_at dksX3_command_2 13 rfl rfl)
theorem dX3_command_63 : decode cX3_command 63 = .ok (.iinc 5 1, 3) := dk_132 5 1 (dk_at dksX3_command_2 16 rfl rfl)
theorem dX3_command_66 : decode cX3_command 66 = .ok (.goto (-17), 3) := dk_167 255 239 (dk_at dksX3_command_2 19 rfl rfl)
theorem dX3_command_69 : decode cX3_command 69 = .ok (.aload_n 0, 1) := dk_42 (dk_at dksX3_command_2 22 rfl rfl)
theorem dX3_command_70 : decode cX3_command 70 = .ok (.dup, 1) := dk_89 (dk_at dksX3_command_2 23 rfl rfl)
theorem dX3_command_71 : decode cX3_command 71 = .ok (.getfield 252, 3) := dk_180 0 252 (dk_at dksX3_command_3 0 rfl rfl)
theorem dX3_command_74 : decode cX3_command 74 = .ok (.iconst 1, 1) := dk_4 (dk_at dksX3_command_3 3 rfl rfl)
theorem dX3_command_75 : decode cX3_command 75 = .ok (.iadd, 1) := dk_96 (dk_at dksX3_command_3 4 rfl rfl)
theorem dX3_command_76 : decode cX3_command 76 = .ok (.putfield 252, 3) := dk_181 0 252 (dk_at dksX3_command_3 5 rfl rfl)
theorem dX3_command_79 : decode cX3_command 79 = .ok (.return_, 1) := dk_177 (dk_at dksX3_command_3 8 rfl rfl)
abbrev cX3_must : ByteArray := prog_19_method_77_code
def yX3_must : MethodName := ⟨RX3, "must", "(I)V"⟩
def dkwX3_must_1 : List UInt8 := [42, 89, 180, 0, 236, 42, 180, 0, 242, 153, 0, 7, 3, 167, 0, 4, 4, 96, 181, 0, 236, 177]
abbrev dktX3_must_1 : List UInt8 := dkwX3_must_1 ++ []
def dkwX3_must_0 : List UInt8 := [42, 42, 180, 0, 242, 154, 0, 11, 42, 182, 0, 246, 27, 159, 0, 7, 4, 167, 0, 4, 3, 181, 0, 242]
abbrev dktX3_must_0 : List UInt8 := dkwX3_must_0 ++ dktX3_must_1
theorem dksX3_must_0 : cX3_must.data.toList.drop 0 = dktX3_must_0 := by decide +kernel
theorem dksX3_must_1 : cX3_must.data.toList.drop 24 = dktX3_must_1 := dk_seg dksX3_must_0 24 rfl rfl
theorem dX3_must_0 : decode cX3_must 0 = .ok (.aload_n 0, 1) := dk_42 (dk_at dksX3_must_0 0 rfl rfl)
theorem dX3_must_1 : decode cX3_must 1 = .ok (.aload_n 0, 1) := dk_42 (dk_at dksX3_must_0 1 rfl rfl)
theorem dX3_must_2 : decode cX3_must 2 = .ok (.getfield 242, 3) := dk_180 0 242 (dk_at dksX3_must_0 2 rfl rfl)
theorem dX3_must_5 : decode cX3_must 5 = .ok (.ifCond .ne 11, 3) := dk_154 0 11 (dk_at dksX3_must_0 5 rfl rfl)
theorem dX3_must_8 : decode cX3_must 8 = .ok (.aload_n 0, 1) := dk_42 (dk_at dksX3_must_0 8 rfl rfl)
theorem dX3_must_9 : decode cX3_must 9 = .ok (.invokevirtual 246, 3) := dk_182 0 246 (dk_at dksX3_must_0 9 rfl rfl)
theorem dX3_must_12 : decode cX3_must 12 = .ok (.iload_n 1, 1) := dk_27 (dk_at dksX3_must_0 12 rfl rfl)
theorem dX3_must_13 : decode cX3_must 13 = .ok (.if_icmp .eq 7, 3) := dk_159 0 7 (dk_at dksX3_must_0 13 rfl rfl)
theorem dX3_must_16 : decode cX3_must 16 = .ok (.iconst 1, 1) := dk_4 (dk_at dksX3_must_0 16 rfl rfl)
theorem dX3_must_17 : decode cX3_must 17 = .ok (.goto 4, 3) := dk_167 0 4 (dk_at dksX3_must_0 17 rfl rfl)
theorem dX3_must_20 : decode cX3_must 20 = .ok (.iconst 0, 1) := dk_3 (dk_at dksX3_must_0 20 rfl rfl)
theorem dX3_must_21 : decode cX3_must 21 = .ok (.putfield 242, 3) := dk_181 0 242 (dk_at dksX3_must_0 21 rfl rfl)
theorem dX3_must_24 : decode cX3_must 24 = .ok (.aload_n 0, 1) := dk_42 (dk_at dksX3_must_1 0 rfl rfl)
theorem dX3_must_25 : decode cX3_must 25 = .ok (.dup, 1) := dk_89 (dk_at dksX3_must_1 1 rfl rfl)
theorem dX3_must_26 : decode cX3_must 26 = .ok (.getfield 236, 3) := dk_180 0 236 (dk_at dksX3_must_1 2 rfl rfl)
theorem dX3_must_29 : decode cX3_must 29 = .ok (.aload_n 0, 1) := dk_42 (dk_at dksX3_must_1 5 rfl rfl)
theorem dX3_must_30 : decode cX3_must 30 = .ok (.getfield 242, 3) := dk_180 0 242 (dk_at dksX3_must_1 6 rfl rfl)
theorem dX3_must_33 : decode cX3_must 33 = .ok (.ifCond .eq 7, 3) := dk_153 0 7 (dk_at dksX3_must_1 9 rfl rfl)
theorem dX3_must_36 : decode cX3_must 36 = .ok (.iconst 0, 1) := dk_3 (dk_at dksX3_must_1 12 rfl rfl)
theorem dX3_must_37 : decode cX3_must 37 = .ok (.goto 4, 3) := dk_167 0 4 (dk_at dksX3_must_1 13 rfl rfl)
theorem dX3_must_40 : decode cX3_must 40 = .ok (.iconst 1, 1) := dk_4 (dk_at dksX3_must_1 16 rfl rfl)
theorem dX3_must_41 : decode cX3_must 41 = .ok (.iadd, 1) := dk_96 (dk_at dksX3_must_1 17 rfl rfl)
theorem dX3_must_42 : decode cX3_must 42 = .ok (.putfield 236, 3) := dk_181 0 236 (dk_at dksX3_must_1 18 rfl rfl)
theorem dX3_must_45 : decode cX3_must 45 = .ok (.return_, 1) := dk_177 (dk_at dksX3_must_1 21 rfl rfl)
abbrev cX3_digitsOf : ByteArray := prog_19_method_78_code
def yX3_digitsOf : MethodName := ⟨RX3, "digitsOf", "(II)V"⟩
def dkwX3_digitsOf_4 : List UInt8 := [42, 180, 0, 252, 104, 27, 96, 29, 79, 177]
abbrev dktX3_digitsOf_4 : List UInt8 := dkwX3_digitsOf_4 ++ []
def dkwX3_digitsOf_3 : List UInt8 := [180, 0, 242, 154, 0, 8, 21, 4, 154, 0, 7, 4, 167, 0, 4, 3, 181, 0, 242, 42, 180, 0, 28, 7]
abbrev dktX3_digitsOf_3 : List UInt8 := dkwX3_digitsOf_3 ++ dktX3_digitsOf_4
def dkwX3_digitsOf_2 : List UInt8 := [16, 48, 100, 62, 42, 89, 180, 0, 236, 4, 96, 181, 0, 236, 132, 4, 1, 167, 255, 203, 42, 42]
abbrev dktX3_digitsOf_2 : List UInt8 := dkwX3_digitsOf_2 ++ dktX3_digitsOf_3
def dkwX3_digitsOf_1 : List UInt8 := [42, 182, 0, 246, 16, 48, 16, 57, 184, 0, 66, 153, 0, 32, 16, 10, 29, 104, 42, 182, 0, 246, 96]
abbrev dktX3_digitsOf_1 : List UInt8 := dkwX3_digitsOf_1 ++ dktX3_digitsOf_2
def dkwX3_digitsOf_0 : List UInt8 := [42, 16, 32, 182, 0, 249, 3, 62, 3, 54, 4, 42, 180, 0, 242, 154, 0, 52, 21, 4, 28, 162, 0, 46]
abbrev dktX3_digitsOf_0 : List UInt8 := dkwX3_digitsOf_0 ++ dktX3_digitsOf_1
theorem dksX3_digitsOf_0 : cX3_digitsOf.data.toList.drop 0 = dktX3_digitsOf_0 := by decide +kernel
theorem dksX3_digitsOf_1 : cX3_digitsOf.data.toList.drop 24 = dktX3_digitsOf_1 := dk_seg dksX3_digitsOf_0 24 rfl rfl
theorem dksX3_digitsOf_2 : cX3_digitsOf.data.toList.drop 47 = dktX3_digitsOf_2 := dk_seg dksX3_digitsOf_1 23 rfl rfl
theorem dksX3_digitsOf_3 : cX3_digitsOf.data.toList.drop 69 = dktX3_digitsOf_3 := dk_seg dksX3_digitsOf_2 22 rfl rfl
theorem dksX3_digitsOf_4 : cX3_digitsOf.data.toList.drop 93 = dktX3_digitsOf_4 := dk_seg dksX3_digitsOf_3 24 rfl rfl
theorem dX3_digitsOf_0 : decode cX3_digitsOf 0 = .ok (.aload_n 0, 1) := dk_42 (dk_at dksX3_digitsOf_0 0 rfl rfl)
theorem dX3_digitsOf_1 : decode cX3_digitsOf 1 = .ok (.bipush 32, 2) := dk_16 32 (dk_at dksX3_digitsOf_0 1 rfl rfl)
theorem dX3_digitsOf_3 : decode cX3_digitsOf 3 = .ok (.invokevirtual 249, 3) := dk_182 0 249 (dk_at dksX3_digitsOf_0 3 rfl rfl)
theorem dX3_digitsOf_6 : decode cX3_digitsOf 6 = .ok (.iconst 0, 1) := dk_3 (dk_at dksX3_digitsOf_0 6 rfl rfl)
theorem dX3_digitsOf_7 : decode cX3_digitsOf 7 = .ok (.istore_n 3, 1) := dk_62 (dk_at dksX3_digitsOf_0 7 rfl rfl)
theorem dX3_digitsOf_8 : decode cX3_digitsOf 8 = .ok (.iconst 0, 1) := dk_3 (dk_at dksX3_digitsOf_0 8 rfl rfl)
theorem dX3_digitsOf_9 : decode cX3_digitsOf 9 = .ok (.istore 4, 2) := dk_54 4 (dk_at dksX3_digitsOf_0 9 rfl rfl)
theorem dX3_digitsOf_11 : decode cX3_digitsOf 11 = .ok (.aload_n 0, 1) := dk_42 (dk_at dksX3_digitsOf_0 11 rfl rfl)
theorem dX3_digitsOf_12 : decode cX3_digitsOf 12 = .ok (.getfield 242, 3) := dk_180 0 242 (dk_at dksX3_digitsOf_0 12 rfl rfl)
theorem dX3_digitsOf_15 : decode cX3_digitsOf 15 = .ok (.ifCond .ne 52, 3) := dk_154 0 52 (dk_at dksX3_digitsOf_0 15 rfl rfl)
theorem dX3_digitsOf_18 : decode cX3_digitsOf 18 = .ok (.iload 4, 2) := dk_21 4 (dk_at dksX3_digitsOf_0 18 rfl rfl)
theorem dX3_digitsOf_20 : decode cX3_digitsOf 20 = .ok (.iload_n 2, 1) := dk_28 (dk_at dksX3_digitsOf_0 20 rfl rfl)
theorem dX3_digitsOf_21 : decode cX3_digitsOf 21 = .ok (.if_icmp .ge 46, 3) := dk_162 0 46 (dk_at dksX3_digitsOf_0 21 rfl rfl)
theorem dX3_digitsOf_24 : decode cX3_digitsOf 24 = .ok (.aload_n 0, 1) := dk_42 (dk_at dksX3_digitsOf_1 0 rfl rfl)
theorem dX3_digitsOf_25 : decode cX3_digitsOf 25 = .ok (.invokevirtual 246, 3) := dk_182 0 246 (dk_at dksX3_digitsOf_1 1 rfl rfl)
theorem dX3_digitsOf_28 : decode cX3_digitsOf 28 = .ok (.bipush 48, 2) := dk_16 48 (dk_at dksX3_digitsOf_1 4 rfl rfl)
theorem dX3_digitsOf_30 : decode cX3_digitsOf 30 = .ok (.bipush 57, 2) := dk_16 57 (dk_at dksX3_digitsOf_1 6 rfl rfl)
theorem dX3_digitsOf_32 : decode cX3_digitsOf 32 = .ok (.invokestatic 66, 3) := dk_184 0 66 (dk_at dksX3_digitsOf_1 8 rfl rfl)
theorem dX3_digitsOf_35 : decode cX3_digitsOf 35 = .ok (.ifCond .eq 32, 3) := dk_153 0 32 (dk_at dksX3_digitsOf_1 11 rfl rfl)
theorem dX3_digitsOf_38 : decode cX3_digitsOf 38 = .ok (.bipush 10, 2) := dk_16 10 (dk_at dksX3_digitsOf_1 14 rfl rfl)
theorem dX3_digitsOf_40 : decode cX3_digitsOf 40 = .ok (.iload_n 3, 1) := dk_29 (dk_at dksX3_digitsOf_1 16 rfl rfl)
theorem dX3_digitsOf_41 : decode cX3_digitsOf 41 = .ok (.imul, 1) := dk_104 (dk_at dksX3_digitsOf_1 17 rfl rfl)
theorem dX3_digitsOf_42 : decode cX3_digitsOf 42 = .ok (.aload_n 0, 1) := dk_42 (dk_at dksX3_digitsOf_1 18 rfl rfl)
theorem dX3_digitsOf_43 : decode cX3_digitsOf 43 = .ok (.invokevirtual 246, 3) := dk_182 0 246 (dk_at dksX3_digitsOf_1 19 rfl rfl)
theorem dX3_digitsOf_46 : decode cX3_digitsOf 46 = .ok (.iadd, 1) := dk_96 (dk_at dksX3_digitsOf_1 22 rfl rfl)
theorem dX3_digitsOf_47 : decode cX3_digitsOf 47 = .ok (.bipush 48, 2) := dk_16 48 (dk_at dksX3_digitsOf_2 0 rfl rfl)
theorem dX3_digitsOf_49 : decode cX3_digitsOf 49 = .ok (.isub, 1) := dk_100 (dk_at dksX3_digitsOf_2 2 rfl rfl)
theorem dX3_digitsOf_50 : decode cX3_digitsOf 50 = .ok (.istore_n 3, 1) := dk_62 (dk_at dksX3_digitsOf_2 3 rfl rfl)
theorem dX3_digitsOf_51 : decode cX3_digitsOf 51 = .ok (.aload_n 0, 1) := dk_42 (dk_at dksX3_digitsOf_2 4 rfl rfl)
theorem dX3_digitsOf_52 : decode cX3_digitsOf 52 = .ok (.dup, 1) := dk_89 (dk_at dksX3_digitsOf_2 5 rfl rfl)
theorem dX3_digitsOf_53 : decode cX3_digitsOf 53 = .ok (.getfield 236, 3) := dk_180 0 236 (dk_at dksX3_digitsOf_2 6 rfl rfl)
theorem dX3_digitsOf_56 : decode cX3_digitsOf 56 = .ok (.iconst 1, 1) := dk_4 (dk_at dksX3_digitsOf_2 9 rfl rfl)
theorem dX3_digitsOf_57 : decode cX3_digitsOf 57 = .ok (.iadd, 1) := dk_96 (dk_at dksX3_digitsOf_2 10 rfl rfl)
theorem dX3_digitsOf_58 : decode cX3_digitsOf 58 = .ok (.putfield 236, 3) := dk_181 0 236 (dk_at dksX3_digitsOf_2 11 rfl rfl)
theorem dX3_digitsOf_61 : decode cX3_digitsOf 61 = .ok (.iinc 4 1, 3) := dk_132 4 1 (dk_at dksX3_digitsOf_2 14 rfl rfl)
theorem dX3_digitsOf_64 : decode cX3_digitsOf 64 = .ok (.goto (-53), 3) := dk_167 255 203 (dk_at dksX3_digitsOf_2 17 rfl rfl)
theorem dX3_digitsOf_67 : decode cX3_digitsOf 67 = .ok (.aload_n 0, 1) := dk_42 (dk_at dksX3_digitsOf_2 20 rfl rfl)
theorem dX3_digitsOf_68 : decode cX3_digitsOf 68 = .ok (.aload_n 0, 1) := dk_42 (dk_at dksX3_digitsOf_2 21 rfl rfl)
theorem dX3_digitsOf_69 : decode cX3_digitsOf 69 = .ok (.getfield 242, 3) := dk_180 0 242 (dk_at dksX3_digitsOf_3 0 rfl rfl)
theorem dX3_digitsOf_72 : decode cX3_digitsOf 72 = .ok (.ifCond .ne 8, 3) := dk_154 0 8 (dk_at dksX3_digitsOf_3 3 rfl rfl)
theorem dX3_digitsOf_75 : decode cX3_digitsOf 75 = .ok (.iload 4, 2) := dk_21 4 (dk_at dksX3_digitsOf_3 6 rfl rfl)
theorem dX3_digitsOf_77 : decode cX3_digitsOf 77 = .ok (.ifCond .ne 7, 3) := dk_154 0 7 (dk_at dksX3_digitsOf_3 8 rfl rfl)
theorem dX3_digitsOf_80 : decode cX3_digitsOf 80 = .ok (.iconst 1, 1) := dk_4 (dk_at dksX3_digitsOf_3 11 rfl rfl)
theorem dX3_digitsOf_81 : decode cX3_digitsOf 81 = .ok (.goto 4, 3) := dk_167 0 4 (dk_at dksX3_digitsOf_3 12 rfl rfl)
theorem dX3_digitsOf_84 : decode cX3_digitsOf 84 = .ok (.iconst 0, 1) := dk_3 (dk_at dksX3_digitsOf_3 15 rfl rfl)
theorem dX3_digitsOf_85 : decode cX3_digitsOf 85 = .ok (.putfield 242, 3) := dk_181 0 242 (dk_at dksX3_digitsOf_3 16 rfl rfl)
theorem dX3_digitsOf_88 : decode cX3_digitsOf 88 = .ok (.aload_n 0, 1) := dk_42 (dk_at dksX3_digitsOf_3 19 rfl rfl)
theorem dX3_digitsOf_89 : decode cX3_digitsOf 89 = .ok (.getfield 28, 3) := dk_180 0 28 (dk_at dksX3_digitsOf_3 20 rfl rfl)
theorem dX3_digitsOf_92 : decode cX3_digitsOf 92 = .ok (.iconst 4, 1) := dk_7 (dk_at dksX3_digitsOf_3 23 rfl rfl)
theorem dX3_digitsOf_93 : decode cX3_digitsOf 93 = .ok (.aload_n 0, 1) := dk_42 (dk_at dksX3_digitsOf_4 0 rfl rfl)
theorem dX3_digitsOf_94 : decode cX3_digitsOf 94 = .ok (.getfield 252, 3) := dk_180 0 252 (dk_at dksX3_digitsOf_4 1 rfl rfl)
theorem dX3_digitsOf_97 : decode cX3_digitsOf 97 = .ok (.imul, 1) := dk_104 (dk_at dksX3_digitsOf_4 4 rfl rfl)
theorem dX3_digitsOf_98 : decode cX3_digitsOf 98 = .ok (.iload_n 1, 1) := dk_27 (dk_at dksX3_digitsOf_4 5 rfl rfl)
theorem dX3_digitsOf_99 : decode cX3_digitsOf 99 = .ok (.iadd, 1) := dk_96 (dk_at dksX3_digitsOf_4 6 rfl rfl)
theorem dX3_digitsOf_100 : decode cX3_digitsOf 100 = .ok (.iload_n 3, 1) := dk_29 (dk_at dksX3_digitsOf_4 7 rfl rfl)
theorem dX3_digitsOf_101 : decode cX3_digitsOf 101 = .ok (.iastore, 1) := dk_79 (dk_at dksX3_digitsOf_4 8 rfl rfl)
theorem dX3_digitsOf_102 : decode cX3_digitsOf 102 = .ok (.return_, 1) := dk_177 (dk_at dksX3_digitsOf_4 9 rfl rfl)
abbrev cX3_does : ByteArray := prog_19_method_81_code
def yX3_does : MethodName := ⟨RX3, "does", "(I)I"⟩
def dkwX3_does_10 : List UInt8 := [17, 3, 231, 184, 0, 66, 153, 0, 14, 42, 28, 29, 21, 4, 182, 0, 149, 167, 0, 4, 2, 172]
abbrev dktX3_does_10 : List UInt8 := dkwX3_does_10 ++ []
def dkwX3_does_9 : List UInt8 := [28, 182, 0, 146, 153, 0, 39, 42, 29, 182, 0, 146, 153, 0, 31, 28, 29, 159, 0, 26, 21, 4, 4]
abbrev dktX3_does_9 : List UInt8 := dkwX3_does_9 ++ dktX3_does_10
def dkwX3_does_8 : List UInt8 := [167, 0, 4, 2, 172, 42, 28, 182, 0, 135, 153, 0, 11, 42, 28, 182, 0, 139, 167, 0, 4, 2, 172, 42]
abbrev dktX3_does_8 : List UInt8 := dkwX3_does_8 ++ dktX3_does_9
def dkwX3_does_7 : List UInt8 := [42, 28, 182, 0, 161, 167, 0, 4, 2, 172, 42, 28, 182, 0, 167, 153, 0, 11, 42, 28, 182, 0, 173]
abbrev dktX3_does_7 : List UInt8 := dkwX3_does_7 ++ dktX3_does_8
def dkwX3_does_6 : List UInt8 := [182, 0, 167, 153, 0, 11, 42, 28, 182, 0, 170, 167, 0, 4, 2, 172, 42, 28, 182, 0, 155, 153, 0, 11]
abbrev dktX3_does_6 : List UInt8 := dkwX3_does_6 ++ dktX3_does_7
def dkwX3_does_5 : List UInt8 := [153, 0, 20, 42, 29, 182, 0, 155, 153, 0, 12, 42, 28, 29, 182, 0, 119, 167, 0, 4, 2, 172, 42, 28]
abbrev dktX3_does_5 : List UInt8 := dkwX3_does_5 ++ dktX3_does_6
def dkwX3_does_4 : List UInt8 := [184, 0, 66, 153, 0, 14, 42, 28, 29, 21, 4, 182, 0, 152, 167, 0, 4, 2, 172, 42, 28, 182, 0, 167]
abbrev dktX3_does_4 : List UInt8 := dkwX3_does_4 ++ dktX3_does_5
def dkwX3_does_3 : List UInt8 := [42, 28, 182, 0, 135, 153, 0, 35, 42, 29, 182, 0, 146, 153, 0, 27, 21, 4, 16, 100, 17, 3, 232]
abbrev dktX3_does_3 : List UInt8 := dkwX3_does_3 ++ dktX3_does_4
def dkwX3_does_2 : List UInt8 := [170, 0, 0, 0, 0, 179, 0, 0, 0, 0, 0, 0, 0, 5, 0, 0, 0, 38, 0, 0, 0, 80, 0, 0, 0, 107, 0, 0, 0, 125, 0, 0, 0, 143, 0, 0, 0, 161]
abbrev dktX3_does_2 : List UInt8 := dkwX3_does_2 ++ dktX3_does_3
def dkwX3_does_1 : List UInt8 := [180, 0, 28, 7, 27, 104, 6, 96, 46, 54, 4, 42, 180, 0, 28, 7, 27, 104, 46]
abbrev dktX3_does_1 : List UInt8 := dkwX3_does_1 ++ dktX3_does_2
def dkwX3_does_0 : List UInt8 := [42, 180, 0, 28, 7, 27, 104, 4, 96, 46, 61, 42, 180, 0, 28, 7, 27, 104, 5, 96, 46, 62, 42]
abbrev dktX3_does_0 : List UInt8 := dkwX3_does_0 ++ dktX3_does_1
theorem dksX3_does_0 : cX3_does.data.toList.drop 0 = dktX3_does_0 := by decide +kernel
theorem dksX3_does_1 : cX3_does.data.toList.drop 23 = dktX3_does_1 := dk_seg dksX3_does_0 23 rfl rfl
theorem dksX3_does_2 : cX3_does.data.toList.drop 42 = dktX3_does_2 := dk_seg dksX3_does_1 19 rfl rfl
theorem dksX3_does_3 : cX3_does.data.toList.drop 80 = dktX3_does_3 := dk_seg dksX3_does_2 38 rfl rfl
theorem dksX3_does_4 : cX3_does.data.toList.drop 103 = dktX3_does_4 := dk_seg dksX3_does_3 23 rfl rfl
theorem dksX3_does_5 : cX3_does.data.toList.drop 127 = dktX3_does_5 := dk_seg dksX3_does_4 24 rfl rfl
theorem dksX3_does_6 : cX3_does.data.toList.drop 151 = dktX3_does_6 := dk_seg dksX3_does_5 24 rfl rfl
theorem dksX3_does_7 : cX3_does.data.toList.drop 175 = dktX3_does_7 := dk_seg dksX3_does_6 24 rfl rfl
theorem dksX3_does_8 : cX3_does.data.toList.drop 198 = dktX3_does_8 := dk_seg dksX3_does_7 23 rfl rfl
theorem dksX3_does_9 : cX3_does.data.toList.drop 222 = dktX3_does_9 := dk_seg dksX3_does_8 24 rfl rfl
theorem dksX3_does_10 : cX3_does.data.toList.drop 245 = dktX3_does_10 := dk_seg dksX3_does_9 23 rfl rfl
theorem dX3_does_0 : decode cX3_does 0 = .ok (.aload_n 0, 1) := dk_42 (dk_at dksX3_does_0 0 rfl rfl)
theorem dX3_does_1 : decode cX3_does 1 = .ok (.getfield 28, 3) := dk_180 0 28 (dk_at dksX3_does_0 1 rfl rfl)
theorem dX3_does_4 : decode cX3_does 4 = .ok (.iconst 4, 1) := dk_7 (dk_at dksX3_does_0 4 rfl rfl)
theorem dX3_does_5 : decode cX3_does 5 = .ok (.iload_n 1, 1) := dk_27 (dk_at dksX3_does_0 5 rfl rfl)
theorem dX3_does_6 : decode cX3_does 6 = .ok (.imul, 1) := dk_104 (dk_at dksX3_does_0 6 rfl rfl)
theorem dX3_does_7 : decode cX3_does 7 = .ok (.iconst 1, 1) := dk_4 (dk_at dksX3_does_0 7 rfl rfl)
theorem dX3_does_8 : decode cX3_does 8 = .ok (.iadd, 1) := dk_96 (dk_at dksX3_does_0 8 rfl rfl)
theorem dX3_does_9 : decode cX3_does 9 = .ok (.iaload, 1) := dk_46 (dk_at dksX3_does_0 9 rfl rfl)
theorem dX3_does_10 : decode cX3_does 10 = .ok (.istore_n 2, 1) := dk_61 (dk_at dksX3_does_0 10 rfl rfl)
theorem dX3_does_11 : decode cX3_does 11 = .ok (.aload_n 0, 1) := dk_42 (dk_at dksX3_does_0 11 rfl rfl)
theorem dX3_does_12 : decode cX3_does 12 = .ok (.getfield 28, 3) := dk_180 0 28 (dk_at dksX3_does_0 12 rfl rfl)
theorem dX3_does_15 : decode cX3_does 15 = .ok (.iconst 4, 1) := dk_7 (dk_at dksX3_does_0 15 rfl rfl)
theorem dX3_does_16 : decode cX3_does 16 = .ok (.iload_n 1, 1) := dk_27 (dk_at dksX3_does_0 16 rfl rfl)
theorem dX3_does_17 : decode cX3_does 17 = .ok (.imul, 1) := dk_104 (dk_at dksX3_does_0 17 rfl rfl)
theorem dX3_does_18 : decode cX3_does 18 = .ok (.iconst 2, 1) := dk_5 (dk_at dksX3_does_0 18 rfl rfl)
theorem dX3_does_19 : decode cX3_does 19 = .ok (.iadd, 1) := dk_96 (dk_at dksX3_does_0 19 rfl rfl)
theorem dX3_does_20 : decode cX3_does 20 = .ok (.iaload, 1) := dk_46 (dk_at dksX3_does_0 20 rfl rfl)
theorem dX3_does_21 : decode cX3_does 21 = .ok (.istore_n 3, 1) := dk_62 (dk_at dksX3_does_0 21 rfl rfl)
theorem dX3_does_22 : decode cX3_does 22 = .ok (.aload_n 0, 1) := dk_42 (dk_at dksX3_does_0 22 rfl rfl)
theorem dX3_does_23 : decode cX3_does 23 = .ok (.getfield 28, 3) := dk_180 0 28 (dk_at dksX3_does_1 0 rfl rfl)
theorem dX3_does_26 : decode cX3_does 26 = .ok (.iconst 4, 1) := dk_7 (dk_at dksX3_does_1 3 rfl rfl)
theorem dX3_does_27 : decode cX3_does 27 = .ok (.iload_n 1, 1) := dk_27 (dk_at dksX3_does_1 4 rfl rfl)
theorem dX3_does_28 : decode cX3_does 28 = .ok (.imul, 1) := dk_104 (dk_at dksX3_does_1 5 rfl rfl)
theorem dX3_does_29 : decode cX3_does 29 = .ok (.iconst 3, 1) := dk_6 (dk_at dksX3_does_1 6 rfl rfl)
theorem dX3_does_30 : decode cX3_does 30 = .ok (.iadd, 1) := dk_96 (dk_at dksX3_does_1 7 rfl rfl)
theorem dX3_does_31 : decode cX3_does 31 = .ok (.iaload, 1) := dk_46 (dk_at dksX3_does_1 8 rfl rfl)
theorem dX3_does_32 : decode cX3_does 32 = .ok (.istore 4, 2) := dk_54 4 (dk_at dksX3_does_1 9 rfl rfl)
theorem dX3_does_34 : decode cX3_does 34 = .ok (.aload_n 0, 1) := dk_42 (dk_at dksX3_does_1 11 rfl rfl)
theorem dX3_does_35 : decode cX3_does 35 = .ok (.getfield 28, 3) := dk_180 0 28 (dk_at dksX3_does_1 12 rfl rfl)
theorem dX3_does_38 : decode cX3_does 38 = .ok (.iconst 4, 1) := dk_7 (dk_at dksX3_does_1 15 rfl rfl)
theorem dX3_does_39 : decode cX3_does 39 = .ok (.iload_n 1, 1) := dk_27 (dk_at dksX3_does_1 16 rfl rfl)
theorem dX3_does_40 : decode cX3_does 40 = .ok (.imul, 1) := dk_104 (dk_at dksX3_does_1 17 rfl rfl)
theorem dX3_does_41 : decode cX3_does 41 = .ok (.iaload, 1) := dk_46 (dk_at dksX3_does_1 18 rfl rfl)
theorem dX3_does_42 : decode cX3_does 42 = .ok (.tableswitch 179 0 5 #[38, 80, 107, 125, 143, 161], 38) := by decide +kernel
theorem dX3_does_80 : decode cX3_does 80 = .ok (.aload_n 0, 1) := dk_42 (dk_at dksX3_does_3 0 rfl rfl)
theorem dX3_does_81 : decode cX3_does 81 = .ok (.iload_n 2, 1) := dk_28 (dk_at dksX3_does_3 1 rfl rfl)
theorem dX3_does_82 : decode cX3_does 82 = .ok (.invokevirtual 135, 3) := dk_182 0 135 (dk_at dksX3_does_3 2 rfl rfl)
theorem dX3_does_85 : decode cX3_does 85 = .ok (.ifCond .eq 35, 3) := dk_153 0 35 (dk_at dksX3_does_3 5 rfl rfl)
theorem dX3_does_88 : decode cX3_does 88 = .ok (.aload_n 0, 1) := dk_42 (dk_at dksX3_does_3 8 rfl rfl)
theorem dX3_does_89 : decode cX3_does 89 = .ok (.iload_n 3, 1) := dk_29 (dk_at dksX3_does_3 9 rfl rfl)
theorem dX3_does_90 : decode cX3_does 90 = .ok (.invokevirtual 146, 3) := dk_182 0 146 (dk_at dksX3_does_3 10 rfl rfl)
theorem dX3_does_93 : decode cX3_does 93 = .ok (.ifCond .eq 27, 3) := dk_153 0 27 (dk_at dksX3_does_3 13 rfl rfl)
theorem dX3_does_96 : decode cX3_does 96 = .ok (.iload 4, 2) := dk_21 4 (dk_at dksX3_does_3 16 rfl rfl)
theorem dX3_does_98 : decode cX3_does 98 = .ok (.bipush 100, 2) := dk_16 100 (dk_at dksX3_does_3 18 rfl rfl)
theorem dX3_does_100 : decode cX3_does 100 = .ok (.sipush 1000, 3) := dk_17 3 232 (dk_at dksX3_does_3 20 rfl rfl)
theorem dX3_does_103 : decode cX3_does 103 = .ok (.invokestatic 66, 3) := dk_184 0 66 (dk_at dksX3_does_4 0 rfl rfl)
theorem dX3_does_106 : decode cX3_does 106 = .ok (.ifCond .eq 14, 3) := dk_153 0 14 (dk_at dksX3_does_4 3 rfl rfl)
theorem dX3_does_109 : decode cX3_does 109 = .ok (.aload_n 0, 1) := dk_42 (dk_at dksX3_does_4 6 rfl rfl)
theorem dX3_does_110 : decode cX3_does 110 = .ok (.iload_n 2, 1) := dk_28 (dk_at dksX3_does_4 7 rfl rfl)
theorem dX3_does_111 : decode cX3_does 111 = .ok (.iload_n 3, 1) := dk_29 (dk_at dksX3_does_4 8 rfl rfl)
theorem dX3_does_112 : decode cX3_does 112 = .ok (.iload 4, 2) := dk_21 4 (dk_at dksX3_does_4 9 rfl rfl)
theorem dX3_does_114 : decode cX3_does 114 = .ok (.invokevirtual 152, 3) := dk_182 0 152 (dk_at dksX3_does_4 11 rfl rfl)
theorem dX3_does_117 : decode cX3_does 117 = .ok (.goto 4, 3) := dk_167 0 4 (dk_at dksX3_does_4 14 rfl rfl)
theorem dX3_does_120 : decode cX3_does 120 = .ok (.iconst (-1), 1) := dk_2 (dk_at dksX3_does_4 17 rfl rfl)
theorem dX3_does_121 : decode cX3_does 121 = .ok (.ireturn, 1) := dk_172 (dk_at dksX3_does_4 18 rfl rfl)
theorem dX3_does_122 : decode cX3_does 122 = .ok (.aload_n 0, 1) := dk_42 (dk_at dksX3_does_4 19 rfl rfl)
theorem dX3_does_123 : decode cX3_does 123 = .ok (.iload_n 2, 1) := dk_28 (dk_at dksX3_does_4 20 rfl rfl)
theorem dX3_does_124 : decode cX3_does 124 = .ok (.invokevirtual 167, 3) := dk_182 0 167 (dk_at dksX3_does_4 21 rfl rfl)
theorem dX3_does_127 : decode cX3_does 127 = .ok (.ifCond .eq 20, 3) := dk_153 0 20 (dk_at dksX3_does_5 0 rfl rfl)
theorem dX3_does_130 : decode cX3_does 130 = .ok (.aload_n 0, 1) := dk_42 (dk_at dksX3_does_5 3 rfl rfl)
theorem dX3_does_131 : decode cX3_does 131 = .ok (.iload_n 3, 1) := dk_29 (dk_at dksX3_does_5 4 rfl rfl)
theorem dX3_does_132 : decode cX3_does 132 = .ok (.invokevirtual 155, 3) := dk_182 0 155 (dk_at dksX3_does_5 5 rfl rfl)
theorem dX3_does_135 : decode cX3_does 135 = .ok (.ifCond .eq 12, 3) := dk_153 0 12 (dk_at dksX3_does_5 8 rfl rfl)
theorem dX3_does_138 : decode cX3_does 138 = .ok (.aload_n 0, 1) := dk_42 (dk_at dksX3_does_5 11 rfl rfl)
theorem dX3_does_139 : decode cX3_does 139 = .ok (.iload_n 2, 1) := dk_28 (dk_at dksX3_does_5 12 rfl rfl)
theorem dX3_does_140 : decode cX3_does 140 = .ok (.iload_n 3, 1) := dk_29 (dk_at dksX3_does_5 13 rfl rfl)
theorem dX3_does_141 : decode cX3_does 141 = .ok (.invokevirtual 119, 3) := dk_182 0 119 (dk_at dksX3_does_5 14 rfl rfl)
theorem dX3_does_144 : decode cX3_does 144 = .ok (.goto 4, 3) := dk_167 0 4 (dk_at dksX3_does_5 17 rfl rfl)
theorem dX3_does_147 : decode cX3_does 147 = .ok (.iconst (-1), 1) := dk_2 (dk_at dksX3_does_5 20 rfl rfl)
theorem dX3_does_148 : decode cX3_does 148 = .ok (.ireturn, 1) := dk_172 (dk_at dksX3_does_5 21 rfl rfl)
theorem dX3_does_149 : decode cX3_does 149 = .ok (.aload_n 0, 1) := dk_42 (dk_at dksX3_does_5 22 rfl rfl)
theorem dX3_does_150 : decode cX3_does 150 = .ok (.iload_n 2, 1) := dk_28 (dk_at dksX3_does_5 23 rfl rfl)
theorem dX3_does_151 : decode cX3_does 151 = .ok (.invokevirtual 167, 3) := dk_182 0 167 (dk_at dksX3_does_6 0 rfl rfl)
theorem dX3_does_154 : decode cX3_does 154 = .ok (.ifCond .eq 11, 3) := dk_153 0 11 (dk_at dksX3_does_6 3 rfl rfl)
theorem dX3_does_157 : decode cX3_does 157 = .ok (.aload_n 0, 1) := dk_42 (dk_at dksX3_does_6 6 rfl rfl)
theorem dX3_does_158 : decode cX3_does 158 = .ok (.iload_n 2, 1) := dk_28 (dk_at dksX3_does_6 7 rfl rfl)
theorem dX3_does_159 : decode cX3_does 159 = .ok (.invokevirtual 170, 3) := dk_182 0 170 (dk_at dksX3_does_6 8 rfl rfl)
theorem dX3_does_162 : decode cX3_does 162 = .ok (.goto 4, 3) := dk_167 0 4 (dk_at dksX3_does_6 11 rfl rfl)
theorem dX3_does_165 : decode cX3_does 165 = .ok (.iconst (-1), 1) := dk_2 (dk_at dksX3_does_6 14 rfl rfl)
theorem dX3_does_166 : decode cX3_does 166 = .ok (.ireturn, 1) := dk_172 (dk_at dksX3_does_6 15 rfl rfl)
theorem dX3_does_167 : decode cX3_does 167 = .ok (.aload_n 0, 1) := dk_42 (dk_at dksX3_does_6 16 rfl rfl)
theorem dX3_does_168 : decode cX3_does 168 = .ok (.iload_n 2, 1) := dk_28 (dk_at dksX3_does_6 17 rfl rfl)
theorem dX3_does_169 : decode cX3_does 169 = .ok (.invokevirtual 155, 3) := dk_182 0 155 (dk_at dksX3_does_6 18 rfl rfl)
theorem dX3_does_172 : decode cX3_does 172 = .ok (.ifCond .eq 11, 3) := dk_153 0 11 (dk_at dksX3_does_6 21 rfl rfl)
theorem dX3_does_175 : decode cX3_does 175 = .ok (.aload_n 0, 1) := dk_42 (dk_at dksX3_does_7 0 rfl rfl)
theorem dX3_does_176 : decode cX3_does 176 = .ok (.iload_n 2, 1) := dk_28 (dk_at dksX3_does_7 1 rfl rfl)
theorem dX3_does_177 : decode cX3_does 177 = .ok (.invokevirtual 161, 3) := dk_182 0 161 (dk_at dksX3_does_7 2 rfl rfl)
theorem dX3_does_180 : decode cX3_does 180 = .ok (.goto 4, 3) := dk_167 0 4 (dk_at dksX3_does_7 5 rfl rfl)
theorem dX3_does_183 : decode cX3_does 183 = .ok (.iconst (-1), 1) := dk_2 (dk_at dksX3_does_7 8 rfl rfl)
theorem dX3_does_184 : decode cX3_does 184 = .ok (.ireturn, 1) := dk_172 (dk_at dksX3_does_7 9 rfl rfl)
theorem dX3_does_185 : decode cX3_does 185 = .ok (.aload_n 0, 1) := dk_42 (dk_at dksX3_does_7 10 rfl rfl)
theorem dX3_does_186 : decode cX3_does 186 = .ok (.iload_n 2, 1) := dk_28 (dk_at dksX3_does_7 11 rfl rfl)
theorem dX3_does_187 : decode cX3_does 187 = .ok (.invokevirtual 167, 3) := dk_182 0 167 (dk_at dksX3_does_7 12 rfl rfl)
theorem dX3_does_190 : decode cX3_does 190 = .ok (.ifCond .eq 11, 3) := dk_153 0 11 (dk_at dksX3_does_7 15 rfl rfl)
theorem dX3_does_193 : decode cX3_does 193 = .ok (.aload_n 0, 1) := dk_42 (dk_at dksX3_does_7 18 rfl rfl)
theorem dX3_does_194 : decode cX3_does 194 = .ok (.iload_n 2, 1) := dk_28 (dk_at dksX3_does_7 19 rfl rfl)
theorem dX3_does_195 : decode cX3_does 195 = .ok (.invokevirtual 173, 3) := dk_182 0 173 (dk_at dksX3_does_7 20 rfl rfl)
theorem dX3_does_198 : decode cX3_does 198 = .ok (.goto 4, 3) := dk_167 0 4 (dk_at dksX3_does_8 0 rfl rfl)
theorem dX3_does_201 : decode cX3_does 201 = .ok (.iconst (-1), 1) := dk_2 (dk_at dksX3_does_8 3 rfl rfl)
theorem dX3_does_202 : decode cX3_does 202 = .ok (.ireturn, 1) := dk_172 (dk_at dksX3_does_8 4 rfl rfl)
theorem dX3_does_203 : decode cX3_does 203 = .ok (.aload_n 0, 1) := dk_42 (dk_at dksX3_does_8 5 rfl rfl)
theorem dX3_does_204 : decode cX3_does 204 = .ok (.iload_n 2, 1) := dk_28 (dk_at dksX3_does_8 6 rfl rfl)
theorem dX3_does_205 : decode cX3_does 205 = .ok (.invokevirtual 135, 3) := dk_182 0 135 (dk_at dksX3_does_8 7 rfl rfl)
theorem dX3_does_208 : decode cX3_does 208 = .ok (.ifCond .eq 11, 3) := dk_153 0 11 (dk_at dksX3_does_8 10 rfl rfl)
theorem dX3_does_211 : decode cX3_does 211 = .ok (.aload_n 0, 1) := dk_42 (dk_at dksX3_does_8 13 rfl rfl)
theorem dX3_does_212 : decode cX3_does 212 = .ok (.iload_n 2, 1) := dk_28 (dk_at dksX3_does_8 14 rfl rfl)
theorem dX3_does_213 : decode cX3_does 213 = .ok (.invokevirtual 139, 3) := dk_182 0 139 (dk_at dksX3_does_8 15 rfl rfl)
theorem dX3_does_216 : decode cX3_does 216 = .ok (.goto 4, 3) := dk_167 0 4 (dk_at dksX3_does_8 18 rfl rfl)
theorem dX3_does_219 : decode cX3_does 219 = .ok (.iconst (-1), 1) := dk_2 (dk_at dksX3_does_8 21 rfl rfl)
theorem dX3_does_220 : decode cX3_does 220 = .ok (.ireturn, 1) := dk_172 (dk_at dksX3_does_8 22 rfl rfl)
theorem dX3_does_221 : decode cX3_does 221 = .ok (.aload_n 0, 1) := dk_42 (dk_at dksX3_does_8 23 rfl rfl)
theorem dX3_does_222 : decode cX3_does 222 = .ok (.iload_n 2, 1) := dk_28 (dk_at dksX3_does_9 0 rfl rfl)
theorem dX3_does_223 : decode cX3_does 223 = .ok (.invokevirtual 146, 3) := dk_182 0 146 (dk_at dksX3_does_9 1 rfl rfl)
theorem dX3_does_226 : decode cX3_does 226 = .ok (.ifCond .eq 39, 3) := dk_153 0 39 (dk_at dksX3_does_9 4 rfl rfl)
theorem dX3_does_229 : decode cX3_does 229 = .ok (.aload_n 0, 1) := dk_42 (dk_at dksX3_does_9 7 rfl rfl)
theorem dX3_does_230 : decode cX3_does 230 = .ok (.iload_n 3, 1) := dk_29 (dk_at dksX3_does_9 8 rfl rfl)
theorem dX3_does_231 : decode cX3_does 231 = .ok (.invokevirtual 146, 3) := dk_182 0 146 (dk_at dksX3_does_9 9 rfl rfl)
theorem dX3_does_234 : decode cX3_does 234 = .ok (.ifCond .eq 31, 3) := dk_153 0 31 (dk_at dksX3_does_9 12 rfl rfl)
theorem dX3_does_237 : decode cX3_does 237 = .ok (.iload_n 2, 1) := dk_28 (dk_at dksX3_does_9 15 rfl rfl)
theorem dX3_does_238 : decode cX3_does 238 = .ok (.iload_n 3, 1) := dk_29 (dk_at dksX3_does_9 16 rfl rfl)
theorem dX3_does_239 : decode cX3_does 239 = .ok (.if_icmp .eq 26, 3) := dk_159 0 26 (dk_at dksX3_does_9 17 rfl rfl)
theorem dX3_does_242 : decode cX3_does 242 = .ok (.iload 4, 2) := dk_21 4 (dk_at dksX3_does_9 20 rfl rfl)
theorem dX3_does_244 : decode cX3_does 244 = .ok (.iconst 1, 1) := dk_4 (dk_at dksX3_does_9 22 rfl rfl)
theorem dX3_does_245 : decode cX3_does 245 = .ok (.sipush 999, 3) := dk_17 3 231 (dk_at dksX3_does_10 0 rfl rfl)
theorem dX3_does_248 : decode cX3_does 248 = .ok (.invokestatic 66, 3) := dk_184 0 66 (dk_at dksX3_does_10 3 rfl rfl)
theorem dX3_does_251 : decode cX3_does 251 = .ok (.ifCond .eq 14, 3) := dk_153 0 14 (dk_at dksX3_does_10 6 rfl rfl)
theorem dX3_does_254 : decode cX3_does 254 = .ok (.aload_n 0, 1) := dk_42 (dk_at dksX3_does_10 9 rfl rfl)
theorem dX3_does_255 : decode cX3_does 255 = .ok (.iload_n 2, 1) := dk_28 (dk_at dksX3_does_10 10 rfl rfl)
theorem dX3_does_256 : decode cX3_does 256 = .ok (.iload_n 3, 1) := dk_29 (dk_at dksX3_does_10 11 rfl rfl)
theorem dX3_does_257 : decode cX3_does 257 = .ok (.iload 4, 2) := dk_21 4 (dk_at dksX3_does_10 12 rfl rfl)
theorem dX3_does_259 : decode cX3_does 259 = .ok (.invokevirtual 149, 3) := dk_182 0 149 (dk_at dksX3_does_10 14 rfl rfl)
theorem dX3_does_262 : decode cX3_does 262 = .ok (.goto 4, 3) := dk_167 0 4 (dk_at dksX3_does_10 17 rfl rfl)
theorem dX3_does_265 : decode cX3_does 265 = .ok (.iconst (-1), 1) := dk_2 (dk_at dksX3_does_10 20 rfl rfl)
theorem dX3_does_266 : decode cX3_does 266 = .ok (.ireturn, 1) := dk_172 (dk_at dksX3_does_10 21 rfl rfl)
abbrev cX3_faultPosition : ByteArray := prog_19_method_83_code
def yX3_faultPosition : MethodName := ⟨RX3, "faultPosition", "()I"⟩
def dkwX3_faultPosition_1 : List UInt8 := [180, 0, 34, 172]
abbrev dktX3_faultPosition_1 : List UInt8 := dkwX3_faultPosition_1 ++ []
def dkwX3_faultPosition_0 : List UInt8 := [42, 3, 181, 0, 38, 42, 180, 0, 34, 2, 160, 0, 11, 42, 4, 182, 0, 63, 167, 0, 7, 42]
abbrev dktX3_faultPosition_0 : List UInt8 := dkwX3_faultPosition_0 ++ dktX3_faultPosition_1
theorem dksX3_faultPosition_0 : cX3_faultPosition.data.toList.drop 0 = dktX3_faultPosition_0 := by decide +kernel
theorem dksX3_faultPosition_1 : cX3_faultPosition.data.toList.drop 22 = dktX3_faultPosition_1 := dk_seg dksX3_faultPosition_0 22 rfl rfl
theorem dX3_faultPosition_0 : decode cX3_faultPosition 0 = .ok (.aload_n 0, 1) := dk_42 (dk_at dksX3_faultPosition_0 0 rfl rfl)
theorem dX3_faultPosition_1 : decode cX3_faultPosition 1 = .ok (.iconst 0, 1) := dk_3 (dk_at dksX3_faultPosition_0 1 rfl rfl)
theorem dX3_faultPosition_2 : decode cX3_faultPosition 2 = .ok (.putfield 38, 3) := dk_181 0 38 (dk_at dksX3_faultPosition_0 2 rfl rfl)
theorem dX3_faultPosition_5 : decode cX3_faultPosition 5 = .ok (.aload_n 0, 1) := dk_42 (dk_at dksX3_faultPosition_0 5 rfl rfl)
theorem dX3_faultPosition_6 : decode cX3_faultPosition 6 = .ok (.getfield 34, 3) := dk_180 0 34 (dk_at dksX3_faultPosition_0 6 rfl rfl)
theorem dX3_faultPosition_9 : decode cX3_faultPosition 9 = .ok (.iconst (-1), 1) := dk_2 (dk_at dksX3_faultPosition_0 9 rfl rfl)
theorem dX3_faultPosition_10 : decode cX3_faultPosition 10 = .ok (.if_icmp .ne 11, 3) := dk_160 0 11 (dk_at dksX3_faultPosition_0 10 rfl rfl)
theorem dX3_faultPosition_13 : decode cX3_faultPosition 13 = .ok (.aload_n 0, 1) := dk_42 (dk_at dksX3_faultPosition_0 13 rfl rfl)
theorem dX3_faultPosition_14 : decode cX3_faultPosition 14 = .ok (.iconst 1, 1) := dk_4 (dk_at dksX3_faultPosition_0 14 rfl rfl)
theorem dX3_faultPosition_15 : decode cX3_faultPosition 15 = .ok (.invokevirtual 63, 3) := dk_182 0 63 (dk_at dksX3_faultPosition_0 15 rfl rfl)
theorem dX3_faultPosition_18 : decode cX3_faultPosition 18 = .ok (.goto 7, 3) := dk_167 0 7 (dk_at dksX3_faultPosition_0 18 rfl rfl)
theorem dX3_faultPosition_21 : decode cX3_faultPosition 21 = .ok (.aload_n 0, 1) := dk_42 (dk_at dksX3_faultPosition_0 21 rfl rfl)
theorem dX3_faultPosition_22 : decode cX3_faultPosition 22 = .ok (.getfield 34, 3) := dk_180 0 34 (dk_at dksX3_faultPosition_1 0 rfl rfl)
theorem dX3_faultPosition_25 : decode cX3_faultPosition 25 = .ok (.ireturn, 1) := dk_172 (dk_at dksX3_faultPosition_1 3 rfl rfl)
abbrev cX3_refusal : ByteArray := prog_19_method_84_code
def yX3_refusal : MethodName := ⟨RX3, "refusal", "(IZ)I"⟩
def dkwX3_refusal_3 : List UInt8 := [167, 0, 7, 42, 180, 0, 54, 172]
abbrev dktX3_refusal_3 : List UInt8 := dkwX3_refusal_3 ++ []
def dkwX3_refusal_2 : List UInt8 := [153, 0, 10, 42, 180, 1, 27, 167, 0, 7, 42, 180, 0, 60, 172, 28, 153, 0, 10, 42, 180, 0, 57]
abbrev dktX3_refusal_2 : List UInt8 := dkwX3_refusal_2 ++ dktX3_refusal_3
def dkwX3_refusal_1 : List UInt8 := [160, 0, 16, 42, 180, 0, 60, 154, 0, 9, 42, 4, 182, 0, 63, 172, 27, 4, 160, 0, 19, 28]
abbrev dktX3_refusal_1 : List UInt8 := dkwX3_refusal_1 ++ dktX3_refusal_2
def dkwX3_refusal_0 : List UInt8 := [42, 3, 181, 0, 38, 42, 180, 0, 54, 153, 0, 24, 27, 3, 4, 184, 0, 66, 153, 0, 15, 27, 4]
abbrev dktX3_refusal_0 : List UInt8 := dkwX3_refusal_0 ++ dktX3_refusal_1
theorem dksX3_refusal_0 : cX3_refusal.data.toList.drop 0 = dktX3_refusal_0 := by decide +kernel
theorem dksX3_refusal_1 : cX3_refusal.data.toList.drop 23 = dktX3_refusal_1 := dk_seg dksX3_refusal_0 23 rfl rfl
theorem dksX3_refusal_2 : cX3_refusal.data.toList.drop 45 = dktX3_refusal_2 := dk_seg dksX3_refusal_1 22 rfl rfl
theorem dksX3_refusal_3 : cX3_refusal.data.toList.drop 68 = dktX3_refusal_3 := dk_seg dksX3_refusal_2 23 rfl rfl
theorem dX3_refusal_0 : decode cX3_refusal 0 = .ok (.aload_n 0, 1) := dk_42 (dk_at dksX3_refusal_0 0 rfl rfl)
theorem dX3_refusal_1 : decode cX3_refusal 1 = .ok (.iconst 0, 1) := dk_3 (dk_at dksX3_refusal_0 1 rfl rfl)
theorem dX3_refusal_2 : decode cX3_refusal 2 = .ok (.putfield 38, 3) := dk_181 0 38 (dk_at dksX3_refusal_0 2 rfl rfl)
theorem dX3_refusal_5 : decode cX3_refusal 5 = .ok (.aload_n 0, 1) := dk_42 (dk_at dksX3_refusal_0 5 rfl rfl)
theorem dX3_refusal_6 : decode cX3_refusal 6 = .ok (.getfield 54, 3) := dk_180 0 54 (dk_at dksX3_refusal_0 6 rfl rfl)
theorem dX3_refusal_9 : decode cX3_refusal 9 = .ok (.ifCond .eq 24, 3) := dk_153 0 24 (dk_at dksX3_refusal_0 9 rfl rfl)
theorem dX3_refusal_12 : decode cX3_refusal 12 = .ok (.iload_n 1, 1) := dk_27 (dk_at dksX3_refusal_0 12 rfl rfl)
theorem dX3_refusal_13 : decode cX3_refusal 13 = .ok (.iconst 0, 1) := dk_3 (dk_at dksX3_refusal_0 13 rfl rfl)
theorem dX3_refusal_14 : decode cX3_refusal 14 = .ok (.iconst 1, 1) := dk_4 (dk_at dksX3_refusal_0 14 rfl rfl)
theorem dX3_refusal_15 : decode cX3_refusal 15 = .ok (.invokestatic 66, 3) := dk_184 0 66 (dk_at dksX3_refusal_0 15 rfl rfl)
theorem dX3_refusal_18 : decode cX3_refusal 18 = .ok (.ifCond .eq 15, 3) := dk_153 0 15 (dk_at dksX3_refusal_0 18 rfl rfl)
theorem dX3_refusal_21 : decode cX3_refusal 21 = .ok (.iload_n 1, 1) := dk_27 (dk_at dksX3_refusal_0 21 rfl rfl)
theorem dX3_refusal_22 : decode cX3_refusal 22 = .ok (.iconst 1, 1) := dk_4 (dk_at dksX3_refusal_0 22 rfl rfl)
theorem dX3_refusal_23 : decode cX3_refusal 23 = .ok (.if_icmp .ne 16, 3) := dk_160 0 16 (dk_at dksX3_refusal_1 0 rfl rfl)
theorem dX3_refusal_26 : decode cX3_refusal 26 = .ok (.aload_n 0, 1) := dk_42 (dk_at dksX3_refusal_1 3 rfl rfl)
theorem dX3_refusal_27 : decode cX3_refusal 27 = .ok (.getfield 60, 3) := dk_180 0 60 (dk_at dksX3_refusal_1 4 rfl rfl)
theorem dX3_refusal_30 : decode cX3_refusal 30 = .ok (.ifCond .ne 9, 3) := dk_154 0 9 (dk_at dksX3_refusal_1 7 rfl rfl)
theorem dX3_refusal_33 : decode cX3_refusal 33 = .ok (.aload_n 0, 1) := dk_42 (dk_at dksX3_refusal_1 10 rfl rfl)
theorem dX3_refusal_34 : decode cX3_refusal 34 = .ok (.iconst 1, 1) := dk_4 (dk_at dksX3_refusal_1 11 rfl rfl)
theorem dX3_refusal_35 : decode cX3_refusal 35 = .ok (.invokevirtual 63, 3) := dk_182 0 63 (dk_at dksX3_refusal_1 12 rfl rfl)
theorem dX3_refusal_38 : decode cX3_refusal 38 = .ok (.ireturn, 1) := dk_172 (dk_at dksX3_refusal_1 15 rfl rfl)
theorem dX3_refusal_39 : decode cX3_refusal 39 = .ok (.iload_n 1, 1) := dk_27 (dk_at dksX3_refusal_1 16 rfl rfl)
theorem dX3_refusal_40 : decode cX3_refusal 40 = .ok (.iconst 1, 1) := dk_4 (dk_at dksX3_refusal_1 17 rfl rfl)
theorem dX3_refusal_41 : decode cX3_refusal 41 = .ok (.if_icmp .ne 19, 3) := dk_160 0 19 (dk_at dksX3_refusal_1 18 rfl rfl)
theorem dX3_refusal_44 : decode cX3_refusal 44 = .ok (.iload_n 2, 1) := dk_28 (dk_at dksX3_refusal_1 21 rfl rfl)
theorem dX3_refusal_45 : decode cX3_refusal 45 = .ok (.ifCond .eq 10, 3) := dk_153 0 10 (dk_at dksX3_refusal_2 0 rfl rfl)
theorem dX3_refusal_48 : decode cX3_refusal 48 = .ok (.aload_n 0, 1) := dk_42 (dk_at dksX3_refusal_2 3 rfl rfl)
theorem dX3_refusal_49 : decode cX3_refusal 49 = .ok (.getfield 283, 3) := dk_180 1 27 (dk_at dksX3_refusal_2 4 rfl rfl)
theorem dX3_refusal_52 : decode cX3_refusal 52 = .ok (.goto 7, 3) := dk_167 0 7 (dk_at dksX3_refusal_2 7 rfl rfl)
theorem dX3_refusal_55 : decode cX3_refusal 55 = .ok (.aload_n 0, 1) := dk_42 (dk_at dksX3_refusal_2 10 rfl rfl)
theorem dX3_refusal_56 : decode cX3_refusal 56 = .ok (.getfield 60, 3) := dk_180 0 60 (dk_at dksX3_refusal_2 11 rfl rfl)
theorem dX3_refusal_59 : decode cX3_refusal 59 = .ok (.ireturn, 1) := dk_172 (dk_at dksX3_refusal_2 14 rfl rfl)
theorem dX3_refusal_60 : decode cX3_refusal 60 = .ok (.iload_n 2, 1) := dk_28 (dk_at dksX3_refusal_2 15 rfl rfl)
theorem dX3_refusal_61 : decode cX3_refusal 61 = .ok (.ifCond .eq 10, 3) := dk_153 0 10 (dk_at dksX3_refusal_2 16 rfl rfl)
theorem dX3_refusal_64 : decode cX3_refusal 64 = .ok (.aload_n 0, 1) := dk_42 (dk_at dksX3_refusal_2 19 rfl rfl)
theorem dX3_refusal_65 : decode cX3_refusal 65 = .ok (.getfield 57, 3) := dk_180 0 57 (dk_at dksX3_refusal_2 20 rfl rfl)
theorem dX3_refusal_68 : decode cX3_refusal 68 = .ok (.goto 7, 3) := dk_167 0 7 (dk_at dksX3_refusal_3 0 rfl rfl)
theorem dX3_refusal_71 : decode cX3_refusal 71 = .ok (.aload_n 0, 1) := dk_42 (dk_at dksX3_refusal_3 3 rfl rfl)
theorem dX3_refusal_72 : decode cX3_refusal 72 = .ok (.getfield 54, 3) := dk_180 0 54 (dk_at dksX3_refusal_3 4 rfl rfl)
theorem dX3_refusal_75 : decode cX3_refusal 75 = .ok (.ireturn, 1) := dk_172 (dk_at dksX3_refusal_3 7 rfl rfl)
abbrev cX3_undo : ByteArray := prog_19_method_85_code
def yX3_undo : MethodName := ⟨RX3, "undo", "()I"⟩
def dkwX3_undo_2 : List UInt8 := [17, 3, 25, 42, 180, 0, 41, 104, 27, 96, 46, 79, 132, 1, 1, 167, 255, 225, 42, 180, 0, 41, 172]
abbrev dktX3_undo_2 : List UInt8 := dkwX3_undo_2 ++ []
def dkwX3_undo_1 : List UInt8 := [100, 181, 0, 41, 3, 60, 27, 17, 3, 25, 162, 0, 30, 42, 180, 0, 7, 27, 42, 180, 0, 19]
abbrev dktX3_undo_1 : List UInt8 := dkwX3_undo_1 ++ dktX3_undo_2
def dkwX3_undo_0 : List UInt8 := [42, 3, 181, 0, 38, 42, 180, 0, 41, 154, 0, 9, 42, 4, 182, 0, 63, 172, 42, 89, 180, 0, 41, 4]
abbrev dktX3_undo_0 : List UInt8 := dkwX3_undo_0 ++ dktX3_undo_1
theorem dksX3_undo_0 : cX3_undo.data.toList.drop 0 = dktX3_undo_0 := by decide +kernel
theorem dksX3_undo_1 : cX3_undo.data.toList.drop 24 = dktX3_undo_1 := dk_seg dksX3_undo_0 24 rfl rfl
theorem dksX3_undo_2 : cX3_undo.data.toList.drop 46 = dktX3_undo_2 := dk_seg dksX3_undo_1 22 rfl rfl
theorem dX3_undo_0 : decode cX3_undo 0 = .ok (.aload_n 0, 1) := dk_42 (dk_at dksX3_undo_0 0 rfl rfl)
theorem dX3_undo_1 : decode cX3_undo 1 = .ok (.iconst 0, 1) := dk_3 (dk_at dksX3_undo_0 1 rfl rfl)
theorem dX3_undo_2 : decode cX3_undo 2 = .ok (.putfield 38, 3) := dk_181 0 38 (dk_at dksX3_undo_0 2 rfl rfl)
theorem dX3_undo_5 : decode cX3_undo 5 = .ok (.aload_n 0, 1) := dk_42 (dk_at dksX3_undo_0 5 rfl rfl)
theorem dX3_undo_6 : decode cX3_undo 6 = .ok (.getfield 41, 3) := dk_180 0 41 (dk_at dksX3_undo_0 6 rfl rfl)
theorem dX3_undo_9 : decode cX3_undo 9 = .ok (.ifCond .ne 9, 3) := dk_154 0 9 (dk_at dksX3_undo_0 9 rfl rfl)
theorem dX3_undo_12 : decode cX3_undo 12 = .ok (.aload_n 0, 1) := dk_42 (dk_at dksX3_undo_0 12 rfl rfl)
theorem dX3_undo_13 : decode cX3_undo 13 = .ok (.iconst 1, 1) := dk_4 (dk_at dksX3_undo_0 13 rfl rfl)
theorem dX3_undo_14 : decode cX3_undo 14 = .ok (.invokevirtual 63, 3) := dk_182 0 63 (dk_at dksX3_undo_0 14 rfl rfl)
theorem dX3_undo_17 : decode cX3_undo 17 = .ok (.ireturn, 1) := dk_172 (dk_at dksX3_undo_0 17 rfl rfl)
theorem dX3_undo_18 : decode cX3_undo 18 = .ok (.aload_n 0, 1) := dk_42 (dk_at dksX3_undo_0 18 rfl rfl)
theorem dX3_undo_19 : decode cX3_undo 19 = .ok (.dup, 1) := dk_89 (dk_at dksX3_undo_0 19 rfl rfl)
theorem dX3_undo_20 : decode cX3_undo 20 = .ok (.getfield 41, 3) := dk_180 0 41 (dk_at dksX3_undo_0 20 rfl rfl)
theorem dX3_undo_23 : decode cX3_undo 23 = .ok (.iconst 1, 1) := dk_4 (dk_at dksX3_undo_0 23 rfl rfl)
theorem dX3_undo_24 : decode cX3_undo 24 = .ok (.isub, 1) := dk_100 (dk_at dksX3_undo_1 0 rfl rfl)
theorem dX3_undo_25 : decode cX3_undo 25 = .ok (.putfield 41, 3) := dk_181 0 41 (dk_at dksX3_undo_1 1 rfl rfl)
theorem dX3_undo_28 : decode cX3_undo 28 = .ok (.iconst 0, 1) := dk_3 (dk_at dksX3_undo_1 4 rfl rfl)
theorem dX3_undo_29 : decode cX3_undo 29 = .ok (.istore_n 1, 1) := dk_60 (dk_at dksX3_undo_1 5 rfl rfl)
theorem dX3_undo_30 : decode cX3_undo 30 = .ok (.iload_n 1, 1) := dk_27 (dk_at dksX3_undo_1 6 rfl rfl)
theorem dX3_undo_31 : decode cX3_undo 31 = .ok (.sipush 793, 3) := dk_17 3 25 (dk_at dksX3_undo_1 7 rfl rfl)
theorem dX3_undo_34 : decode cX3_undo 34 = .ok (.if_icmp .ge 30, 3) := dk_162 0 30 (dk_at dksX3_undo_1 10 rfl rfl)
theorem dX3_undo_37 : decode cX3_undo 37 = .ok (.aload_n 0, 1) := dk_42 (dk_at dksX3_undo_1 13 rfl rfl)
theorem dX3_undo_38 : decode cX3_undo 38 = .ok (.getfield 7, 3) := dk_180 0 7 (dk_at dksX3_undo_1 14 rfl rfl)
theorem dX3_undo_41 : decode cX3_undo 41 = .ok (.iload_n 1, 1) := dk_27 (dk_at dksX3_undo_1 17 rfl rfl)
theorem dX3_undo_42 : decode cX3_undo 42 = .ok (.aload_n 0, 1) := dk_42 (dk_at dksX3_undo_1 18 rfl rfl)
theorem dX3_undo_43 : decode cX3_undo 43 = .ok (.getfield 19, 3) := dk_180 0 19 (dk_at dksX3_undo_1 19 rfl rfl)
theorem dX3_undo_46 : decode cX3_undo 46 = .ok (.sipush 793, 3) := dk_17 3 25 (dk_at dksX3_undo_2 0 rfl rfl)
theorem dX3_undo_49 : decode cX3_undo 49 = .ok (.aload_n 0, 1) := dk_42 (dk_at dksX3_undo_2 3 rfl rfl)
theorem dX3_undo_50 : decode cX3_undo 50 = .ok (.getfield 41, 3) := dk_180 0 41 (dk_at dksX3_undo_2 4 rfl rfl)
theorem dX3_undo_53 : decode cX3_undo 53 = .ok (.imul, 1) := dk_104 (dk_at dksX3_undo_2 7 rfl rfl)
theorem dX3_undo_54 : decode cX3_undo 54 = .ok (.iload_n 1, 1) := dk_27 (dk_at dksX3_undo_2 8 rfl rfl)
theorem dX3_undo_55 : decode cX3_undo 55 = .ok (.iadd, 1) := dk_96 (dk_at dksX3_undo_2 9 rfl rfl)
theorem dX3_undo_56 : decode cX3_undo 56 = .ok (.iaload, 1) := dk_46 (dk_at dksX3_undo_2 10 rfl rfl)
theorem dX3_undo_57 : decode cX3_undo 57 = .ok (.iastore, 1) := dk_79 (dk_at dksX3_undo_2 11 rfl rfl)
theorem dX3_undo_58 : decode cX3_undo 58 = .ok (.iinc 1 1, 3) := dk_132 1 1 (dk_at dksX3_undo_2 12 rfl rfl)
theorem dX3_undo_61 : decode cX3_undo 61 = .ok (.goto (-31), 3) := dk_167 255 225 (dk_at dksX3_undo_2 15 rfl rfl)
theorem dX3_undo_64 : decode cX3_undo 64 = .ok (.aload_n 0, 1) := dk_42 (dk_at dksX3_undo_2 18 rfl rfl)
theorem dX3_undo_65 : decode cX3_undo 65 = .ok (.getfield 41, 3) := dk_180 0 41 (dk_at dksX3_undo_2 19 rfl rfl)
theorem dX3_undo_68 : decode cX3_undo 68 = .ok (.ireturn, 1) := dk_172 (dk_at dksX3_undo_2 22 rfl rfl)
abbrev cX3_saveSnapshot : ByteArray := prog_19_method_86_code
def yX3_saveSnapshot : MethodName := ⟨RX3, "saveSnapshot", "()I"⟩
def dkwX3_saveSnapshot_1 : List UInt8 := [46, 79, 132, 1, 1, 167, 255, 234, 42, 4, 181, 1, 30, 42, 180, 0, 7, 5, 46, 172]
abbrev dktX3_saveSnapshot_1 : List UInt8 := dkwX3_saveSnapshot_1 ++ []
def dkwX3_saveSnapshot_0 : List UInt8 := [42, 3, 181, 0, 38, 3, 60, 27, 17, 3, 25, 162, 0, 21, 42, 180, 0, 16, 27, 42, 180, 0, 7, 27]
abbrev dktX3_saveSnapshot_0 : List UInt8 := dkwX3_saveSnapshot_0 ++ dktX3_saveSnapshot_1
theorem dksX3_saveSnapshot_0 : cX3_saveSnapshot.data.toList.drop 0 = dktX3_saveSnapshot_0 := by decide +kernel
theorem dksX3_saveSnapshot_1 : cX3_saveSnapshot.data.toList.drop 24 = dktX3_saveSnapshot_1 := dk_seg dksX3_saveSnapshot_0 24 rfl rfl
theorem dX3_saveSnapshot_0 : decode cX3_saveSnapshot 0 = .ok (.aload_n 0, 1) := dk_42 (dk_at dksX3_saveSnapshot_0 0 rfl rfl)
theorem dX3_saveSnapshot_1 : decode cX3_saveSnapshot 1 = .ok (.iconst 0, 1) := dk_3 (dk_at dksX3_saveSnapshot_0 1 rfl rfl)
theorem dX3_saveSnapshot_2 : decode cX3_saveSnapshot 2 = .ok (.putfield 38, 3) := dk_181 0 38 (dk_at dksX3_saveSnapshot_0 2 rfl rfl)
theorem dX3_saveSnapshot_5 : decode cX3_saveSnapshot 5 = .ok (.iconst 0, 1) := dk_3 (dk_at dksX3_saveSnapshot_0 5 rfl rfl)
theorem dX3_saveSnapshot_6 : decode cX3_saveSnapshot 6 = .ok (.istore_n 1, 1) := dk_60 (dk_at dksX3_saveSnapshot_0 6 rfl rfl)
theorem dX3_saveSnapshot_7 : decode cX3_saveSnapshot 7 = .ok (.iload_n 1, 1) := dk_27 (dk_at dksX3_saveSnapshot_0 7 rfl rfl)
theorem dX3_saveSnapshot_8 : decode cX3_saveSnapshot 8 = .ok (.sipush 793, 3) := dk_17 3 25 (dk_at dksX3_saveSnapshot_0 8 rfl rfl)
theorem dX3_saveSnapshot_11 : decode cX3_saveSnapshot 11 = .ok (.if_icmp .ge 21, 3) := dk_162 0 21 (dk_at dksX3_saveSnapshot_0 11 rfl rfl)
theorem dX3_saveSnapshot_14 : decode cX3_saveSnapshot 14 = .ok (.aload_n 0, 1) := dk_42 (dk_at dksX3_saveSnapshot_0 14 rfl rfl)
theorem dX3_saveSnapshot_15 : decode cX3_saveSnapshot 15 = .ok (.getfield 16, 3) := dk_180 0 16 (dk_at dksX3_saveSnapshot_0 15 rfl rfl)
theorem dX3_saveSnapshot_18 : decode cX3_saveSnapshot 18 = .ok (.iload_n 1, 1) := dk_27 (dk_at dksX3_saveSnapshot_0 18 rfl rfl)
theorem dX3_saveSnapshot_19 : decode cX3_saveSnapshot 19 = .ok (.aload_n 0, 1) := dk_42 (dk_at dksX3_saveSnapshot_0 19 rfl rfl)
theorem dX3_saveSnapshot_20 : decode cX3_saveSnapshot 20 = .ok (.getfield 7, 3) := dk_180 0 7 (dk_at dksX3_saveSnapshot_0 20 rfl rfl)
theorem dX3_saveSnapshot_23 : decode cX3_saveSnapshot 23 = .ok (.iload_n 1, 1) := dk_27 (dk_at dksX3_saveSnapshot_0 23 rfl rfl)
theorem dX3_saveSnapshot_24 : decode cX3_saveSnapshot 24 = .ok (.iaload, 1) := dk_46 (dk_at dksX3_saveSnapshot_1 0 rfl rfl)
theorem dX3_saveSnapshot_25 : decode cX3_saveSnapshot 25 = .ok (.iastore, 1) := dk_79 (dk_at dksX3_saveSnapshot_1 1 rfl rfl)
theorem dX3_saveSnapshot_26 : decode cX3_saveSnapshot 26 = .ok (.iinc 1 1, 3) := dk_132 1 1 (dk_at dksX3_saveSnapshot_1 2 rfl rfl)
theorem dX3_saveSnapshot_29 : decode cX3_saveSnapshot 29 = .ok (.goto (-22), 3) := dk_167 255 234 (dk_at dksX3_saveSnapshot_1 5 rfl rfl)
theorem dX3_saveSnapshot_32 : decode cX3_saveSnapshot 32 = .ok (.aload_n 0, 1) := dk_42 (dk_at dksX3_saveSnapshot_1 8 rfl rfl)
theorem dX3_saveSnapshot_33 : decode cX3_saveSnapshot 33 = .ok (.iconst 1, 1) := dk_4 (dk_at dksX3_saveSnapshot_1 9 rfl rfl)
theorem dX3_saveSnapshot_34 : decode cX3_saveSnapshot 34 = .ok (.putfield 286, 3) := dk_181 1 30 (dk_at dksX3_saveSnapshot_1 10 rfl rfl)
theorem dX3_saveSnapshot_37 : decode cX3_saveSnapshot 37 = .ok (.aload_n 0, 1) := dk_42 (dk_at dksX3_saveSnapshot_1 13 rfl rfl)
theorem dX3_saveSnapshot_38 : decode cX3_saveSnapshot 38 = .ok (.getfield 7, 3) := dk_180 0 7 (dk_at dksX3_saveSnapshot_1 14 rfl rfl)
theorem dX3_saveSnapshot_41 : decode cX3_saveSnapshot 41 = .ok (.iconst 2, 1) := dk_5 (dk_at dksX3_saveSnapshot_1 17 rfl rfl)
theorem dX3_saveSnapshot_42 : decode cX3_saveSnapshot 42 = .ok (.iaload, 1) := dk_46 (dk_at dksX3_saveSnapshot_1 18 rfl rfl)
theorem dX3_saveSnapshot_43 : decode cX3_saveSnapshot 43 = .ok (.ireturn, 1) := dk_172 (dk_at dksX3_saveSnapshot_1 19 rfl rfl)
abbrev cX3_restoreSnapshot : ByteArray := prog_19_method_87_code
def yX3_restoreSnapshot : MethodName := ⟨RX3, "restoreSnapshot", "()I"⟩
def dkwX3_restoreSnapshot_2 : List UInt8 := [181, 0, 41, 42, 180, 0, 7, 5, 46, 172]
abbrev dktX3_restoreSnapshot_2 : List UInt8 := dkwX3_restoreSnapshot_2 ++ []
def dkwX3_restoreSnapshot_1 : List UInt8 := [162, 0, 21, 42, 180, 0, 7, 27, 42, 180, 0, 16, 27, 46, 79, 132, 1, 1, 167, 255, 234, 42, 3]
abbrev dktX3_restoreSnapshot_1 : List UInt8 := dkwX3_restoreSnapshot_1 ++ dktX3_restoreSnapshot_2
def dkwX3_restoreSnapshot_0 : List UInt8 := [42, 3, 181, 0, 38, 42, 180, 1, 30, 154, 0, 9, 42, 4, 182, 0, 63, 172, 3, 60, 27, 17, 3, 25]
abbrev dktX3_restoreSnapshot_0 : List UInt8 := dkwX3_restoreSnapshot_0 ++ dktX3_restoreSnapshot_1
theorem dksX3_restoreSnapshot_0 : cX3_restoreSnapshot.data.toList.drop 0 = dktX3_restoreSnapshot_0 := by decide +kernel
theorem dksX3_restoreSnapshot_1 : cX3_restoreSnapshot.data.toList.drop 24 = dktX3_restoreSnapshot_1 := dk_seg dksX3_restoreSnapshot_0 24 rfl rfl
theorem dksX3_restoreSnapshot_2 : cX3_restoreSnapshot.data.toList.drop 47 = dktX3_restoreSnapshot_2 := dk_seg dksX3_restoreSnapshot_1 23 rfl rfl
theorem dX3_restoreSnapshot_0 : decode cX3_restoreSnapshot 0 = .ok (.aload_n 0, 1) := dk_42 (dk_at dksX3_restoreSnapshot_0 0 rfl rfl)
theorem dX3_restoreSnapshot_1 : decode cX3_restoreSnapshot 1 = .ok (.iconst 0, 1) := dk_3 (dk_at dksX3_restoreSnapshot_0 1 rfl rfl)
theorem dX3_restoreSnapshot_2 : decode cX3_restoreSnapshot 2 = .ok (.putfield 38, 3) := dk_181 0 38 (dk_at dksX3_restoreSnapshot_0 2 rfl rfl)
theorem dX3_restoreSnapshot_5 : decode cX3_restoreSnapshot 5 = .ok (.aload_n 0, 1) := dk_42 (dk_at dksX3_restoreSnapshot_0 5 rfl rfl)
theorem dX3_restoreSnapshot_6 : decode cX3_restoreSnapshot 6 = .ok (.getfield 286, 3) := dk_180 1 30 (dk_at dksX3_restoreSnapshot_0 6 rfl rfl)
theorem dX3_restoreSnapshot_9 : decode cX3_restoreSnapshot 9 = .ok (.ifCond .ne 9, 3) := dk_154 0 9 (dk_at dksX3_restoreSnapshot_0 9 rfl rfl)
theorem dX3_restoreSnapshot_12 : decode cX3_restoreSnapshot 12 = .ok (.aload_n 0, 1) := dk_42 (dk_at dksX3_restoreSnapshot_0 12 rfl rfl)
theorem dX3_restoreSnapshot_13 : decode cX3_restoreSnapshot 13 = .ok (.iconst 1, 1) := dk_4 (dk_at dksX3_restoreSnapshot_0 13 rfl rfl)
theorem dX3_restoreSnapshot_14 : decode cX3_restoreSnapshot 14 = .ok (.invokevirtual 63, 3) := dk_182 0 63 (dk_at dksX3_restoreSnapshot_0 14 rfl rfl)
theorem dX3_restoreSnapshot_17 : decode cX3_restoreSnapshot 17 = .ok (.ireturn, 1) := dk_172 (dk_at dksX3_restoreSnapshot_0 17 rfl rfl)
theorem dX3_restoreSnapshot_18 : decode cX3_restoreSnapshot 18 = .ok (.iconst 0, 1) := dk_3 (dk_at dksX3_restoreSnapshot_0 18 rfl rfl)
theorem dX3_restoreSnapshot_19 : decode cX3_restoreSnapshot 19 = .ok (.istore_n 1, 1) := dk_60 (dk_at dksX3_restoreSnapshot_0 19 rfl rfl)
theorem dX3_restoreSnapshot_20 : decode cX3_restoreSnapshot 20 = .ok (.iload_n 1, 1) := dk_27 (dk_at dksX3_restoreSnapshot_0 20 rfl rfl)
theorem dX3_restoreSnapshot_21 : decode cX3_restoreSnapshot 21 = .ok (.sipush 793, 3) := dk_17 3 25 (dk_at dksX3_restoreSnapshot_0 21 rfl rfl)
theorem dX3_restoreSnapshot_24 : decode cX3_restoreSnapshot 24 = .ok (.if_icmp .ge 21, 3) := dk_162 0 21 (dk_at dksX3_restoreSnapshot_1 0 rfl rfl)
theorem dX3_restoreSnapshot_27 : decode cX3_restoreSnapshot 27 = .ok (.aload_n 0, 1) := dk_42 (dk_at dksX3_restoreSnapshot_1 3 rfl rfl)
theorem dX3_restoreSnapshot_28 : decode cX3_restoreSnapshot 28 = .ok (.getfield 7, 3) := dk_180 0 7 (dk_at dksX3_restoreSnapshot_1 4 rfl rfl)
theorem dX3_restoreSnapshot_31 : decode cX3_restoreSnapshot 31 = .ok (.iload_n 1, 1) := dk_27 (dk_at dksX3_restoreSnapshot_1 7 rfl rfl)
theorem dX3_restoreSnapshot_32 : decode cX3_restoreSnapshot 32 = .ok (.aload_n 0, 1) := dk_42 (dk_at dksX3_restoreSnapshot_1 8 rfl rfl)
theorem dX3_restoreSnapshot_33 : decode cX3_restoreSnapshot 33 = .ok (.getfield 16, 3) := dk_180 0 16 (dk_at dksX3_restoreSnapshot_1 9 rfl rfl)
theorem dX3_restoreSnapshot_36 : decode cX3_restoreSnapshot 36 = .ok (.iload_n 1, 1) := dk_27 (dk_at dksX3_restoreSnapshot_1 12 rfl rfl)
theorem dX3_restoreSnapshot_37 : decode cX3_restoreSnapshot 37 = .ok (.iaload, 1) := dk_46 (dk_at dksX3_restoreSnapshot_1 13 rfl rfl)
theorem dX3_restoreSnapshot_38 : decode cX3_restoreSnapshot 38 = .ok (.iastore, 1) := dk_79 (dk_at dksX3_restoreSnapshot_1 14 rfl rfl)
theorem dX3_restoreSnapshot_39 : decode cX3_restoreSnapshot 39 = .ok (.iinc 1 1, 3) := dk_132 1 1 (dk_at dksX3_restoreSnapshot_1 15 rfl rfl)
theorem dX3_restoreSnapshot_42 : decode cX3_restoreSnapshot 42 = .ok (.goto (-22), 3) := dk_167 255 234 (dk_at dksX3_restoreSnapshot_1 18 rfl rfl)
theorem dX3_restoreSnapshot_45 : decode cX3_restoreSnapshot 45 = .ok (.aload_n 0, 1) := dk_42 (dk_at dksX3_restoreSnapshot_1 21 rfl rfl)
theorem dX3_restoreSnapshot_46 : decode cX3_restoreSnapshot 46 = .ok (.iconst 0, 1) := dk_3 (dk_at dksX3_restoreSnapshot_1 22 rfl rfl)
theorem dX3_restoreSnapshot_47 : decode cX3_restoreSnapshot 47 = .ok (.putfield 41, 3) := dk_181 0 41 (dk_at dksX3_restoreSnapshot_2 0 rfl rfl)
theorem dX3_restoreSnapshot_50 : decode cX3_restoreSnapshot 50 = .ok (.aload_n 0, 1) := dk_42 (dk_at dksX3_restoreSnapshot_2 3 rfl rfl)
theorem dX3_restoreSnapshot_51 : decode cX3_restoreSnapshot 51 = .ok (.getfield 7, 3) := dk_180 0 7 (dk_at dksX3_restoreSnapshot_2 4 rfl rfl)
theorem dX3_restoreSnapshot_54 : decode cX3_restoreSnapshot 54 = .ok (.iconst 2, 1) := dk_5 (dk_at dksX3_restoreSnapshot_2 7 rfl rfl)
theorem dX3_restoreSnapshot_55 : decode cX3_restoreSnapshot 55 = .ok (.iaload, 1) := dk_46 (dk_at dksX3_restoreSnapshot_2 8 rfl rfl)
theorem dX3_restoreSnapshot_56 : decode cX3_restoreSnapshot 56 = .ok (.ireturn, 1) := dk_172 (dk_at dksX3_restoreSnapshot_2 9 rfl rfl)
theorem q85 : (Jvm.Cond.initialized "BlockPapersModel") ∈ lw_all := lw_g (lw_at lw_m1 11 rfl) rfl
theorem q836 : (Jvm.Cond.selects "BlockPapersModel" ({ cls := "java/lang/Object", name := "getClass", desc := "()Ljava/lang/Class;" } : Jvm.MethodName) ({ cls := "java/lang/Object", name := "getClass", desc := "()Ljava/lang/Class;" } : Jvm.MethodName)) ∈ lw_all := lw_g (lw_at lw_m4 42 rfl) rfl
theorem q2237 : (Jvm.Cond.instantiable "BlockPapersModel" (24 : Nat)) ∈ lw_all := lw_g (lw_at lw_m10 3 rfl) rfl
theorem q2239 : (Jvm.Cond.instanceMethod ({ cls := "BlockPapersModel", name := "<init>", desc := "()V" } : Jvm.MethodName)) ∈ lw_all := lw_g (lw_at lw_m10 5 rfl) rfl
theorem q2240 : (Jvm.Cond.code ({ cls := "BlockPapersModel", name := "<init>", desc := "()V" } : Jvm.MethodName) prog_19_method_1_code (1 : Nat) (Option.none : Option Jvm.ClassFile.FieldType)) ∈ lw_all := lw_g (lw_at lw_m10 6 rfl) rfl
theorem q2241 : (Jvm.Cond.methodLink "BlockPapersModel" (1 : Nat) ({ cls := "java/lang/Object", name := "<init>", desc := "()V" } : Jvm.MethodName)) ∈ lw_all := lw_g (lw_at lw_m10 7 rfl) rfl
theorem q2242 : (Jvm.Cond.fieldLink "BlockPapersModel" (38 : Nat) "BlockPapersModel" "thrown" "I") ∈ lw_all := lw_g (lw_at lw_m10 8 rfl) rfl
theorem q2243 : (Jvm.Cond.fieldLink "BlockPapersModel" (7 : Nat) "BlockPapersModel" "s" "[I") ∈ lw_all := lw_g (lw_at lw_m10 9 rfl) rfl
theorem q2244 : (Jvm.Cond.fieldLink "BlockPapersModel" (13 : Nat) "BlockPapersModel" "frame" "[I") ∈ lw_all := lw_g (lw_at lw_m10 10 rfl) rfl
theorem q2245 : (Jvm.Cond.fieldLink "BlockPapersModel" (16 : Nat) "BlockPapersModel" "saved" "[I") ∈ lw_all := lw_g (lw_at lw_m10 11 rfl) rfl
theorem q2246 : (Jvm.Cond.fieldLink "BlockPapersModel" (19 : Nat) "BlockPapersModel" "history" "[I") ∈ lw_all := lw_g (lw_at lw_m10 12 rfl) rfl
theorem q2247 : (Jvm.Cond.fieldLink "BlockPapersModel" (22 : Nat) "BlockPapersModel" "thought" "[I") ∈ lw_all := lw_g (lw_at lw_m10 13 rfl) rfl
theorem q2248 : (Jvm.Cond.fieldLink "BlockPapersModel" (41 : Nat) "BlockPapersModel" "kept" "I") ∈ lw_all := lw_g (lw_at lw_m10 14 rfl) rfl
theorem q2249 : (Jvm.Cond.fieldLink "BlockPapersModel" (286 : Nat) "BlockPapersModel" "hasSaved" "Z") ∈ lw_all := lw_g (lw_at lw_m10 15 rfl) rfl
theorem q2250 : (Jvm.Cond.fieldLink "BlockPapersModel" (25 : Nat) "BlockPapersModel" "text" "[I") ∈ lw_all := lw_g (lw_at lw_m10 16 rfl) rfl
theorem q2251 : (Jvm.Cond.fieldLink "BlockPapersModel" (28 : Nat) "BlockPapersModel" "told" "[I") ∈ lw_all := lw_g (lw_at lw_m10 17 rfl) rfl
theorem q2252 : (Jvm.Cond.fieldLink "BlockPapersModel" (31 : Nat) "BlockPapersModel" "out" "[I") ∈ lw_all := lw_g (lw_at lw_m10 18 rfl) rfl
theorem q2253 : (Jvm.Cond.fieldLink "BlockPapersModel" (231 : Nat) "BlockPapersModel" "length" "I") ∈ lw_all := lw_g (lw_at lw_m10 19 rfl) rfl
theorem q2254 : (Jvm.Cond.fieldLink "BlockPapersModel" (179 : Nat) "BlockPapersModel" "outLength" "I") ∈ lw_all := lw_g (lw_at lw_m10 20 rfl) rfl
theorem q2255 : (Jvm.Cond.fieldLink "BlockPapersModel" (34 : Nat) "BlockPapersModel" "faultAt" "I") ∈ lw_all := lw_g (lw_at lw_m10 21 rfl) rfl
theorem q2256 : (Jvm.Cond.fieldLink "BlockPapersModel" (54 : Nat) "BlockPapersModel" "why" "I") ∈ lw_all := lw_g (lw_at lw_m10 22 rfl) rfl
theorem q2257 : (Jvm.Cond.fieldLink "BlockPapersModel" (57 : Nat) "BlockPapersModel" "detail" "I") ∈ lw_all := lw_g (lw_at lw_m10 23 rfl) rfl
theorem q2258 : (Jvm.Cond.fieldLink "BlockPapersModel" (60 : Nat) "BlockPapersModel" "behind" "I") ∈ lw_all := lw_g (lw_at lw_m10 24 rfl) rfl
theorem q2259 : (Jvm.Cond.fieldLink "BlockPapersModel" (283 : Nat) "BlockPapersModel" "behindDetail" "I") ∈ lw_all := lw_g (lw_at lw_m10 25 rfl) rfl
theorem q2260 : (Jvm.Cond.fieldLink "BlockPapersModel" (44 : Nat) "BlockPapersModel" "about" "I") ∈ lw_all := lw_g (lw_at lw_m10 26 rfl) rfl
theorem q2261 : (Jvm.Cond.fieldLink "BlockPapersModel" (47 : Nat) "BlockPapersModel" "answer" "I") ∈ lw_all := lw_g (lw_at lw_m10 27 rfl) rfl
theorem q2262 : (Jvm.Cond.fieldLink "BlockPapersModel" (236 : Nat) "BlockPapersModel" "spot" "I") ∈ lw_all := lw_g (lw_at lw_m10 28 rfl) rfl
theorem q2263 : (Jvm.Cond.fieldLink "BlockPapersModel" (239 : Nat) "BlockPapersModel" "end" "I") ∈ lw_all := lw_g (lw_at lw_m10 29 rfl) rfl
theorem q2264 : (Jvm.Cond.fieldLink "BlockPapersModel" (252 : Nat) "BlockPapersModel" "commands" "I") ∈ lw_all := lw_g (lw_at lw_m10 30 rfl) rfl
theorem q2265 : (Jvm.Cond.fieldLink "BlockPapersModel" (242 : Nat) "BlockPapersModel" "isWrong" "Z") ∈ lw_all := lw_g (lw_at lw_m10 31 rfl) rfl
theorem q2266 : (Jvm.Cond.lays "BlockPapersModel" "BlockPapersModel" "thrown" "I") ∈ lw_all := lw_g (lw_at lw_m10 32 rfl) rfl
theorem q2267 : (Jvm.Cond.soleField "BlockPapersModel" "thrown") ∈ lw_all := lw_g (lw_at lw_m10 33 rfl) rfl
theorem q2268 : (Jvm.Cond.laysFinal "BlockPapersModel" "BlockPapersModel" "s" "[I") ∈ lw_all := lw_g (lw_at lw_m10 34 rfl) rfl
theorem q2269 : (Jvm.Cond.soleField "BlockPapersModel" "s") ∈ lw_all := lw_g (lw_at lw_m10 35 rfl) rfl
theorem q2270 : (Jvm.Cond.laysFinal "BlockPapersModel" "BlockPapersModel" "frame" "[I") ∈ lw_all := lw_g (lw_at lw_m10 36 rfl) rfl
theorem q2271 : (Jvm.Cond.soleField "BlockPapersModel" "frame") ∈ lw_all := lw_g (lw_at lw_m10 37 rfl) rfl
theorem q2272 : (Jvm.Cond.laysFinal "BlockPapersModel" "BlockPapersModel" "saved" "[I") ∈ lw_all := lw_g (lw_at lw_m10 38 rfl) rfl
theorem q2273 : (Jvm.Cond.soleField "BlockPapersModel" "saved") ∈ lw_all := lw_g (lw_at lw_m10 39 rfl) rfl
theorem q2274 : (Jvm.Cond.laysFinal "BlockPapersModel" "BlockPapersModel" "history" "[I") ∈ lw_all := lw_g (lw_at lw_m10 40 rfl) rfl
theorem q2275 : (Jvm.Cond.soleField "BlockPapersModel" "history") ∈ lw_all := lw_g (lw_at lw_m10 41 rfl) rfl
theorem q2276 : (Jvm.Cond.laysFinal "BlockPapersModel" "BlockPapersModel" "thought" "[I") ∈ lw_all := lw_g (lw_at lw_m10 42 rfl) rfl
theorem q2277 : (Jvm.Cond.soleField "BlockPapersModel" "thought") ∈ lw_all := lw_g (lw_at lw_m10 43 rfl) rfl
theorem q2278 : (Jvm.Cond.lays "BlockPapersModel" "BlockPapersModel" "kept" "I") ∈ lw_all := lw_g (lw_at lw_m10 44 rfl) rfl
theorem q2279 : (Jvm.Cond.soleField "BlockPapersModel" "kept") ∈ lw_all := lw_g (lw_at lw_m10 45 rfl) rfl
theorem q2280 : (Jvm.Cond.lays "BlockPapersModel" "BlockPapersModel" "hasSaved" "Z") ∈ lw_all := lw_g (lw_at lw_m10 46 rfl) rfl
theorem q2281 : (Jvm.Cond.soleField "BlockPapersModel" "hasSaved") ∈ lw_all := lw_g (lw_at lw_m10 47 rfl) rfl
theorem q2282 : (Jvm.Cond.laysFinal "BlockPapersModel" "BlockPapersModel" "text" "[I") ∈ lw_all := lw_g (lw_at lw_m10 48 rfl) rfl
theorem q2283 : (Jvm.Cond.soleField "BlockPapersModel" "text") ∈ lw_all := lw_g (lw_at lw_m10 49 rfl) rfl
theorem q2284 : (Jvm.Cond.laysFinal "BlockPapersModel" "BlockPapersModel" "told" "[I") ∈ lw_all := lw_g (lw_at lw_m10 50 rfl) rfl
theorem q2285 : (Jvm.Cond.soleField "BlockPapersModel" "told") ∈ lw_all := lw_g (lw_at lw_m10 51 rfl) rfl
theorem q2286 : (Jvm.Cond.laysFinal "BlockPapersModel" "BlockPapersModel" "out" "[I") ∈ lw_all := lw_g (lw_at lw_m10 52 rfl) rfl
theorem q2287 : (Jvm.Cond.soleField "BlockPapersModel" "out") ∈ lw_all := lw_g (lw_at lw_m10 53 rfl) rfl
theorem q2288 : (Jvm.Cond.lays "BlockPapersModel" "BlockPapersModel" "length" "I") ∈ lw_all := lw_g (lw_at lw_m10 54 rfl) rfl
theorem q2289 : (Jvm.Cond.soleField "BlockPapersModel" "length") ∈ lw_all := lw_g (lw_at lw_m10 55 rfl) rfl
theorem q2290 : (Jvm.Cond.lays "BlockPapersModel" "BlockPapersModel" "outLength" "I") ∈ lw_all := lw_g (lw_at lw_m10 56 rfl) rfl
theorem q2291 : (Jvm.Cond.soleField "BlockPapersModel" "outLength") ∈ lw_all := lw_g (lw_at lw_m10 57 rfl) rfl
theorem q2292 : (Jvm.Cond.lays "BlockPapersModel" "BlockPapersModel" "faultAt" "I") ∈ lw_all := lw_g (lw_at lw_m10 58 rfl) rfl
theorem q2293 : (Jvm.Cond.soleField "BlockPapersModel" "faultAt") ∈ lw_all := lw_g (lw_at lw_m10 59 rfl) rfl
theorem q2294 : (Jvm.Cond.lays "BlockPapersModel" "BlockPapersModel" "why" "I") ∈ lw_all := lw_g (lw_at lw_m10 60 rfl) rfl
theorem q2295 : (Jvm.Cond.soleField "BlockPapersModel" "why") ∈ lw_all := lw_g (lw_at lw_m10 61 rfl) rfl
theorem q2296 : (Jvm.Cond.lays "BlockPapersModel" "BlockPapersModel" "detail" "I") ∈ lw_all := lw_g (lw_at lw_m10 62 rfl) rfl
theorem q2297 : (Jvm.Cond.soleField "BlockPapersModel" "detail") ∈ lw_all := lw_g (lw_at lw_m10 63 rfl) rfl
theorem q2298 : (Jvm.Cond.lays "BlockPapersModel" "BlockPapersModel" "behind" "I") ∈ lw_all := lw_g (lw_at lw_m10 64 rfl) rfl
theorem q2299 : (Jvm.Cond.soleField "BlockPapersModel" "behind") ∈ lw_all := lw_g (lw_at lw_m10 65 rfl) rfl
theorem q2300 : (Jvm.Cond.lays "BlockPapersModel" "BlockPapersModel" "behindDetail" "I") ∈ lw_all := lw_g (lw_at lw_m10 66 rfl) rfl
theorem q2301 : (Jvm.Cond.soleField "BlockPapersModel" "behindDetail") ∈ lw_all := lw_g (lw_at lw_m10 67 rfl) rfl
theorem q2302 : (Jvm.Cond.lays "BlockPapersModel" "BlockPapersModel" "about" "I") ∈ lw_all := lw_g (lw_at lw_m10 68 rfl) rfl
theorem q2303 : (Jvm.Cond.soleField "BlockPapersModel" "about") ∈ lw_all := lw_g (lw_at lw_m10 69 rfl) rfl
theorem q2304 : (Jvm.Cond.lays "BlockPapersModel" "BlockPapersModel" "answer" "I") ∈ lw_all := lw_g (lw_at lw_m10 70 rfl) rfl
theorem q2305 : (Jvm.Cond.soleField "BlockPapersModel" "answer") ∈ lw_all := lw_g (lw_at lw_m10 71 rfl) rfl
theorem q2306 : (Jvm.Cond.lays "BlockPapersModel" "BlockPapersModel" "spot" "I") ∈ lw_all := lw_g (lw_at lw_m10 72 rfl) rfl
theorem q2307 : (Jvm.Cond.soleField "BlockPapersModel" "spot") ∈ lw_all := lw_g (lw_at lw_m10 73 rfl) rfl
theorem q2308 : (Jvm.Cond.lays "BlockPapersModel" "BlockPapersModel" "end" "I") ∈ lw_all := lw_g (lw_at lw_m10 74 rfl) rfl
theorem q2309 : (Jvm.Cond.soleField "BlockPapersModel" "end") ∈ lw_all := lw_g (lw_at lw_m10 75 rfl) rfl
theorem q2310 : (Jvm.Cond.lays "BlockPapersModel" "BlockPapersModel" "commands" "I") ∈ lw_all := lw_g (lw_at lw_m10 76 rfl) rfl
theorem q2311 : (Jvm.Cond.soleField "BlockPapersModel" "commands") ∈ lw_all := lw_g (lw_at lw_m10 77 rfl) rfl
theorem q2312 : (Jvm.Cond.lays "BlockPapersModel" "BlockPapersModel" "isWrong" "Z") ∈ lw_all := lw_g (lw_at lw_m10 78 rfl) rfl
theorem q2313 : (Jvm.Cond.soleField "BlockPapersModel" "isWrong") ∈ lw_all := lw_g (lw_at lw_m10 79 rfl) rfl
theorem q2314 : (Jvm.Cond.superclass "BlockPapersModel" "java/lang/Object") ∈ lw_all := lw_g (lw_at lw_m10 80 rfl) rfl
theorem q2317 : (Jvm.Cond.instanceMethod ({ cls := "BlockPapersModel", name := "thrown", desc := "()I" } : Jvm.MethodName)) ∈ lw_all := lw_g (lw_at lw_m10 83 rfl) rfl
theorem q2318 : (Jvm.Cond.selects "BlockPapersModel" ({ cls := "BlockPapersModel", name := "thrown", desc := "()I" } : Jvm.MethodName) ({ cls := "BlockPapersModel", name := "thrown", desc := "()I" } : Jvm.MethodName)) ∈ lw_all := lw_g (lw_at lw_m10 84 rfl) rfl
theorem q2319 : (Jvm.Cond.code ({ cls := "BlockPapersModel", name := "thrown", desc := "()I" } : Jvm.MethodName) prog_19_method_2_code (1 : Nat) (Option.some Jvm.ClassFile.FieldType.int)) ∈ lw_all := lw_g (lw_at lw_m10 85 rfl) rfl
theorem q2321 : (Jvm.Cond.instanceMethod ({ cls := "BlockPapersModel", name := "block", desc := "(IZ)I" } : Jvm.MethodName)) ∈ lw_all := lw_g (lw_at lw_m10 87 rfl) rfl
theorem q2322 : (Jvm.Cond.selects "BlockPapersModel" ({ cls := "BlockPapersModel", name := "block", desc := "(IZ)I" } : Jvm.MethodName) ({ cls := "BlockPapersModel", name := "block", desc := "(IZ)I" } : Jvm.MethodName)) ∈ lw_all := lw_g (lw_at lw_m10 88 rfl) rfl
theorem q2323 : (Jvm.Cond.code ({ cls := "BlockPapersModel", name := "block", desc := "(IZ)I" } : Jvm.MethodName) prog_19_method_39_code (3 : Nat) (Option.some Jvm.ClassFile.FieldType.int)) ∈ lw_all := lw_g (lw_at lw_m10 89 rfl) rfl
theorem q2324 : (Jvm.Cond.methodLink "BlockPapersModel" (125 : Nat) ({ cls := "BlockPapersModel", name := "remembers", desc := "()V" } : Jvm.MethodName)) ∈ lw_all := lw_g (lw_at lw_m10 90 rfl) rfl
theorem q2325 : (Jvm.Cond.privateMethod ({ cls := "BlockPapersModel", name := "remembers", desc := "()V" } : Jvm.MethodName)) ∈ lw_tbl := lw_at lw_m10 91 rfl
theorem q2326 : (Jvm.Cond.instanceMethod ({ cls := "BlockPapersModel", name := "remembers", desc := "()V" } : Jvm.MethodName)) ∈ lw_all := lw_g (lw_at lw_m10 92 rfl) rfl
theorem q2327 : (Jvm.Cond.code ({ cls := "BlockPapersModel", name := "remembers", desc := "()V" } : Jvm.MethodName) prog_19_method_5_code (2 : Nat) (Option.none : Option Jvm.ClassFile.FieldType)) ∈ lw_all := lw_g (lw_at lw_m10 93 rfl) rfl
theorem q2328 : (Jvm.Cond.methodLink "BlockPapersModel" (66 : Nat) ({ cls := "BlockPapersModel", name := "in", desc := "(III)Z" } : Jvm.MethodName)) ∈ lw_all := lw_g (lw_at lw_m10 94 rfl) rfl
theorem q2329 : (Jvm.Cond.static ({ cls := "BlockPapersModel", name := "in", desc := "(III)Z" } : Jvm.MethodName)) ∈ lw_all := lw_g (lw_at lw_m10 95 rfl) rfl
theorem q2330 : (Jvm.Cond.code ({ cls := "BlockPapersModel", name := "in", desc := "(III)Z" } : Jvm.MethodName) prog_19_method_4_code (3 : Nat) (Option.some Jvm.ClassFile.FieldType.boolean)) ∈ lw_all := lw_g (lw_at lw_m10 96 rfl) rfl
theorem q2331 : (Jvm.Cond.methodLink "BlockPapersModel" (128 : Nat) ({ cls := "BlockPapersModel", name := "blocks", desc := "(IZ)I" } : Jvm.MethodName)) ∈ lw_all := lw_g (lw_at lw_m10 97 rfl) rfl
theorem q2332 : (Jvm.Cond.privateMethod ({ cls := "BlockPapersModel", name := "blocks", desc := "(IZ)I" } : Jvm.MethodName)) ∈ lw_tbl := lw_at lw_m10 98 rfl
theorem q2333 : (Jvm.Cond.instanceMethod ({ cls := "BlockPapersModel", name := "blocks", desc := "(IZ)I" } : Jvm.MethodName)) ∈ lw_all := lw_g (lw_at lw_m10 99 rfl) rfl
theorem q2334 : (Jvm.Cond.code ({ cls := "BlockPapersModel", name := "blocks", desc := "(IZ)I" } : Jvm.MethodName) prog_19_method_31_code (4 : Nat) (Option.some Jvm.ClassFile.FieldType.int)) ∈ lw_all := lw_g (lw_at lw_m10 100 rfl) rfl
theorem q2335 : (Jvm.Cond.methodLink "BlockPapersModel" (95 : Nat) ({ cls := "BlockPapersModel", name := "refused", desc := "(II)I" } : Jvm.MethodName)) ∈ lw_all := lw_g (lw_at lw_m10 101 rfl) rfl
theorem q2336 : (Jvm.Cond.privateMethod ({ cls := "BlockPapersModel", name := "refused", desc := "(II)I" } : Jvm.MethodName)) ∈ lw_tbl := lw_at lw_m10 102 rfl
theorem q2337 : (Jvm.Cond.instanceMethod ({ cls := "BlockPapersModel", name := "refused", desc := "(II)I" } : Jvm.MethodName)) ∈ lw_all := lw_g (lw_at lw_m10 103 rfl) rfl
theorem q2338 : (Jvm.Cond.code ({ cls := "BlockPapersModel", name := "refused", desc := "(II)I" } : Jvm.MethodName) prog_19_method_7_code (3 : Nat) (Option.some Jvm.ClassFile.FieldType.int)) ∈ lw_all := lw_g (lw_at lw_m10 104 rfl) rfl
theorem q2339 : (Jvm.Cond.methodLink "BlockPapersModel" (113 : Nat) ({ cls := "BlockPapersModel", name := "done", desc := "(I)I" } : Jvm.MethodName)) ∈ lw_all := lw_g (lw_at lw_m10 105 rfl) rfl
theorem q2340 : (Jvm.Cond.privateMethod ({ cls := "BlockPapersModel", name := "done", desc := "(I)I" } : Jvm.MethodName)) ∈ lw_tbl := lw_at lw_m10 106 rfl
theorem q2341 : (Jvm.Cond.instanceMethod ({ cls := "BlockPapersModel", name := "done", desc := "(I)I" } : Jvm.MethodName)) ∈ lw_all := lw_g (lw_at lw_m10 107 rfl) rfl
theorem q2342 : (Jvm.Cond.code ({ cls := "BlockPapersModel", name := "done", desc := "(I)I" } : Jvm.MethodName) prog_19_method_8_code (2 : Nat) (Option.some Jvm.ClassFile.FieldType.int)) ∈ lw_all := lw_g (lw_at lw_m10 108 rfl) rfl
theorem q2343 : (Jvm.Cond.methodLink "BlockPapersModel" (132 : Nat) ({ cls := "BlockPapersModel", name := "ends", desc := "(II)I" } : Jvm.MethodName)) ∈ lw_all := lw_g (lw_at lw_m10 109 rfl) rfl
theorem q2344 : (Jvm.Cond.privateMethod ({ cls := "BlockPapersModel", name := "ends", desc := "(II)I" } : Jvm.MethodName)) ∈ lw_tbl := lw_at lw_m10 110 rfl
theorem q2345 : (Jvm.Cond.instanceMethod ({ cls := "BlockPapersModel", name := "ends", desc := "(II)I" } : Jvm.MethodName)) ∈ lw_all := lw_g (lw_at lw_m10 111 rfl) rfl
theorem q2346 : (Jvm.Cond.code ({ cls := "BlockPapersModel", name := "ends", desc := "(II)I" } : Jvm.MethodName) prog_19_method_9_code (3 : Nat) (Option.some Jvm.ClassFile.FieldType.int)) ∈ lw_all := lw_g (lw_at lw_m10 112 rfl) rfl
theorem q2347 : (Jvm.Cond.methodLink "BlockPapersModel" (50 : Nat) ({ cls := "BlockPapersModel", name := "changed", desc := "(I)I" } : Jvm.MethodName)) ∈ lw_all := lw_g (lw_at lw_m10 113 rfl) rfl
theorem q2348 : (Jvm.Cond.privateMethod ({ cls := "BlockPapersModel", name := "changed", desc := "(I)I" } : Jvm.MethodName)) ∈ lw_tbl := lw_at lw_m10 114 rfl
theorem q2349 : (Jvm.Cond.instanceMethod ({ cls := "BlockPapersModel", name := "changed", desc := "(I)I" } : Jvm.MethodName)) ∈ lw_all := lw_g (lw_at lw_m10 115 rfl) rfl
theorem q2350 : (Jvm.Cond.code ({ cls := "BlockPapersModel", name := "changed", desc := "(I)I" } : Jvm.MethodName) prog_19_method_6_code (3 : Nat) (Option.some Jvm.ClassFile.FieldType.int)) ∈ lw_all := lw_g (lw_at lw_m10 116 rfl) rfl
theorem q2351 : (Jvm.Cond.methodLink "BlockPapersModel" (63 : Nat) ({ cls := "BlockPapersModel", name := "fails", desc := "(I)I" } : Jvm.MethodName)) ∈ lw_all := lw_g (lw_at lw_m10 117 rfl) rfl
theorem q2352 : (Jvm.Cond.privateMethod ({ cls := "BlockPapersModel", name := "fails", desc := "(I)I" } : Jvm.MethodName)) ∈ lw_tbl := lw_at lw_m10 118 rfl
theorem q2353 : (Jvm.Cond.instanceMethod ({ cls := "BlockPapersModel", name := "fails", desc := "(I)I" } : Jvm.MethodName)) ∈ lw_all := lw_g (lw_at lw_m10 119 rfl) rfl
theorem q2354 : (Jvm.Cond.code ({ cls := "BlockPapersModel", name := "fails", desc := "(I)I" } : Jvm.MethodName) prog_19_method_3_code (2 : Nat) (Option.some Jvm.ClassFile.FieldType.int)) ∈ lw_all := lw_g (lw_at lw_m10 120 rfl) rfl
theorem q2356 : (Jvm.Cond.instanceMethod ({ cls := "BlockPapersModel", name := "blockOf", desc := "(II)I" } : Jvm.MethodName)) ∈ lw_all := lw_g (lw_at lw_m10 122 rfl) rfl
theorem q2357 : (Jvm.Cond.selects "BlockPapersModel" ({ cls := "BlockPapersModel", name := "blockOf", desc := "(II)I" } : Jvm.MethodName) ({ cls := "BlockPapersModel", name := "blockOf", desc := "(II)I" } : Jvm.MethodName)) ∈ lw_all := lw_g (lw_at lw_m10 123 rfl) rfl
theorem q2358 : (Jvm.Cond.code ({ cls := "BlockPapersModel", name := "blockOf", desc := "(II)I" } : Jvm.MethodName) prog_19_method_40_code (3 : Nat) (Option.some Jvm.ClassFile.FieldType.int)) ∈ lw_all := lw_g (lw_at lw_m10 124 rfl) rfl
theorem q2359 : (Jvm.Cond.methodLink "BlockPapersModel" (135 : Nat) ({ cls := "BlockPapersModel", name := "isBlock", desc := "(I)Z" } : Jvm.MethodName)) ∈ lw_all := lw_g (lw_at lw_m10 125 rfl) rfl
theorem q2360 : (Jvm.Cond.privateMethod ({ cls := "BlockPapersModel", name := "isBlock", desc := "(I)Z" } : Jvm.MethodName)) ∈ lw_tbl := lw_at lw_m10 126 rfl
theorem q2361 : (Jvm.Cond.instanceMethod ({ cls := "BlockPapersModel", name := "isBlock", desc := "(I)Z" } : Jvm.MethodName)) ∈ lw_all := lw_g (lw_at lw_m10 127 rfl) rfl
theorem q2362 : (Jvm.Cond.code ({ cls := "BlockPapersModel", name := "isBlock", desc := "(I)Z" } : Jvm.MethodName) prog_19_method_10_code (2 : Nat) (Option.some Jvm.ClassFile.FieldType.boolean)) ∈ lw_all := lw_g (lw_at lw_m10 128 rfl) rfl
theorem q2363 : (Jvm.Cond.methodLink "BlockPapersModel" (89 : Nat) ({ cls := "BlockPapersModel", name := "blockRow", desc := "(II)I" } : Jvm.MethodName)) ∈ lw_all := lw_g (lw_at lw_m10 129 rfl) rfl
theorem q2364 : (Jvm.Cond.privateMethod ({ cls := "BlockPapersModel", name := "blockRow", desc := "(II)I" } : Jvm.MethodName)) ∈ lw_tbl := lw_at lw_m10 130 rfl
theorem q2365 : (Jvm.Cond.instanceMethod ({ cls := "BlockPapersModel", name := "blockRow", desc := "(II)I" } : Jvm.MethodName)) ∈ lw_all := lw_g (lw_at lw_m10 131 rfl) rfl
theorem q2366 : (Jvm.Cond.code ({ cls := "BlockPapersModel", name := "blockRow", desc := "(II)I" } : Jvm.MethodName) prog_19_method_14_code (3 : Nat) (Option.some Jvm.ClassFile.FieldType.int)) ∈ lw_all := lw_g (lw_at lw_m10 132 rfl) rfl
theorem q2368 : (Jvm.Cond.instanceMethod ({ cls := "BlockPapersModel", name := "carve", desc := "(I)I" } : Jvm.MethodName)) ∈ lw_all := lw_g (lw_at lw_m10 134 rfl) rfl
theorem q2369 : (Jvm.Cond.selects "BlockPapersModel" ({ cls := "BlockPapersModel", name := "carve", desc := "(I)I" } : Jvm.MethodName) ({ cls := "BlockPapersModel", name := "carve", desc := "(I)I" } : Jvm.MethodName)) ∈ lw_all := lw_g (lw_at lw_m10 135 rfl) rfl
theorem q2370 : (Jvm.Cond.code ({ cls := "BlockPapersModel", name := "carve", desc := "(I)I" } : Jvm.MethodName) prog_19_method_41_code (2 : Nat) (Option.some Jvm.ClassFile.FieldType.int)) ∈ lw_all := lw_g (lw_at lw_m10 136 rfl) rfl
theorem q2371 : (Jvm.Cond.methodLink "BlockPapersModel" (139 : Nat) ({ cls := "BlockPapersModel", name := "carves", desc := "(I)I" } : Jvm.MethodName)) ∈ lw_all := lw_g (lw_at lw_m10 137 rfl) rfl
theorem q2372 : (Jvm.Cond.privateMethod ({ cls := "BlockPapersModel", name := "carves", desc := "(I)I" } : Jvm.MethodName)) ∈ lw_tbl := lw_at lw_m10 138 rfl
theorem q2373 : (Jvm.Cond.instanceMethod ({ cls := "BlockPapersModel", name := "carves", desc := "(I)I" } : Jvm.MethodName)) ∈ lw_all := lw_g (lw_at lw_m10 139 rfl) rfl
theorem q2374 : (Jvm.Cond.code ({ cls := "BlockPapersModel", name := "carves", desc := "(I)I" } : Jvm.MethodName) prog_19_method_34_code (3 : Nat) (Option.some Jvm.ClassFile.FieldType.int)) ∈ lw_all := lw_g (lw_at lw_m10 140 rfl) rfl
theorem q2376 : (Jvm.Cond.instanceMethod ({ cls := "BlockPapersModel", name := "ink", desc := "(III)I" } : Jvm.MethodName)) ∈ lw_all := lw_g (lw_at lw_m10 142 rfl) rfl
theorem q2377 : (Jvm.Cond.selects "BlockPapersModel" ({ cls := "BlockPapersModel", name := "ink", desc := "(III)I" } : Jvm.MethodName) ({ cls := "BlockPapersModel", name := "ink", desc := "(III)I" } : Jvm.MethodName)) ∈ lw_all := lw_g (lw_at lw_m10 143 rfl) rfl
theorem q2378 : (Jvm.Cond.code ({ cls := "BlockPapersModel", name := "ink", desc := "(III)I" } : Jvm.MethodName) prog_19_method_42_code (4 : Nat) (Option.some Jvm.ClassFile.FieldType.int)) ∈ lw_all := lw_g (lw_at lw_m10 144 rfl) rfl
theorem q2379 : (Jvm.Cond.methodLink "BlockPapersModel" (142 : Nat) ({ cls := "BlockPapersModel", name := "inks", desc := "(III)I" } : Jvm.MethodName)) ∈ lw_all := lw_g (lw_at lw_m10 145 rfl) rfl
theorem q2380 : (Jvm.Cond.privateMethod ({ cls := "BlockPapersModel", name := "inks", desc := "(III)I" } : Jvm.MethodName)) ∈ lw_tbl := lw_at lw_m10 146 rfl
theorem q2381 : (Jvm.Cond.instanceMethod ({ cls := "BlockPapersModel", name := "inks", desc := "(III)I" } : Jvm.MethodName)) ∈ lw_all := lw_g (lw_at lw_m10 147 rfl) rfl
theorem q2382 : (Jvm.Cond.code ({ cls := "BlockPapersModel", name := "inks", desc := "(III)I" } : Jvm.MethodName) prog_19_method_32_code (5 : Nat) (Option.some Jvm.ClassFile.FieldType.int)) ∈ lw_all := lw_g (lw_at lw_m10 148 rfl) rfl
theorem q2384 : (Jvm.Cond.instanceMethod ({ cls := "BlockPapersModel", name := "inkOf", desc := "(II)I" } : Jvm.MethodName)) ∈ lw_all := lw_g (lw_at lw_m10 150 rfl) rfl
theorem q2385 : (Jvm.Cond.selects "BlockPapersModel" ({ cls := "BlockPapersModel", name := "inkOf", desc := "(II)I" } : Jvm.MethodName) ({ cls := "BlockPapersModel", name := "inkOf", desc := "(II)I" } : Jvm.MethodName)) ∈ lw_all := lw_g (lw_at lw_m10 151 rfl) rfl
theorem q2386 : (Jvm.Cond.code ({ cls := "BlockPapersModel", name := "inkOf", desc := "(II)I" } : Jvm.MethodName) prog_19_method_43_code (3 : Nat) (Option.some Jvm.ClassFile.FieldType.int)) ∈ lw_all := lw_g (lw_at lw_m10 152 rfl) rfl
theorem q2387 : (Jvm.Cond.methodLink "BlockPapersModel" (146 : Nat) ({ cls := "BlockPapersModel", name := "isInk", desc := "(I)Z" } : Jvm.MethodName)) ∈ lw_all := lw_g (lw_at lw_m10 153 rfl) rfl
theorem q2388 : (Jvm.Cond.privateMethod ({ cls := "BlockPapersModel", name := "isInk", desc := "(I)Z" } : Jvm.MethodName)) ∈ lw_tbl := lw_at lw_m10 154 rfl
theorem q2389 : (Jvm.Cond.instanceMethod ({ cls := "BlockPapersModel", name := "isInk", desc := "(I)Z" } : Jvm.MethodName)) ∈ lw_all := lw_g (lw_at lw_m10 155 rfl) rfl
theorem q2390 : (Jvm.Cond.code ({ cls := "BlockPapersModel", name := "isInk", desc := "(I)Z" } : Jvm.MethodName) prog_19_method_11_code (2 : Nat) (Option.some Jvm.ClassFile.FieldType.boolean)) ∈ lw_all := lw_g (lw_at lw_m10 156 rfl) rfl
theorem q2391 : (Jvm.Cond.methodLink "BlockPapersModel" (74 : Nat) ({ cls := "BlockPapersModel", name := "inkRow", desc := "(II)I" } : Jvm.MethodName)) ∈ lw_all := lw_g (lw_at lw_m10 157 rfl) rfl
theorem q2392 : (Jvm.Cond.privateMethod ({ cls := "BlockPapersModel", name := "inkRow", desc := "(II)I" } : Jvm.MethodName)) ∈ lw_tbl := lw_at lw_m10 158 rfl
theorem q2393 : (Jvm.Cond.instanceMethod ({ cls := "BlockPapersModel", name := "inkRow", desc := "(II)I" } : Jvm.MethodName)) ∈ lw_all := lw_g (lw_at lw_m10 159 rfl) rfl
theorem q2394 : (Jvm.Cond.code ({ cls := "BlockPapersModel", name := "inkRow", desc := "(II)I" } : Jvm.MethodName) prog_19_method_15_code (3 : Nat) (Option.some Jvm.ClassFile.FieldType.int)) ∈ lw_all := lw_g (lw_at lw_m10 160 rfl) rfl
theorem q2396 : (Jvm.Cond.instanceMethod ({ cls := "BlockPapersModel", name := "mix", desc := "(III)I" } : Jvm.MethodName)) ∈ lw_all := lw_g (lw_at lw_m10 162 rfl) rfl
theorem q2397 : (Jvm.Cond.selects "BlockPapersModel" ({ cls := "BlockPapersModel", name := "mix", desc := "(III)I" } : Jvm.MethodName) ({ cls := "BlockPapersModel", name := "mix", desc := "(III)I" } : Jvm.MethodName)) ∈ lw_all := lw_g (lw_at lw_m10 163 rfl) rfl
theorem q2398 : (Jvm.Cond.code ({ cls := "BlockPapersModel", name := "mix", desc := "(III)I" } : Jvm.MethodName) prog_19_method_44_code (4 : Nat) (Option.some Jvm.ClassFile.FieldType.int)) ∈ lw_all := lw_g (lw_at lw_m10 164 rfl) rfl
theorem q2399 : (Jvm.Cond.methodLink "BlockPapersModel" (149 : Nat) ({ cls := "BlockPapersModel", name := "mixes", desc := "(III)I" } : Jvm.MethodName)) ∈ lw_all := lw_g (lw_at lw_m10 165 rfl) rfl
theorem q2400 : (Jvm.Cond.privateMethod ({ cls := "BlockPapersModel", name := "mixes", desc := "(III)I" } : Jvm.MethodName)) ∈ lw_tbl := lw_at lw_m10 166 rfl
theorem q2401 : (Jvm.Cond.instanceMethod ({ cls := "BlockPapersModel", name := "mixes", desc := "(III)I" } : Jvm.MethodName)) ∈ lw_all := lw_g (lw_at lw_m10 167 rfl) rfl
theorem q2402 : (Jvm.Cond.code ({ cls := "BlockPapersModel", name := "mixes", desc := "(III)I" } : Jvm.MethodName) prog_19_method_35_code (5 : Nat) (Option.some Jvm.ClassFile.FieldType.int)) ∈ lw_all := lw_g (lw_at lw_m10 168 rfl) rfl
theorem q2404 : (Jvm.Cond.instanceMethod ({ cls := "BlockPapersModel", name := "print", desc := "(III)I" } : Jvm.MethodName)) ∈ lw_all := lw_g (lw_at lw_m10 170 rfl) rfl
theorem q2405 : (Jvm.Cond.selects "BlockPapersModel" ({ cls := "BlockPapersModel", name := "print", desc := "(III)I" } : Jvm.MethodName) ({ cls := "BlockPapersModel", name := "print", desc := "(III)I" } : Jvm.MethodName)) ∈ lw_all := lw_g (lw_at lw_m10 171 rfl) rfl
theorem q2406 : (Jvm.Cond.code ({ cls := "BlockPapersModel", name := "print", desc := "(III)I" } : Jvm.MethodName) prog_19_method_45_code (4 : Nat) (Option.some Jvm.ClassFile.FieldType.int)) ∈ lw_all := lw_g (lw_at lw_m10 172 rfl) rfl
theorem q2407 : (Jvm.Cond.methodLink "BlockPapersModel" (152 : Nat) ({ cls := "BlockPapersModel", name := "prints", desc := "(III)I" } : Jvm.MethodName)) ∈ lw_all := lw_g (lw_at lw_m10 173 rfl) rfl
theorem q2408 : (Jvm.Cond.privateMethod ({ cls := "BlockPapersModel", name := "prints", desc := "(III)I" } : Jvm.MethodName)) ∈ lw_tbl := lw_at lw_m10 174 rfl
theorem q2409 : (Jvm.Cond.instanceMethod ({ cls := "BlockPapersModel", name := "prints", desc := "(III)I" } : Jvm.MethodName)) ∈ lw_all := lw_g (lw_at lw_m10 175 rfl) rfl
theorem q2410 : (Jvm.Cond.code ({ cls := "BlockPapersModel", name := "prints", desc := "(III)I" } : Jvm.MethodName) prog_19_method_36_code (7 : Nat) (Option.some Jvm.ClassFile.FieldType.int)) ∈ lw_all := lw_g (lw_at lw_m10 176 rfl) rfl
theorem q2412 : (Jvm.Cond.instanceMethod ({ cls := "BlockPapersModel", name := "rollOf", desc := "(II)I" } : Jvm.MethodName)) ∈ lw_all := lw_g (lw_at lw_m10 178 rfl) rfl
theorem q2413 : (Jvm.Cond.selects "BlockPapersModel" ({ cls := "BlockPapersModel", name := "rollOf", desc := "(II)I" } : Jvm.MethodName) ({ cls := "BlockPapersModel", name := "rollOf", desc := "(II)I" } : Jvm.MethodName)) ∈ lw_all := lw_g (lw_at lw_m10 179 rfl) rfl
theorem q2414 : (Jvm.Cond.code ({ cls := "BlockPapersModel", name := "rollOf", desc := "(II)I" } : Jvm.MethodName) prog_19_method_47_code (3 : Nat) (Option.some Jvm.ClassFile.FieldType.int)) ∈ lw_all := lw_g (lw_at lw_m10 180 rfl) rfl
theorem q2415 : (Jvm.Cond.methodLink "BlockPapersModel" (155 : Nat) ({ cls := "BlockPapersModel", name := "isRoll", desc := "(I)Z" } : Jvm.MethodName)) ∈ lw_all := lw_g (lw_at lw_m10 181 rfl) rfl
theorem q2416 : (Jvm.Cond.privateMethod ({ cls := "BlockPapersModel", name := "isRoll", desc := "(I)Z" } : Jvm.MethodName)) ∈ lw_tbl := lw_at lw_m10 182 rfl
theorem q2417 : (Jvm.Cond.instanceMethod ({ cls := "BlockPapersModel", name := "isRoll", desc := "(I)Z" } : Jvm.MethodName)) ∈ lw_all := lw_g (lw_at lw_m10 183 rfl) rfl
theorem q2418 : (Jvm.Cond.code ({ cls := "BlockPapersModel", name := "isRoll", desc := "(I)Z" } : Jvm.MethodName) prog_19_method_12_code (2 : Nat) (Option.some Jvm.ClassFile.FieldType.boolean)) ∈ lw_all := lw_g (lw_at lw_m10 184 rfl) rfl
theorem q2419 : (Jvm.Cond.methodLink "BlockPapersModel" (70 : Nat) ({ cls := "BlockPapersModel", name := "rollRow", desc := "(II)I" } : Jvm.MethodName)) ∈ lw_all := lw_g (lw_at lw_m10 185 rfl) rfl
theorem q2420 : (Jvm.Cond.privateMethod ({ cls := "BlockPapersModel", name := "rollRow", desc := "(II)I" } : Jvm.MethodName)) ∈ lw_tbl := lw_at lw_m10 186 rfl
theorem q2421 : (Jvm.Cond.instanceMethod ({ cls := "BlockPapersModel", name := "rollRow", desc := "(II)I" } : Jvm.MethodName)) ∈ lw_all := lw_g (lw_at lw_m10 187 rfl) rfl
theorem q2422 : (Jvm.Cond.code ({ cls := "BlockPapersModel", name := "rollRow", desc := "(II)I" } : Jvm.MethodName) prog_19_method_16_code (3 : Nat) (Option.some Jvm.ClassFile.FieldType.int)) ∈ lw_all := lw_g (lw_at lw_m10 188 rfl) rfl
theorem q2423 : (Jvm.Cond.methodLink "BlockPapersModel" (98 : Nat) ({ cls := "BlockPapersModel", name := "colourOf", desc := "(I)I" } : Jvm.MethodName)) ∈ lw_all := lw_g (lw_at lw_m10 189 rfl) rfl
theorem q2424 : (Jvm.Cond.privateMethod ({ cls := "BlockPapersModel", name := "colourOf", desc := "(I)I" } : Jvm.MethodName)) ∈ lw_tbl := lw_at lw_m10 190 rfl
theorem q2425 : (Jvm.Cond.instanceMethod ({ cls := "BlockPapersModel", name := "colourOf", desc := "(I)I" } : Jvm.MethodName)) ∈ lw_all := lw_g (lw_at lw_m10 191 rfl) rfl
theorem q2426 : (Jvm.Cond.code ({ cls := "BlockPapersModel", name := "colourOf", desc := "(I)I" } : Jvm.MethodName) prog_19_method_19_code (2 : Nat) (Option.some Jvm.ClassFile.FieldType.int)) ∈ lw_all := lw_g (lw_at lw_m10 192 rfl) rfl
theorem q2427 : (Jvm.Cond.methodLink "BlockPapersModel" (107 : Nat) ({ cls := "BlockPapersModel", name := "leftOf", desc := "(I)I" } : Jvm.MethodName)) ∈ lw_all := lw_g (lw_at lw_m10 193 rfl) rfl
theorem q2428 : (Jvm.Cond.privateMethod ({ cls := "BlockPapersModel", name := "leftOf", desc := "(I)I" } : Jvm.MethodName)) ∈ lw_tbl := lw_at lw_m10 194 rfl
theorem q2429 : (Jvm.Cond.instanceMethod ({ cls := "BlockPapersModel", name := "leftOf", desc := "(I)I" } : Jvm.MethodName)) ∈ lw_all := lw_g (lw_at lw_m10 195 rfl) rfl
theorem q2430 : (Jvm.Cond.code ({ cls := "BlockPapersModel", name := "leftOf", desc := "(I)I" } : Jvm.MethodName) prog_19_method_20_code (2 : Nat) (Option.some Jvm.ClassFile.FieldType.int)) ∈ lw_all := lw_g (lw_at lw_m10 196 rfl) rfl
theorem q2431 : (Jvm.Cond.methodLink "BlockPapersModel" (158 : Nat) ({ cls := "BlockPapersModel", name := "hangingOf", desc := "(I)I" } : Jvm.MethodName)) ∈ lw_all := lw_g (lw_at lw_m10 197 rfl) rfl
theorem q2432 : (Jvm.Cond.privateMethod ({ cls := "BlockPapersModel", name := "hangingOf", desc := "(I)I" } : Jvm.MethodName)) ∈ lw_tbl := lw_at lw_m10 198 rfl
theorem q2433 : (Jvm.Cond.instanceMethod ({ cls := "BlockPapersModel", name := "hangingOf", desc := "(I)I" } : Jvm.MethodName)) ∈ lw_all := lw_g (lw_at lw_m10 199 rfl) rfl
theorem q2434 : (Jvm.Cond.code ({ cls := "BlockPapersModel", name := "hangingOf", desc := "(I)I" } : Jvm.MethodName) prog_19_method_46_code (5 : Nat) (Option.some Jvm.ClassFile.FieldType.int)) ∈ lw_all := lw_g (lw_at lw_m10 200 rfl) rfl
theorem q2435 : (Jvm.Cond.methodLink "BlockPapersModel" (80 : Nat) ({ cls := "BlockPapersModel", name := "roomRow", desc := "(II)I" } : Jvm.MethodName)) ∈ lw_all := lw_g (lw_at lw_m10 201 rfl) rfl
theorem q2436 : (Jvm.Cond.privateMethod ({ cls := "BlockPapersModel", name := "roomRow", desc := "(II)I" } : Jvm.MethodName)) ∈ lw_tbl := lw_at lw_m10 202 rfl
theorem q2437 : (Jvm.Cond.instanceMethod ({ cls := "BlockPapersModel", name := "roomRow", desc := "(II)I" } : Jvm.MethodName)) ∈ lw_all := lw_g (lw_at lw_m10 203 rfl) rfl
theorem q2438 : (Jvm.Cond.code ({ cls := "BlockPapersModel", name := "roomRow", desc := "(II)I" } : Jvm.MethodName) prog_19_method_17_code (3 : Nat) (Option.some Jvm.ClassFile.FieldType.int)) ∈ lw_all := lw_g (lw_at lw_m10 204 rfl) rfl
theorem q2439 : (Jvm.Cond.methodLink "BlockPapersModel" (77 : Nat) ({ cls := "BlockPapersModel", name := "dropAt", desc := "(II)I" } : Jvm.MethodName)) ∈ lw_all := lw_g (lw_at lw_m10 205 rfl) rfl
theorem q2440 : (Jvm.Cond.static ({ cls := "BlockPapersModel", name := "dropAt", desc := "(II)I" } : Jvm.MethodName)) ∈ lw_all := lw_g (lw_at lw_m10 206 rfl) rfl
theorem q2441 : (Jvm.Cond.code ({ cls := "BlockPapersModel", name := "dropAt", desc := "(II)I" } : Jvm.MethodName) prog_19_method_18_code (2 : Nat) (Option.some Jvm.ClassFile.FieldType.int)) ∈ lw_all := lw_g (lw_at lw_m10 207 rfl) rfl
theorem q2443 : (Jvm.Cond.instanceMethod ({ cls := "BlockPapersModel", name := "giveBack", desc := "(I)I" } : Jvm.MethodName)) ∈ lw_all := lw_g (lw_at lw_m10 209 rfl) rfl
theorem q2444 : (Jvm.Cond.selects "BlockPapersModel" ({ cls := "BlockPapersModel", name := "giveBack", desc := "(I)I" } : Jvm.MethodName) ({ cls := "BlockPapersModel", name := "giveBack", desc := "(I)I" } : Jvm.MethodName)) ∈ lw_all := lw_g (lw_at lw_m10 210 rfl) rfl
theorem q2445 : (Jvm.Cond.code ({ cls := "BlockPapersModel", name := "giveBack", desc := "(I)I" } : Jvm.MethodName) prog_19_method_48_code (2 : Nat) (Option.some Jvm.ClassFile.FieldType.int)) ∈ lw_all := lw_g (lw_at lw_m10 211 rfl) rfl
theorem q2446 : (Jvm.Cond.methodLink "BlockPapersModel" (161 : Nat) ({ cls := "BlockPapersModel", name := "givesBack", desc := "(I)I" } : Jvm.MethodName)) ∈ lw_all := lw_g (lw_at lw_m10 212 rfl) rfl
theorem q2447 : (Jvm.Cond.privateMethod ({ cls := "BlockPapersModel", name := "givesBack", desc := "(I)I" } : Jvm.MethodName)) ∈ lw_tbl := lw_at lw_m10 213 rfl
theorem q2448 : (Jvm.Cond.instanceMethod ({ cls := "BlockPapersModel", name := "givesBack", desc := "(I)I" } : Jvm.MethodName)) ∈ lw_all := lw_g (lw_at lw_m10 214 rfl) rfl
theorem q2449 : (Jvm.Cond.code ({ cls := "BlockPapersModel", name := "givesBack", desc := "(I)I" } : Jvm.MethodName) prog_19_method_38_code (3 : Nat) (Option.some Jvm.ClassFile.FieldType.int)) ∈ lw_all := lw_g (lw_at lw_m10 215 rfl) rfl
theorem q2450 : (Jvm.Cond.methodLink "BlockPapersModel" (122 : Nat) ({ cls := "BlockPapersModel", name := "latestOf", desc := "(I)I" } : Jvm.MethodName)) ∈ lw_all := lw_g (lw_at lw_m10 216 rfl) rfl
theorem q2451 : (Jvm.Cond.privateMethod ({ cls := "BlockPapersModel", name := "latestOf", desc := "(I)I" } : Jvm.MethodName)) ∈ lw_tbl := lw_at lw_m10 217 rfl
theorem q2452 : (Jvm.Cond.instanceMethod ({ cls := "BlockPapersModel", name := "latestOf", desc := "(I)I" } : Jvm.MethodName)) ∈ lw_all := lw_g (lw_at lw_m10 218 rfl) rfl
theorem q2453 : (Jvm.Cond.code ({ cls := "BlockPapersModel", name := "latestOf", desc := "(I)I" } : Jvm.MethodName) prog_19_method_37_code (4 : Nat) (Option.some Jvm.ClassFile.FieldType.int)) ∈ lw_all := lw_g (lw_at lw_m10 219 rfl) rfl
theorem q2454 : (Jvm.Cond.methodLink "BlockPapersModel" (101 : Nat) ({ cls := "BlockPapersModel", name := "apart", desc := "(II)I" } : Jvm.MethodName)) ∈ lw_all := lw_g (lw_at lw_m10 220 rfl) rfl
theorem q2455 : (Jvm.Cond.privateMethod ({ cls := "BlockPapersModel", name := "apart", desc := "(II)I" } : Jvm.MethodName)) ∈ lw_tbl := lw_at lw_m10 221 rfl
theorem q2456 : (Jvm.Cond.instanceMethod ({ cls := "BlockPapersModel", name := "apart", desc := "(II)I" } : Jvm.MethodName)) ∈ lw_all := lw_g (lw_at lw_m10 222 rfl) rfl
theorem q2457 : (Jvm.Cond.code ({ cls := "BlockPapersModel", name := "apart", desc := "(II)I" } : Jvm.MethodName) prog_19_method_21_code (3 : Nat) (Option.some Jvm.ClassFile.FieldType.int)) ∈ lw_all := lw_g (lw_at lw_m10 223 rfl) rfl
theorem q2459 : (Jvm.Cond.instanceMethod ({ cls := "BlockPapersModel", name := "room", desc := "(II)I" } : Jvm.MethodName)) ∈ lw_all := lw_g (lw_at lw_m10 225 rfl) rfl
theorem q2460 : (Jvm.Cond.selects "BlockPapersModel" ({ cls := "BlockPapersModel", name := "room", desc := "(II)I" } : Jvm.MethodName) ({ cls := "BlockPapersModel", name := "room", desc := "(II)I" } : Jvm.MethodName)) ∈ lw_all := lw_g (lw_at lw_m10 226 rfl) rfl
theorem q2461 : (Jvm.Cond.code ({ cls := "BlockPapersModel", name := "room", desc := "(II)I" } : Jvm.MethodName) prog_19_method_49_code (3 : Nat) (Option.some Jvm.ClassFile.FieldType.int)) ∈ lw_all := lw_g (lw_at lw_m10 227 rfl) rfl
theorem q2462 : (Jvm.Cond.methodLink "BlockPapersModel" (164 : Nat) ({ cls := "BlockPapersModel", name := "rooms", desc := "(II)I" } : Jvm.MethodName)) ∈ lw_all := lw_g (lw_at lw_m10 228 rfl) rfl
theorem q2463 : (Jvm.Cond.privateMethod ({ cls := "BlockPapersModel", name := "rooms", desc := "(II)I" } : Jvm.MethodName)) ∈ lw_tbl := lw_at lw_m10 229 rfl
theorem q2464 : (Jvm.Cond.instanceMethod ({ cls := "BlockPapersModel", name := "rooms", desc := "(II)I" } : Jvm.MethodName)) ∈ lw_all := lw_g (lw_at lw_m10 230 rfl) rfl
theorem q2465 : (Jvm.Cond.code ({ cls := "BlockPapersModel", name := "rooms", desc := "(II)I" } : Jvm.MethodName) prog_19_method_33_code (4 : Nat) (Option.some Jvm.ClassFile.FieldType.int)) ∈ lw_all := lw_g (lw_at lw_m10 231 rfl) rfl
theorem q2467 : (Jvm.Cond.instanceMethod ({ cls := "BlockPapersModel", name := "roomOf", desc := "(II)I" } : Jvm.MethodName)) ∈ lw_all := lw_g (lw_at lw_m10 233 rfl) rfl
theorem q2468 : (Jvm.Cond.selects "BlockPapersModel" ({ cls := "BlockPapersModel", name := "roomOf", desc := "(II)I" } : Jvm.MethodName) ({ cls := "BlockPapersModel", name := "roomOf", desc := "(II)I" } : Jvm.MethodName)) ∈ lw_all := lw_g (lw_at lw_m10 234 rfl) rfl
theorem q2469 : (Jvm.Cond.code ({ cls := "BlockPapersModel", name := "roomOf", desc := "(II)I" } : Jvm.MethodName) prog_19_method_50_code (4 : Nat) (Option.some Jvm.ClassFile.FieldType.int)) ∈ lw_all := lw_g (lw_at lw_m10 235 rfl) rfl
theorem q2470 : (Jvm.Cond.methodLink "BlockPapersModel" (167 : Nat) ({ cls := "BlockPapersModel", name := "isRoom", desc := "(I)Z" } : Jvm.MethodName)) ∈ lw_all := lw_g (lw_at lw_m10 236 rfl) rfl
theorem q2471 : (Jvm.Cond.privateMethod ({ cls := "BlockPapersModel", name := "isRoom", desc := "(I)Z" } : Jvm.MethodName)) ∈ lw_tbl := lw_at lw_m10 237 rfl
theorem q2472 : (Jvm.Cond.instanceMethod ({ cls := "BlockPapersModel", name := "isRoom", desc := "(I)Z" } : Jvm.MethodName)) ∈ lw_all := lw_g (lw_at lw_m10 238 rfl) rfl
theorem q2473 : (Jvm.Cond.code ({ cls := "BlockPapersModel", name := "isRoom", desc := "(I)Z" } : Jvm.MethodName) prog_19_method_13_code (2 : Nat) (Option.some Jvm.ClassFile.FieldType.boolean)) ∈ lw_all := lw_g (lw_at lw_m10 239 rfl) rfl
theorem q2474 : (Jvm.Cond.methodLink "BlockPapersModel" (86 : Nat) ({ cls := "BlockPapersModel", name := "firstRoll", desc := "(I)I" } : Jvm.MethodName)) ∈ lw_all := lw_g (lw_at lw_m11 0 rfl) rfl
theorem q2475 : (Jvm.Cond.privateMethod ({ cls := "BlockPapersModel", name := "firstRoll", desc := "(I)I" } : Jvm.MethodName)) ∈ lw_tbl := lw_at lw_m11 1 rfl
theorem q2476 : (Jvm.Cond.instanceMethod ({ cls := "BlockPapersModel", name := "firstRoll", desc := "(I)I" } : Jvm.MethodName)) ∈ lw_all := lw_g (lw_at lw_m11 2 rfl) rfl
theorem q2477 : (Jvm.Cond.code ({ cls := "BlockPapersModel", name := "firstRoll", desc := "(I)I" } : Jvm.MethodName) prog_19_method_22_code (2 : Nat) (Option.some Jvm.ClassFile.FieldType.int)) ∈ lw_all := lw_g (lw_at lw_m11 3 rfl) rfl
theorem q2478 : (Jvm.Cond.methodLink "BlockPapersModel" (92 : Nat) ({ cls := "BlockPapersModel", name := "target", desc := "(I)I" } : Jvm.MethodName)) ∈ lw_all := lw_g (lw_at lw_m11 4 rfl) rfl
theorem q2479 : (Jvm.Cond.privateMethod ({ cls := "BlockPapersModel", name := "target", desc := "(I)I" } : Jvm.MethodName)) ∈ lw_tbl := lw_at lw_m11 5 rfl
theorem q2480 : (Jvm.Cond.instanceMethod ({ cls := "BlockPapersModel", name := "target", desc := "(I)I" } : Jvm.MethodName)) ∈ lw_all := lw_g (lw_at lw_m11 6 rfl) rfl
theorem q2481 : (Jvm.Cond.code ({ cls := "BlockPapersModel", name := "target", desc := "(I)I" } : Jvm.MethodName) prog_19_method_23_code (3 : Nat) (Option.some Jvm.ClassFile.FieldType.int)) ∈ lw_all := lw_g (lw_at lw_m11 7 rfl) rfl
theorem q2482 : (Jvm.Cond.methodLink "BlockPapersModel" (83 : Nat) ({ cls := "BlockPapersModel", name := "mustBegin", desc := "(II)I" } : Jvm.MethodName)) ∈ lw_all := lw_g (lw_at lw_m11 8 rfl) rfl
theorem q2483 : (Jvm.Cond.privateMethod ({ cls := "BlockPapersModel", name := "mustBegin", desc := "(II)I" } : Jvm.MethodName)) ∈ lw_tbl := lw_at lw_m11 9 rfl
theorem q2484 : (Jvm.Cond.instanceMethod ({ cls := "BlockPapersModel", name := "mustBegin", desc := "(II)I" } : Jvm.MethodName)) ∈ lw_all := lw_g (lw_at lw_m11 10 rfl) rfl
theorem q2485 : (Jvm.Cond.code ({ cls := "BlockPapersModel", name := "mustBegin", desc := "(II)I" } : Jvm.MethodName) prog_19_method_24_code (6 : Nat) (Option.some Jvm.ClassFile.FieldType.int)) ∈ lw_all := lw_g (lw_at lw_m11 11 rfl) rfl
theorem q2487 : (Jvm.Cond.instanceMethod ({ cls := "BlockPapersModel", name := "dropOf", desc := "(III)I" } : Jvm.MethodName)) ∈ lw_all := lw_g (lw_at lw_m11 13 rfl) rfl
theorem q2488 : (Jvm.Cond.selects "BlockPapersModel" ({ cls := "BlockPapersModel", name := "dropOf", desc := "(III)I" } : Jvm.MethodName) ({ cls := "BlockPapersModel", name := "dropOf", desc := "(III)I" } : Jvm.MethodName)) ∈ lw_all := lw_g (lw_at lw_m11 14 rfl) rfl
theorem q2489 : (Jvm.Cond.code ({ cls := "BlockPapersModel", name := "dropOf", desc := "(III)I" } : Jvm.MethodName) prog_19_method_51_code (5 : Nat) (Option.some Jvm.ClassFile.FieldType.int)) ∈ lw_all := lw_g (lw_at lw_m11 15 rfl) rfl
theorem q2491 : (Jvm.Cond.instanceMethod ({ cls := "BlockPapersModel", name := "hang", desc := "(II)I" } : Jvm.MethodName)) ∈ lw_all := lw_g (lw_at lw_m11 17 rfl) rfl
theorem q2492 : (Jvm.Cond.selects "BlockPapersModel" ({ cls := "BlockPapersModel", name := "hang", desc := "(II)I" } : Jvm.MethodName) ({ cls := "BlockPapersModel", name := "hang", desc := "(II)I" } : Jvm.MethodName)) ∈ lw_all := lw_g (lw_at lw_m11 18 rfl) rfl
theorem q2493 : (Jvm.Cond.code ({ cls := "BlockPapersModel", name := "hang", desc := "(II)I" } : Jvm.MethodName) prog_19_method_52_code (3 : Nat) (Option.some Jvm.ClassFile.FieldType.int)) ∈ lw_all := lw_g (lw_at lw_m11 19 rfl) rfl
theorem q2494 : (Jvm.Cond.methodLink "BlockPapersModel" (119 : Nat) ({ cls := "BlockPapersModel", name := "hangs", desc := "(II)I" } : Jvm.MethodName)) ∈ lw_all := lw_g (lw_at lw_m11 20 rfl) rfl
theorem q2495 : (Jvm.Cond.privateMethod ({ cls := "BlockPapersModel", name := "hangs", desc := "(II)I" } : Jvm.MethodName)) ∈ lw_tbl := lw_at lw_m11 21 rfl
theorem q2496 : (Jvm.Cond.instanceMethod ({ cls := "BlockPapersModel", name := "hangs", desc := "(II)I" } : Jvm.MethodName)) ∈ lw_all := lw_g (lw_at lw_m11 22 rfl) rfl
theorem q2497 : (Jvm.Cond.code ({ cls := "BlockPapersModel", name := "hangs", desc := "(II)I" } : Jvm.MethodName) prog_19_method_27_code (6 : Nat) (Option.some Jvm.ClassFile.FieldType.int)) ∈ lw_all := lw_g (lw_at lw_m11 23 rfl) rfl
theorem q2498 : (Jvm.Cond.methodLink "BlockPapersModel" (110 : Nat) ({ cls := "BlockPapersModel", name := "reasonFor", desc := "(II)I" } : Jvm.MethodName)) ∈ lw_all := lw_g (lw_at lw_m11 24 rfl) rfl
theorem q2499 : (Jvm.Cond.privateMethod ({ cls := "BlockPapersModel", name := "reasonFor", desc := "(II)I" } : Jvm.MethodName)) ∈ lw_tbl := lw_at lw_m11 25 rfl
theorem q2500 : (Jvm.Cond.instanceMethod ({ cls := "BlockPapersModel", name := "reasonFor", desc := "(II)I" } : Jvm.MethodName)) ∈ lw_all := lw_g (lw_at lw_m11 26 rfl) rfl
theorem q2501 : (Jvm.Cond.code ({ cls := "BlockPapersModel", name := "reasonFor", desc := "(II)I" } : Jvm.MethodName) prog_19_method_26_code (6 : Nat) (Option.some Jvm.ClassFile.FieldType.int)) ∈ lw_all := lw_g (lw_at lw_m11 27 rfl) rfl
theorem q2502 : (Jvm.Cond.methodLink "BlockPapersModel" (104 : Nat) ({ cls := "BlockPapersModel", name := "wasteFor", desc := "(II)I" } : Jvm.MethodName)) ∈ lw_all := lw_g (lw_at lw_m11 28 rfl) rfl
theorem q2503 : (Jvm.Cond.privateMethod ({ cls := "BlockPapersModel", name := "wasteFor", desc := "(II)I" } : Jvm.MethodName)) ∈ lw_tbl := lw_at lw_m11 29 rfl
theorem q2504 : (Jvm.Cond.instanceMethod ({ cls := "BlockPapersModel", name := "wasteFor", desc := "(II)I" } : Jvm.MethodName)) ∈ lw_all := lw_g (lw_at lw_m11 30 rfl) rfl
theorem q2505 : (Jvm.Cond.code ({ cls := "BlockPapersModel", name := "wasteFor", desc := "(II)I" } : Jvm.MethodName) prog_19_method_25_code (6 : Nat) (Option.some Jvm.ClassFile.FieldType.int)) ∈ lw_all := lw_g (lw_at lw_m11 31 rfl) rfl
theorem q2507 : (Jvm.Cond.instanceMethod ({ cls := "BlockPapersModel", name := "why", desc := "(IIZ)I" } : Jvm.MethodName)) ∈ lw_all := lw_g (lw_at lw_m11 33 rfl) rfl
theorem q2508 : (Jvm.Cond.selects "BlockPapersModel" ({ cls := "BlockPapersModel", name := "why", desc := "(IIZ)I" } : Jvm.MethodName) ({ cls := "BlockPapersModel", name := "why", desc := "(IIZ)I" } : Jvm.MethodName)) ∈ lw_all := lw_g (lw_at lw_m11 34 rfl) rfl
theorem q2509 : (Jvm.Cond.code ({ cls := "BlockPapersModel", name := "why", desc := "(IIZ)I" } : Jvm.MethodName) prog_19_method_53_code (5 : Nat) (Option.some Jvm.ClassFile.FieldType.int)) ∈ lw_all := lw_g (lw_at lw_m11 35 rfl) rfl
theorem q2511 : (Jvm.Cond.instanceMethod ({ cls := "BlockPapersModel", name := "strip", desc := "(I)I" } : Jvm.MethodName)) ∈ lw_all := lw_g (lw_at lw_m11 37 rfl) rfl
theorem q2512 : (Jvm.Cond.selects "BlockPapersModel" ({ cls := "BlockPapersModel", name := "strip", desc := "(I)I" } : Jvm.MethodName) ({ cls := "BlockPapersModel", name := "strip", desc := "(I)I" } : Jvm.MethodName)) ∈ lw_all := lw_g (lw_at lw_m11 38 rfl) rfl
theorem q2513 : (Jvm.Cond.code ({ cls := "BlockPapersModel", name := "strip", desc := "(I)I" } : Jvm.MethodName) prog_19_method_54_code (2 : Nat) (Option.some Jvm.ClassFile.FieldType.int)) ∈ lw_all := lw_g (lw_at lw_m11 39 rfl) rfl
theorem q2514 : (Jvm.Cond.methodLink "BlockPapersModel" (170 : Nat) ({ cls := "BlockPapersModel", name := "strips", desc := "(I)I" } : Jvm.MethodName)) ∈ lw_all := lw_g (lw_at lw_m11 40 rfl) rfl
theorem q2515 : (Jvm.Cond.privateMethod ({ cls := "BlockPapersModel", name := "strips", desc := "(I)I" } : Jvm.MethodName)) ∈ lw_tbl := lw_at lw_m11 41 rfl
theorem q2516 : (Jvm.Cond.instanceMethod ({ cls := "BlockPapersModel", name := "strips", desc := "(I)I" } : Jvm.MethodName)) ∈ lw_all := lw_g (lw_at lw_m11 42 rfl) rfl
theorem q2517 : (Jvm.Cond.code ({ cls := "BlockPapersModel", name := "strips", desc := "(I)I" } : Jvm.MethodName) prog_19_method_28_code (3 : Nat) (Option.some Jvm.ClassFile.FieldType.int)) ∈ lw_all := lw_g (lw_at lw_m11 43 rfl) rfl
theorem q2519 : (Jvm.Cond.instanceMethod ({ cls := "BlockPapersModel", name := "isMatched", desc := "(I)Z" } : Jvm.MethodName)) ∈ lw_all := lw_g (lw_at lw_m11 45 rfl) rfl
theorem q2520 : (Jvm.Cond.selects "BlockPapersModel" ({ cls := "BlockPapersModel", name := "isMatched", desc := "(I)Z" } : Jvm.MethodName) ({ cls := "BlockPapersModel", name := "isMatched", desc := "(I)Z" } : Jvm.MethodName)) ∈ lw_all := lw_g (lw_at lw_m11 46 rfl) rfl
theorem q2521 : (Jvm.Cond.code ({ cls := "BlockPapersModel", name := "isMatched", desc := "(I)Z" } : Jvm.MethodName) prog_19_method_55_code (4 : Nat) (Option.some Jvm.ClassFile.FieldType.boolean)) ∈ lw_all := lw_g (lw_at lw_m11 47 rfl) rfl
theorem q2523 : (Jvm.Cond.instanceMethod ({ cls := "BlockPapersModel", name := "bestRoll", desc := "(I)I" } : Jvm.MethodName)) ∈ lw_all := lw_g (lw_at lw_m11 49 rfl) rfl
theorem q2524 : (Jvm.Cond.selects "BlockPapersModel" ({ cls := "BlockPapersModel", name := "bestRoll", desc := "(I)I" } : Jvm.MethodName) ({ cls := "BlockPapersModel", name := "bestRoll", desc := "(I)I" } : Jvm.MethodName)) ∈ lw_all := lw_g (lw_at lw_m11 50 rfl) rfl
theorem q2525 : (Jvm.Cond.code ({ cls := "BlockPapersModel", name := "bestRoll", desc := "(I)I" } : Jvm.MethodName) prog_19_method_56_code (2 : Nat) (Option.some Jvm.ClassFile.FieldType.int)) ∈ lw_all := lw_g (lw_at lw_m11 51 rfl) rfl
theorem q2526 : (Jvm.Cond.methodLink "BlockPapersModel" (116 : Nat) ({ cls := "BlockPapersModel", name := "best", desc := "(I)I" } : Jvm.MethodName)) ∈ lw_all := lw_g (lw_at lw_m11 52 rfl) rfl
theorem q2527 : (Jvm.Cond.privateMethod ({ cls := "BlockPapersModel", name := "best", desc := "(I)I" } : Jvm.MethodName)) ∈ lw_tbl := lw_at lw_m11 53 rfl
theorem q2528 : (Jvm.Cond.instanceMethod ({ cls := "BlockPapersModel", name := "best", desc := "(I)I" } : Jvm.MethodName)) ∈ lw_all := lw_g (lw_at lw_m11 54 rfl) rfl
theorem q2529 : (Jvm.Cond.code ({ cls := "BlockPapersModel", name := "best", desc := "(I)I" } : Jvm.MethodName) prog_19_method_29_code (4 : Nat) (Option.some Jvm.ClassFile.FieldType.int)) ∈ lw_all := lw_g (lw_at lw_m11 55 rfl) rfl
theorem q2531 : (Jvm.Cond.instanceMethod ({ cls := "BlockPapersModel", name := "finish", desc := "(I)I" } : Jvm.MethodName)) ∈ lw_all := lw_g (lw_at lw_m11 57 rfl) rfl
theorem q2532 : (Jvm.Cond.selects "BlockPapersModel" ({ cls := "BlockPapersModel", name := "finish", desc := "(I)I" } : Jvm.MethodName) ({ cls := "BlockPapersModel", name := "finish", desc := "(I)I" } : Jvm.MethodName)) ∈ lw_all := lw_g (lw_at lw_m11 58 rfl) rfl
theorem q2533 : (Jvm.Cond.code ({ cls := "BlockPapersModel", name := "finish", desc := "(I)I" } : Jvm.MethodName) prog_19_method_57_code (2 : Nat) (Option.some Jvm.ClassFile.FieldType.int)) ∈ lw_all := lw_g (lw_at lw_m11 59 rfl) rfl
theorem q2534 : (Jvm.Cond.methodLink "BlockPapersModel" (173 : Nat) ({ cls := "BlockPapersModel", name := "finishes", desc := "(I)I" } : Jvm.MethodName)) ∈ lw_all := lw_g (lw_at lw_m11 60 rfl) rfl
theorem q2535 : (Jvm.Cond.privateMethod ({ cls := "BlockPapersModel", name := "finishes", desc := "(I)I" } : Jvm.MethodName)) ∈ lw_tbl := lw_at lw_m11 61 rfl
theorem q2536 : (Jvm.Cond.instanceMethod ({ cls := "BlockPapersModel", name := "finishes", desc := "(I)I" } : Jvm.MethodName)) ∈ lw_all := lw_g (lw_at lw_m11 62 rfl) rfl
theorem q2537 : (Jvm.Cond.code ({ cls := "BlockPapersModel", name := "finishes", desc := "(I)I" } : Jvm.MethodName) prog_19_method_30_code (5 : Nat) (Option.some Jvm.ClassFile.FieldType.int)) ∈ lw_all := lw_g (lw_at lw_m11 63 rfl) rfl
theorem q2539 : (Jvm.Cond.instanceMethod ({ cls := "BlockPapersModel", name := "dropsFrom", desc := "(II)I" } : Jvm.MethodName)) ∈ lw_all := lw_g (lw_at lw_m11 65 rfl) rfl
theorem q2540 : (Jvm.Cond.selects "BlockPapersModel" ({ cls := "BlockPapersModel", name := "dropsFrom", desc := "(II)I" } : Jvm.MethodName) ({ cls := "BlockPapersModel", name := "dropsFrom", desc := "(II)I" } : Jvm.MethodName)) ∈ lw_all := lw_g (lw_at lw_m11 66 rfl) rfl
theorem q2541 : (Jvm.Cond.code ({ cls := "BlockPapersModel", name := "dropsFrom", desc := "(II)I" } : Jvm.MethodName) prog_19_method_58_code (5 : Nat) (Option.some Jvm.ClassFile.FieldType.int)) ∈ lw_all := lw_g (lw_at lw_m11 67 rfl) rfl
theorem q2543 : (Jvm.Cond.instanceMethod ({ cls := "BlockPapersModel", name := "dropsAgain", desc := "(II)I" } : Jvm.MethodName)) ∈ lw_all := lw_g (lw_at lw_m11 69 rfl) rfl
theorem q2544 : (Jvm.Cond.selects "BlockPapersModel" ({ cls := "BlockPapersModel", name := "dropsAgain", desc := "(II)I" } : Jvm.MethodName) ({ cls := "BlockPapersModel", name := "dropsAgain", desc := "(II)I" } : Jvm.MethodName)) ∈ lw_all := lw_g (lw_at lw_m11 70 rfl) rfl
theorem q2545 : (Jvm.Cond.code ({ cls := "BlockPapersModel", name := "dropsAgain", desc := "(II)I" } : Jvm.MethodName) prog_19_method_59_code (3 : Nat) (Option.some Jvm.ClassFile.FieldType.int)) ∈ lw_all := lw_g (lw_at lw_m11 71 rfl) rfl
theorem q2546 : (Jvm.Cond.methodLink "BlockPapersModel" (176 : Nat) ({ cls := "BlockPapersModel", name := "dropsFrom", desc := "(II)I" } : Jvm.MethodName)) ∈ lw_all := lw_g (lw_at lw_m11 72 rfl) rfl
theorem q2548 : (Jvm.Cond.instanceMethod ({ cls := "BlockPapersModel", name := "line", desc := "(I)I" } : Jvm.MethodName)) ∈ lw_all := lw_g (lw_at lw_m11 74 rfl) rfl
theorem q2549 : (Jvm.Cond.selects "BlockPapersModel" ({ cls := "BlockPapersModel", name := "line", desc := "(I)I" } : Jvm.MethodName) ({ cls := "BlockPapersModel", name := "line", desc := "(I)I" } : Jvm.MethodName)) ∈ lw_all := lw_g (lw_at lw_m11 75 rfl) rfl
theorem q2550 : (Jvm.Cond.code ({ cls := "BlockPapersModel", name := "line", desc := "(I)I" } : Jvm.MethodName) prog_19_method_63_code (2 : Nat) (Option.some Jvm.ClassFile.FieldType.int)) ∈ lw_all := lw_g (lw_at lw_m11 76 rfl) rfl
theorem q2551 : (Jvm.Cond.methodLink "BlockPapersModel" (196 : Nat) ({ cls := "BlockPapersModel", name := "putsNumber", desc := "(I)V" } : Jvm.MethodName)) ∈ lw_all := lw_g (lw_at lw_m11 77 rfl) rfl
theorem q2552 : (Jvm.Cond.privateMethod ({ cls := "BlockPapersModel", name := "putsNumber", desc := "(I)V" } : Jvm.MethodName)) ∈ lw_tbl := lw_at lw_m11 78 rfl
theorem q2553 : (Jvm.Cond.instanceMethod ({ cls := "BlockPapersModel", name := "putsNumber", desc := "(I)V" } : Jvm.MethodName)) ∈ lw_all := lw_g (lw_at lw_m11 79 rfl) rfl
theorem q2554 : (Jvm.Cond.code ({ cls := "BlockPapersModel", name := "putsNumber", desc := "(I)V" } : Jvm.MethodName) prog_19_method_61_code (4 : Nat) (Option.none : Option Jvm.ClassFile.FieldType)) ∈ lw_all := lw_g (lw_at lw_m11 80 rfl) rfl
theorem q2555 : (Jvm.Cond.methodLink "BlockPapersModel" (182 : Nat) ({ cls := "BlockPapersModel", name := "puts", desc := "(I)V" } : Jvm.MethodName)) ∈ lw_all := lw_g (lw_at lw_m11 81 rfl) rfl
theorem q2556 : (Jvm.Cond.privateMethod ({ cls := "BlockPapersModel", name := "puts", desc := "(I)V" } : Jvm.MethodName)) ∈ lw_tbl := lw_at lw_m11 82 rfl
theorem q2557 : (Jvm.Cond.instanceMethod ({ cls := "BlockPapersModel", name := "puts", desc := "(I)V" } : Jvm.MethodName)) ∈ lw_all := lw_g (lw_at lw_m11 83 rfl) rfl
theorem q2558 : (Jvm.Cond.code ({ cls := "BlockPapersModel", name := "puts", desc := "(I)V" } : Jvm.MethodName) prog_19_method_60_code (2 : Nat) (Option.none : Option Jvm.ClassFile.FieldType)) ∈ lw_all := lw_g (lw_at lw_m11 84 rfl) rfl
theorem q2559 : (Jvm.Cond.stringRef "BlockPapersModel" (199 : Nat) ": ") ∈ lw_tbl := lw_at lw_m11 85 rfl
theorem q2560 : (Jvm.Cond.methodLink "BlockPapersModel" (201 : Nat) ({ cls := "BlockPapersModel", name := "putsWord", desc := "(Ljava/lang/String;)V" } : Jvm.MethodName)) ∈ lw_all := lw_g (lw_at lw_m11 86 rfl) rfl
theorem q2561 : (Jvm.Cond.privateMethod ({ cls := "BlockPapersModel", name := "putsWord", desc := "(Ljava/lang/String;)V" } : Jvm.MethodName)) ∈ lw_tbl := lw_at lw_m11 87 rfl
theorem q2562 : (Jvm.Cond.instanceMethod ({ cls := "BlockPapersModel", name := "putsWord", desc := "(Ljava/lang/String;)V" } : Jvm.MethodName)) ∈ lw_all := lw_g (lw_at lw_m11 88 rfl) rfl
theorem q2563 : (Jvm.Cond.code ({ cls := "BlockPapersModel", name := "putsWord", desc := "(Ljava/lang/String;)V" } : Jvm.MethodName) prog_19_method_62_code (3 : Nat) (Option.none : Option Jvm.ClassFile.FieldType)) ∈ lw_all := lw_g (lw_at lw_m11 89 rfl) rfl
theorem q2564 : (Jvm.Cond.methodLink "BlockPapersModel" (186 : Nat) ({ cls := "java/lang/String", name := "length", desc := "()I" } : Jvm.MethodName)) ∈ lw_all := lw_g (lw_at lw_m11 90 rfl) rfl
theorem q2565 : (Jvm.Cond.methodLink "BlockPapersModel" (192 : Nat) ({ cls := "java/lang/String", name := "charAt", desc := "(I)C" } : Jvm.MethodName)) ∈ lw_all := lw_g (lw_at lw_m11 91 rfl) rfl
theorem q2566 : (Jvm.Cond.stringRef "BlockPapersModel" (205 : Nat) " of ") ∈ lw_tbl := lw_at lw_m11 92 rfl
theorem q2567 : (Jvm.Cond.stringRef "BlockPapersModel" (207 : Nat) ", shade ") ∈ lw_tbl := lw_at lw_m11 93 rfl
theorem q2568 : (Jvm.Cond.stringRef "BlockPapersModel" (209 : Nat) ", given back") ∈ lw_tbl := lw_at lw_m11 94 rfl
theorem q2569 : (Jvm.Cond.stringRef "BlockPapersModel" (211 : Nat) ", whole") ∈ lw_tbl := lw_at lw_m11 95 rfl
theorem q2570 : (Jvm.Cond.stringRef "BlockPapersModel" (213 : Nat) "") ∈ lw_tbl := lw_at lw_m11 96 rfl
theorem q2572 : (Jvm.Cond.instanceMethod ({ cls := "BlockPapersModel", name := "character", desc := "(I)C" } : Jvm.MethodName)) ∈ lw_all := lw_g (lw_at lw_m11 98 rfl) rfl
theorem q2573 : (Jvm.Cond.selects "BlockPapersModel" ({ cls := "BlockPapersModel", name := "character", desc := "(I)C" } : Jvm.MethodName) ({ cls := "BlockPapersModel", name := "character", desc := "(I)C" } : Jvm.MethodName)) ∈ lw_all := lw_g (lw_at lw_m11 99 rfl) rfl
theorem q2574 : (Jvm.Cond.code ({ cls := "BlockPapersModel", name := "character", desc := "(I)C" } : Jvm.MethodName) prog_19_method_64_code (2 : Nat) (Option.some Jvm.ClassFile.FieldType.char)) ∈ lw_all := lw_g (lw_at lw_m11 100 rfl) rfl
theorem q2576 : (Jvm.Cond.instanceMethod ({ cls := "BlockPapersModel", name := "number", desc := "(I)I" } : Jvm.MethodName)) ∈ lw_all := lw_g (lw_at lw_m11 102 rfl) rfl
theorem q2577 : (Jvm.Cond.selects "BlockPapersModel" ({ cls := "BlockPapersModel", name := "number", desc := "(I)I" } : Jvm.MethodName) ({ cls := "BlockPapersModel", name := "number", desc := "(I)I" } : Jvm.MethodName)) ∈ lw_all := lw_g (lw_at lw_m11 103 rfl) rfl
theorem q2578 : (Jvm.Cond.code ({ cls := "BlockPapersModel", name := "number", desc := "(I)I" } : Jvm.MethodName) prog_19_method_71_code (2 : Nat) (Option.some Jvm.ClassFile.FieldType.int)) ∈ lw_all := lw_g (lw_at lw_m11 104 rfl) rfl
theorem q2579 : (Jvm.Cond.methodLink "BlockPapersModel" (215 : Nat) ({ cls := "BlockPapersModel", name := "given", desc := "(Z)I" } : Jvm.MethodName)) ∈ lw_all := lw_g (lw_at lw_m11 105 rfl) rfl
theorem q2580 : (Jvm.Cond.privateMethod ({ cls := "BlockPapersModel", name := "given", desc := "(Z)I" } : Jvm.MethodName)) ∈ lw_tbl := lw_at lw_m11 106 rfl
theorem q2581 : (Jvm.Cond.instanceMethod ({ cls := "BlockPapersModel", name := "given", desc := "(Z)I" } : Jvm.MethodName)) ∈ lw_all := lw_g (lw_at lw_m11 107 rfl) rfl
theorem q2582 : (Jvm.Cond.code ({ cls := "BlockPapersModel", name := "given", desc := "(Z)I" } : Jvm.MethodName) prog_19_method_67_code (4 : Nat) (Option.some Jvm.ClassFile.FieldType.int)) ∈ lw_all := lw_g (lw_at lw_m11 108 rfl) rfl
theorem q2583 : (Jvm.Cond.methodLink "BlockPapersModel" (219 : Nat) ({ cls := "BlockPapersModel", name := "hung", desc := "(Z)I" } : Jvm.MethodName)) ∈ lw_all := lw_g (lw_at lw_m11 109 rfl) rfl
theorem q2584 : (Jvm.Cond.privateMethod ({ cls := "BlockPapersModel", name := "hung", desc := "(Z)I" } : Jvm.MethodName)) ∈ lw_tbl := lw_at lw_m11 110 rfl
theorem q2585 : (Jvm.Cond.instanceMethod ({ cls := "BlockPapersModel", name := "hung", desc := "(Z)I" } : Jvm.MethodName)) ∈ lw_all := lw_g (lw_at lw_m11 111 rfl) rfl
theorem q2586 : (Jvm.Cond.code ({ cls := "BlockPapersModel", name := "hung", desc := "(Z)I" } : Jvm.MethodName) prog_19_method_65_code (4 : Nat) (Option.some Jvm.ClassFile.FieldType.int)) ∈ lw_all := lw_g (lw_at lw_m11 112 rfl) rfl
theorem q2587 : (Jvm.Cond.methodLink "BlockPapersModel" (222 : Nat) ({ cls := "BlockPapersModel", name := "fullRooms", desc := "()I" } : Jvm.MethodName)) ∈ lw_all := lw_g (lw_at lw_m11 113 rfl) rfl
theorem q2588 : (Jvm.Cond.privateMethod ({ cls := "BlockPapersModel", name := "fullRooms", desc := "()I" } : Jvm.MethodName)) ∈ lw_tbl := lw_at lw_m11 114 rfl
theorem q2589 : (Jvm.Cond.instanceMethod ({ cls := "BlockPapersModel", name := "fullRooms", desc := "()I" } : Jvm.MethodName)) ∈ lw_all := lw_g (lw_at lw_m11 115 rfl) rfl
theorem q2590 : (Jvm.Cond.code ({ cls := "BlockPapersModel", name := "fullRooms", desc := "()I" } : Jvm.MethodName) prog_19_method_66_code (3 : Nat) (Option.some Jvm.ClassFile.FieldType.int)) ∈ lw_all := lw_g (lw_at lw_m11 116 rfl) rfl
theorem q2591 : (Jvm.Cond.methodLink "BlockPapersModel" (225 : Nat) ({ cls := "BlockPapersModel", name := "lefts", desc := "()I" } : Jvm.MethodName)) ∈ lw_all := lw_g (lw_at lw_m11 117 rfl) rfl
theorem q2592 : (Jvm.Cond.privateMethod ({ cls := "BlockPapersModel", name := "lefts", desc := "()I" } : Jvm.MethodName)) ∈ lw_tbl := lw_at lw_m11 118 rfl
theorem q2593 : (Jvm.Cond.instanceMethod ({ cls := "BlockPapersModel", name := "lefts", desc := "()I" } : Jvm.MethodName)) ∈ lw_all := lw_g (lw_at lw_m11 119 rfl) rfl
theorem q2594 : (Jvm.Cond.code ({ cls := "BlockPapersModel", name := "lefts", desc := "()I" } : Jvm.MethodName) prog_19_method_68_code (3 : Nat) (Option.some Jvm.ClassFile.FieldType.int)) ∈ lw_all := lw_g (lw_at lw_m11 120 rfl) rfl
theorem q2595 : (Jvm.Cond.methodLink "BlockPapersModel" (228 : Nat) ({ cls := "BlockPapersModel", name := "grams", desc := "()I" } : Jvm.MethodName)) ∈ lw_all := lw_g (lw_at lw_m11 121 rfl) rfl
theorem q2596 : (Jvm.Cond.privateMethod ({ cls := "BlockPapersModel", name := "grams", desc := "()I" } : Jvm.MethodName)) ∈ lw_tbl := lw_at lw_m11 122 rfl
theorem q2597 : (Jvm.Cond.instanceMethod ({ cls := "BlockPapersModel", name := "grams", desc := "()I" } : Jvm.MethodName)) ∈ lw_all := lw_g (lw_at lw_m11 123 rfl) rfl
theorem q2598 : (Jvm.Cond.code ({ cls := "BlockPapersModel", name := "grams", desc := "()I" } : Jvm.MethodName) prog_19_method_70_code (3 : Nat) (Option.some Jvm.ClassFile.FieldType.int)) ∈ lw_all := lw_g (lw_at lw_m11 124 rfl) rfl
theorem q2600 : (Jvm.Cond.instanceMethod ({ cls := "BlockPapersModel", name := "printedAgain", desc := "()I" } : Jvm.MethodName)) ∈ lw_all := lw_g (lw_at lw_m11 126 rfl) rfl
theorem q2601 : (Jvm.Cond.selects "BlockPapersModel" ({ cls := "BlockPapersModel", name := "printedAgain", desc := "()I" } : Jvm.MethodName) ({ cls := "BlockPapersModel", name := "printedAgain", desc := "()I" } : Jvm.MethodName)) ∈ lw_all := lw_g (lw_at lw_m11 127 rfl) rfl
theorem q2602 : (Jvm.Cond.code ({ cls := "BlockPapersModel", name := "printedAgain", desc := "()I" } : Jvm.MethodName) prog_19_method_72_code (1 : Nat) (Option.some Jvm.ClassFile.FieldType.int)) ∈ lw_all := lw_g (lw_at lw_m11 128 rfl) rfl
theorem q2604 : (Jvm.Cond.instanceMethod ({ cls := "BlockPapersModel", name := "meanShade", desc := "()D" } : Jvm.MethodName)) ∈ lw_all := lw_g (lw_at lw_m11 130 rfl) rfl
theorem q2605 : (Jvm.Cond.selects "BlockPapersModel" ({ cls := "BlockPapersModel", name := "meanShade", desc := "()D" } : Jvm.MethodName) ({ cls := "BlockPapersModel", name := "meanShade", desc := "()D" } : Jvm.MethodName)) ∈ lw_all := lw_g (lw_at lw_m11 131 rfl) rfl
theorem q2606 : (Jvm.Cond.code ({ cls := "BlockPapersModel", name := "meanShade", desc := "()D" } : Jvm.MethodName) prog_19_method_73_code (3 : Nat) (Option.some Jvm.ClassFile.FieldType.double)) ∈ lw_all := lw_g (lw_at lw_m11 132 rfl) rfl
theorem q2608 : (Jvm.Cond.instanceMethod ({ cls := "BlockPapersModel", name := "wasted", desc := "()F" } : Jvm.MethodName)) ∈ lw_all := lw_g (lw_at lw_m11 134 rfl) rfl
theorem q2609 : (Jvm.Cond.selects "BlockPapersModel" ({ cls := "BlockPapersModel", name := "wasted", desc := "()F" } : Jvm.MethodName) ({ cls := "BlockPapersModel", name := "wasted", desc := "()F" } : Jvm.MethodName)) ∈ lw_all := lw_g (lw_at lw_m11 135 rfl) rfl
theorem q2610 : (Jvm.Cond.code ({ cls := "BlockPapersModel", name := "wasted", desc := "()F" } : Jvm.MethodName) prog_19_method_74_code (1 : Nat) (Option.some Jvm.ClassFile.FieldType.float)) ∈ lw_all := lw_g (lw_at lw_m11 136 rfl) rfl
theorem q2611 : (Jvm.Cond.methodLink "BlockPapersModel" (233 : Nat) ({ cls := "BlockPapersModel", name := "used", desc := "()I" } : Jvm.MethodName)) ∈ lw_all := lw_g (lw_at lw_m11 137 rfl) rfl
theorem q2612 : (Jvm.Cond.privateMethod ({ cls := "BlockPapersModel", name := "used", desc := "()I" } : Jvm.MethodName)) ∈ lw_tbl := lw_at lw_m11 138 rfl
theorem q2613 : (Jvm.Cond.instanceMethod ({ cls := "BlockPapersModel", name := "used", desc := "()I" } : Jvm.MethodName)) ∈ lw_all := lw_g (lw_at lw_m11 139 rfl) rfl
theorem q2614 : (Jvm.Cond.code ({ cls := "BlockPapersModel", name := "used", desc := "()I" } : Jvm.MethodName) prog_19_method_69_code (3 : Nat) (Option.some Jvm.ClassFile.FieldType.int)) ∈ lw_all := lw_g (lw_at lw_m11 140 rfl) rfl
theorem q2616 : (Jvm.Cond.instanceMethod ({ cls := "BlockPapersModel", name := "feed", desc := "(C)I" } : Jvm.MethodName)) ∈ lw_all := lw_g (lw_at lw_m11 142 rfl) rfl
theorem q2617 : (Jvm.Cond.selects "BlockPapersModel" ({ cls := "BlockPapersModel", name := "feed", desc := "(C)I" } : Jvm.MethodName) ({ cls := "BlockPapersModel", name := "feed", desc := "(C)I" } : Jvm.MethodName)) ∈ lw_all := lw_g (lw_at lw_m11 143 rfl) rfl
theorem q2618 : (Jvm.Cond.code ({ cls := "BlockPapersModel", name := "feed", desc := "(C)I" } : Jvm.MethodName) prog_19_method_75_code (2 : Nat) (Option.some Jvm.ClassFile.FieldType.int)) ∈ lw_all := lw_g (lw_at lw_m11 144 rfl) rfl
theorem q2620 : (Jvm.Cond.instanceMethod ({ cls := "BlockPapersModel", name := "read", desc := "()I" } : Jvm.MethodName)) ∈ lw_all := lw_g (lw_at lw_m11 146 rfl) rfl
theorem q2621 : (Jvm.Cond.selects "BlockPapersModel" ({ cls := "BlockPapersModel", name := "read", desc := "()I" } : Jvm.MethodName) ({ cls := "BlockPapersModel", name := "read", desc := "()I" } : Jvm.MethodName)) ∈ lw_all := lw_g (lw_at lw_m11 147 rfl) rfl
theorem q2622 : (Jvm.Cond.code ({ cls := "BlockPapersModel", name := "read", desc := "()I" } : Jvm.MethodName) prog_19_method_82_code (4 : Nat) (Option.some Jvm.ClassFile.FieldType.int)) ∈ lw_all := lw_g (lw_at lw_m11 148 rfl) rfl
theorem q2623 : (Jvm.Cond.methodLink "BlockPapersModel" (277 : Nat) ({ cls := "BlockPapersModel", name := "readsOne", desc := "()V" } : Jvm.MethodName)) ∈ lw_all := lw_g (lw_at lw_m11 149 rfl) rfl
theorem q2624 : (Jvm.Cond.privateMethod ({ cls := "BlockPapersModel", name := "readsOne", desc := "()V" } : Jvm.MethodName)) ∈ lw_tbl := lw_at lw_m11 150 rfl
theorem q2625 : (Jvm.Cond.instanceMethod ({ cls := "BlockPapersModel", name := "readsOne", desc := "()V" } : Jvm.MethodName)) ∈ lw_all := lw_g (lw_at lw_m11 151 rfl) rfl
theorem q2626 : (Jvm.Cond.code ({ cls := "BlockPapersModel", name := "readsOne", desc := "()V" } : Jvm.MethodName) prog_19_method_80_code (1 : Nat) (Option.none : Option Jvm.ClassFile.FieldType)) ∈ lw_all := lw_g (lw_at lw_m11 152 rfl) rfl
theorem q2627 : (Jvm.Cond.methodLink "BlockPapersModel" (246 : Nat) ({ cls := "BlockPapersModel", name := "here", desc := "()I" } : Jvm.MethodName)) ∈ lw_all := lw_g (lw_at lw_m11 153 rfl) rfl
theorem q2628 : (Jvm.Cond.privateMethod ({ cls := "BlockPapersModel", name := "here", desc := "()I" } : Jvm.MethodName)) ∈ lw_tbl := lw_at lw_m11 154 rfl
theorem q2629 : (Jvm.Cond.instanceMethod ({ cls := "BlockPapersModel", name := "here", desc := "()I" } : Jvm.MethodName)) ∈ lw_all := lw_g (lw_at lw_m11 155 rfl) rfl
theorem q2630 : (Jvm.Cond.code ({ cls := "BlockPapersModel", name := "here", desc := "()I" } : Jvm.MethodName) prog_19_method_76_code (1 : Nat) (Option.some Jvm.ClassFile.FieldType.int)) ∈ lw_all := lw_g (lw_at lw_m11 156 rfl) rfl
theorem q2631 : (Jvm.Cond.stringRef "BlockPapersModel" (259 : Nat) "print") ∈ lw_tbl := lw_at lw_m11 157 rfl
theorem q2632 : (Jvm.Cond.methodLink "BlockPapersModel" (261 : Nat) ({ cls := "BlockPapersModel", name := "command", desc := "(ILjava/lang/String;II)V" } : Jvm.MethodName)) ∈ lw_all := lw_g (lw_at lw_m11 158 rfl) rfl
theorem q2633 : (Jvm.Cond.privateMethod ({ cls := "BlockPapersModel", name := "command", desc := "(ILjava/lang/String;II)V" } : Jvm.MethodName)) ∈ lw_tbl := lw_at lw_m11 159 rfl
theorem q2634 : (Jvm.Cond.instanceMethod ({ cls := "BlockPapersModel", name := "command", desc := "(ILjava/lang/String;II)V" } : Jvm.MethodName)) ∈ lw_all := lw_g (lw_at lw_m11 160 rfl) rfl
theorem q2635 : (Jvm.Cond.code ({ cls := "BlockPapersModel", name := "command", desc := "(ILjava/lang/String;II)V" } : Jvm.MethodName) prog_19_method_79_code (6 : Nat) (Option.none : Option Jvm.ClassFile.FieldType)) ∈ lw_all := lw_g (lw_at lw_m11 161 rfl) rfl
theorem q2636 : (Jvm.Cond.methodLink "BlockPapersModel" (249 : Nat) ({ cls := "BlockPapersModel", name := "must", desc := "(I)V" } : Jvm.MethodName)) ∈ lw_all := lw_g (lw_at lw_m11 162 rfl) rfl
theorem q2637 : (Jvm.Cond.privateMethod ({ cls := "BlockPapersModel", name := "must", desc := "(I)V" } : Jvm.MethodName)) ∈ lw_tbl := lw_at lw_m11 163 rfl
theorem q2638 : (Jvm.Cond.instanceMethod ({ cls := "BlockPapersModel", name := "must", desc := "(I)V" } : Jvm.MethodName)) ∈ lw_all := lw_g (lw_at lw_m11 164 rfl) rfl
theorem q2639 : (Jvm.Cond.code ({ cls := "BlockPapersModel", name := "must", desc := "(I)V" } : Jvm.MethodName) prog_19_method_77_code (2 : Nat) (Option.none : Option Jvm.ClassFile.FieldType)) ∈ lw_all := lw_g (lw_at lw_m11 165 rfl) rfl
theorem q2640 : (Jvm.Cond.methodLink "BlockPapersModel" (255 : Nat) ({ cls := "BlockPapersModel", name := "digitsOf", desc := "(II)V" } : Jvm.MethodName)) ∈ lw_all := lw_g (lw_at lw_m11 166 rfl) rfl
theorem q2641 : (Jvm.Cond.privateMethod ({ cls := "BlockPapersModel", name := "digitsOf", desc := "(II)V" } : Jvm.MethodName)) ∈ lw_tbl := lw_at lw_m11 167 rfl
theorem q2642 : (Jvm.Cond.instanceMethod ({ cls := "BlockPapersModel", name := "digitsOf", desc := "(II)V" } : Jvm.MethodName)) ∈ lw_all := lw_g (lw_at lw_m11 168 rfl) rfl
theorem q2643 : (Jvm.Cond.code ({ cls := "BlockPapersModel", name := "digitsOf", desc := "(II)V" } : Jvm.MethodName) prog_19_method_78_code (5 : Nat) (Option.none : Option Jvm.ClassFile.FieldType)) ∈ lw_all := lw_g (lw_at lw_m11 169 rfl) rfl
theorem q2644 : (Jvm.Cond.stringRef "BlockPapersModel" (265 : Nat) "hang") ∈ lw_tbl := lw_at lw_m11 170 rfl
theorem q2645 : (Jvm.Cond.stringRef "BlockPapersModel" (267 : Nat) "strip") ∈ lw_tbl := lw_at lw_m11 171 rfl
theorem q2646 : (Jvm.Cond.stringRef "BlockPapersModel" (269 : Nat) "back") ∈ lw_tbl := lw_at lw_m11 172 rfl
theorem q2647 : (Jvm.Cond.stringRef "BlockPapersModel" (271 : Nat) "finish") ∈ lw_tbl := lw_at lw_m11 173 rfl
theorem q2648 : (Jvm.Cond.stringRef "BlockPapersModel" (273 : Nat) "carve") ∈ lw_tbl := lw_at lw_m11 174 rfl
theorem q2649 : (Jvm.Cond.stringRef "BlockPapersModel" (275 : Nat) "mix") ∈ lw_tbl := lw_at lw_m11 175 rfl
theorem q2650 : (Jvm.Cond.methodLink "BlockPapersModel" (280 : Nat) ({ cls := "BlockPapersModel", name := "does", desc := "(I)I" } : Jvm.MethodName)) ∈ lw_all := lw_g (lw_at lw_m11 176 rfl) rfl
theorem q2651 : (Jvm.Cond.privateMethod ({ cls := "BlockPapersModel", name := "does", desc := "(I)I" } : Jvm.MethodName)) ∈ lw_tbl := lw_at lw_m11 177 rfl
theorem q2652 : (Jvm.Cond.instanceMethod ({ cls := "BlockPapersModel", name := "does", desc := "(I)I" } : Jvm.MethodName)) ∈ lw_all := lw_g (lw_at lw_m11 178 rfl) rfl
theorem q2653 : (Jvm.Cond.code ({ cls := "BlockPapersModel", name := "does", desc := "(I)I" } : Jvm.MethodName) prog_19_method_81_code (5 : Nat) (Option.some Jvm.ClassFile.FieldType.int)) ∈ lw_all := lw_g (lw_at lw_m11 179 rfl) rfl
theorem q2655 : (Jvm.Cond.instanceMethod ({ cls := "BlockPapersModel", name := "faultPosition", desc := "()I" } : Jvm.MethodName)) ∈ lw_all := lw_g (lw_at lw_m11 181 rfl) rfl
theorem q2656 : (Jvm.Cond.selects "BlockPapersModel" ({ cls := "BlockPapersModel", name := "faultPosition", desc := "()I" } : Jvm.MethodName) ({ cls := "BlockPapersModel", name := "faultPosition", desc := "()I" } : Jvm.MethodName)) ∈ lw_all := lw_g (lw_at lw_m11 182 rfl) rfl
theorem q2657 : (Jvm.Cond.code ({ cls := "BlockPapersModel", name := "faultPosition", desc := "()I" } : Jvm.MethodName) prog_19_method_83_code (1 : Nat) (Option.some Jvm.ClassFile.FieldType.int)) ∈ lw_all := lw_g (lw_at lw_m11 183 rfl) rfl
theorem q2659 : (Jvm.Cond.instanceMethod ({ cls := "BlockPapersModel", name := "refusal", desc := "(IZ)I" } : Jvm.MethodName)) ∈ lw_all := lw_g (lw_at lw_m11 185 rfl) rfl
theorem q2660 : (Jvm.Cond.selects "BlockPapersModel" ({ cls := "BlockPapersModel", name := "refusal", desc := "(IZ)I" } : Jvm.MethodName) ({ cls := "BlockPapersModel", name := "refusal", desc := "(IZ)I" } : Jvm.MethodName)) ∈ lw_all := lw_g (lw_at lw_m11 186 rfl) rfl
theorem q2661 : (Jvm.Cond.code ({ cls := "BlockPapersModel", name := "refusal", desc := "(IZ)I" } : Jvm.MethodName) prog_19_method_84_code (3 : Nat) (Option.some Jvm.ClassFile.FieldType.int)) ∈ lw_all := lw_g (lw_at lw_m11 187 rfl) rfl
theorem q2663 : (Jvm.Cond.instanceMethod ({ cls := "BlockPapersModel", name := "undo", desc := "()I" } : Jvm.MethodName)) ∈ lw_all := lw_g (lw_at lw_m11 189 rfl) rfl
theorem q2664 : (Jvm.Cond.selects "BlockPapersModel" ({ cls := "BlockPapersModel", name := "undo", desc := "()I" } : Jvm.MethodName) ({ cls := "BlockPapersModel", name := "undo", desc := "()I" } : Jvm.MethodName)) ∈ lw_all := lw_g (lw_at lw_m11 190 rfl) rfl
theorem q2665 : (Jvm.Cond.code ({ cls := "BlockPapersModel", name := "undo", desc := "()I" } : Jvm.MethodName) prog_19_method_85_code (2 : Nat) (Option.some Jvm.ClassFile.FieldType.int)) ∈ lw_all := lw_g (lw_at lw_m11 191 rfl) rfl
theorem q2667 : (Jvm.Cond.instanceMethod ({ cls := "BlockPapersModel", name := "saveSnapshot", desc := "()I" } : Jvm.MethodName)) ∈ lw_all := lw_g (lw_at lw_m11 193 rfl) rfl
theorem q2668 : (Jvm.Cond.selects "BlockPapersModel" ({ cls := "BlockPapersModel", name := "saveSnapshot", desc := "()I" } : Jvm.MethodName) ({ cls := "BlockPapersModel", name := "saveSnapshot", desc := "()I" } : Jvm.MethodName)) ∈ lw_all := lw_g (lw_at lw_m11 194 rfl) rfl
theorem q2669 : (Jvm.Cond.code ({ cls := "BlockPapersModel", name := "saveSnapshot", desc := "()I" } : Jvm.MethodName) prog_19_method_86_code (2 : Nat) (Option.some Jvm.ClassFile.FieldType.int)) ∈ lw_all := lw_g (lw_at lw_m11 195 rfl) rfl
theorem q2671 : (Jvm.Cond.instanceMethod ({ cls := "BlockPapersModel", name := "restoreSnapshot", desc := "()I" } : Jvm.MethodName)) ∈ lw_all := lw_g (lw_at lw_m11 197 rfl) rfl
theorem q2672 : (Jvm.Cond.selects "BlockPapersModel" ({ cls := "BlockPapersModel", name := "restoreSnapshot", desc := "()I" } : Jvm.MethodName) ({ cls := "BlockPapersModel", name := "restoreSnapshot", desc := "()I" } : Jvm.MethodName)) ∈ lw_all := lw_g (lw_at lw_m11 198 rfl) rfl
theorem q2673 : (Jvm.Cond.code ({ cls := "BlockPapersModel", name := "restoreSnapshot", desc := "()I" } : Jvm.MethodName) prog_19_method_87_code (2 : Nat) (Option.some Jvm.ClassFile.FieldType.int)) ∈ lw_all := lw_g (lw_at lw_m11 199 rfl) rfl
theorem q2706 : (Jvm.Cond.castable "BlockPapersModel" "java/lang/Object") ∈ lw_tbl := lw_at lw_m11 232 rfl
theorem in_X3 : ∀ w ∈ wsX30, w ∈ lw_all := lw_in wsX30 [2266, 2268, 2270, 2272, 2274, 2276, 2278, 2280, 2282, 2284, 2286, 2288, 2290, 2292, 2294, 2296, 2298, 2300, 2302, 2304, 2306, 2308, 2310, 2312] (by decide +kernel) (by decide +kernel)
