/-! BlockPapers -/
set_option maxRecDepth 100000
def RX1 : String := "BlockPapers"
def TX1 : u_T := fun k => match k with
  | 0 => ("BlockPapers", "workshop", "LBlockPapers$Workshop;", false)
  | 1 => ("BlockPapers", "past", "Ljava/util/ArrayDeque;", true)
  | 2 => ("BlockPapers", "input", "Ljava/lang/StringBuilder;", true)
  | 3 => ("BlockPapers", "line", "Ljava/lang/CharSequence;", false)
  | 4 => ("BlockPapers", "fault", "I", false)
  | 5 => ("BlockPapers", "failure", "LBlockPapers$Failure;", false)
  | _ => ("BlockPapers", "saved", "LBlockPapers$Workshop;", false)
def tyX1 : Nat → FieldType := fun k => match k with
  | 0 => .object "BlockPapers$Workshop"
  | 1 => .object "java/util/ArrayDeque"
  | 2 => .object "java/lang/StringBuilder"
  | 3 => .object "java/lang/CharSequence"
  | 4 => .int
  | 5 => .object "BlockPapers$Failure"
  | _ => .object "BlockPapers$Workshop"
abbrev wsX10 : List Cond := u_ws RX1 TX1 7
theorem nmX1 : ∀ a, a < 7 → ∀ b, b < 7 → a ≠ b → (TX1 a).2.1 ≠ (TX1 b).2.1 := by decide +kernel
theorem tyX1_ok : ∀ k, k < 7 → parseFieldDescriptor (TX1 k).2.2.1 = some (tyX1 k) := by decide +kernel
abbrev cX1_init : ByteArray := prog_1_method_7_code
def yX1_init : MethodName := ⟨RX1, "<init>", "()V"⟩
def dkwX1_init_2 : List UInt8 := [181, 0, 53, 177]
abbrev dktX1_init_2 : List UInt8 := dkwX1_init_2 ++ []
def dkwX1_init_1 : List UInt8 := [181, 0, 36, 42, 187, 0, 40, 89, 183, 0, 42, 181, 0, 43, 42, 18, 47, 181, 0, 49, 42, 2]
abbrev dktX1_init_1 : List UInt8 := dkwX1_init_1 ++ dktX1_init_2
def dkwX1_init_0 : List UInt8 := [42, 183, 0, 21, 42, 187, 0, 24, 89, 183, 0, 26, 181, 0, 27, 42, 187, 0, 33, 89, 183, 0, 35]
abbrev dktX1_init_0 : List UInt8 := dkwX1_init_0 ++ dktX1_init_1
theorem dksX1_init_0 : cX1_init.data.toList.drop 0 = dktX1_init_0 := by decide +kernel
theorem dksX1_init_1 : cX1_init.data.toList.drop 23 = dktX1_init_1 := dk_seg dksX1_init_0 23 rfl rfl
theorem dksX1_init_2 : cX1_init.data.toList.drop 45 = dktX1_init_2 := dk_seg dksX1_init_1 22 rfl rfl
theorem dX1_init_0 : decode cX1_init 0 = .ok (.aload_n 0, 1) := dk_42 (dk_at dksX1_init_0 0 rfl rfl)
theorem dX1_init_1 : decode cX1_init 1 = .ok (.invokespecial 21, 3) := dk_183 0 21 (dk_at dksX1_init_0 1 rfl rfl)
theorem dX1_init_4 : decode cX1_init 4 = .ok (.aload_n 0, 1) := dk_42 (dk_at dksX1_init_0 4 rfl rfl)
theorem dX1_init_5 : decode cX1_init 5 = .ok (.new 24, 3) := dk_187 0 24 (dk_at dksX1_init_0 5 rfl rfl)
theorem dX1_init_8 : decode cX1_init 8 = .ok (.dup, 1) := dk_89 (dk_at dksX1_init_0 8 rfl rfl)
theorem dX1_init_9 : decode cX1_init 9 = .ok (.invokespecial 26, 3) := dk_183 0 26 (dk_at dksX1_init_0 9 rfl rfl)
theorem dX1_init_12 : decode cX1_init 12 = .ok (.putfield 27, 3) := dk_181 0 27 (dk_at dksX1_init_0 12 rfl rfl)
theorem dX1_init_15 : decode cX1_init 15 = .ok (.aload_n 0, 1) := dk_42 (dk_at dksX1_init_0 15 rfl rfl)
theorem dX1_init_16 : decode cX1_init 16 = .ok (.new 33, 3) := dk_187 0 33 (dk_at dksX1_init_0 16 rfl rfl)
theorem dX1_init_19 : decode cX1_init 19 = .ok (.dup, 1) := dk_89 (dk_at dksX1_init_0 19 rfl rfl)
theorem dX1_init_20 : decode cX1_init 20 = .ok (.invokespecial 35, 3) := dk_183 0 35 (dk_at dksX1_init_0 20 rfl rfl)
theorem dX1_init_23 : decode cX1_init 23 = .ok (.putfield 36, 3) := dk_181 0 36 (dk_at dksX1_init_1 0 rfl rfl)
theorem dX1_init_26 : decode cX1_init 26 = .ok (.aload_n 0, 1) := dk_42 (dk_at dksX1_init_1 3 rfl rfl)
theorem dX1_init_27 : decode cX1_init 27 = .ok (.new 40, 3) := dk_187 0 40 (dk_at dksX1_init_1 4 rfl rfl)
theorem dX1_init_30 : decode cX1_init 30 = .ok (.dup, 1) := dk_89 (dk_at dksX1_init_1 7 rfl rfl)
theorem dX1_init_31 : decode cX1_init 31 = .ok (.invokespecial 42, 3) := dk_183 0 42 (dk_at dksX1_init_1 8 rfl rfl)
theorem dX1_init_34 : decode cX1_init 34 = .ok (.putfield 43, 3) := dk_181 0 43 (dk_at dksX1_init_1 11 rfl rfl)
theorem dX1_init_37 : decode cX1_init 37 = .ok (.aload_n 0, 1) := dk_42 (dk_at dksX1_init_1 14 rfl rfl)
theorem dX1_init_38 : decode cX1_init 38 = .ok (.ldc 47, 2) := dk_18 47 (dk_at dksX1_init_1 15 rfl rfl)
theorem dX1_init_40 : decode cX1_init 40 = .ok (.putfield 49, 3) := dk_181 0 49 (dk_at dksX1_init_1 17 rfl rfl)
theorem dX1_init_43 : decode cX1_init 43 = .ok (.aload_n 0, 1) := dk_42 (dk_at dksX1_init_1 20 rfl rfl)
theorem dX1_init_44 : decode cX1_init 44 = .ok (.iconst (-1), 1) := dk_2 (dk_at dksX1_init_1 21 rfl rfl)
theorem dX1_init_45 : decode cX1_init 45 = .ok (.putfield 53, 3) := dk_181 0 53 (dk_at dksX1_init_2 0 rfl rfl)
theorem dX1_init_48 : decode cX1_init 48 = .ok (.return_, 1) := dk_177 (dk_at dksX1_init_2 3 rfl rfl)
abbrev cX1_printedAgain : ByteArray := prog_1_method_37_code
def yX1_printedAgain : MethodName := ⟨RX1, "printedAgain", "()I"⟩
def dkwX1_printedAgain_1 : List UInt8 := [182, 1, 81, 96, 42, 16, 12, 182, 1, 81, 96, 172]
abbrev dktX1_printedAgain_1 : List UInt8 := dkwX1_printedAgain_1 ++ []
def dkwX1_printedAgain_0 : List UInt8 := [42, 16, 8, 182, 1, 81, 42, 16, 9, 182, 1, 81, 96, 42, 16, 10, 182, 1, 81, 96, 42, 16, 11]
abbrev dktX1_printedAgain_0 : List UInt8 := dkwX1_printedAgain_0 ++ dktX1_printedAgain_1
theorem dksX1_printedAgain_0 : cX1_printedAgain.data.toList.drop 0 = dktX1_printedAgain_0 := by decide +kernel
theorem dksX1_printedAgain_1 : cX1_printedAgain.data.toList.drop 23 = dktX1_printedAgain_1 := dk_seg dksX1_printedAgain_0 23 rfl rfl
theorem dX1_printedAgain_0 : decode cX1_printedAgain 0 = .ok (.aload_n 0, 1) := dk_42 (dk_at dksX1_printedAgain_0 0 rfl rfl)
theorem dX1_printedAgain_1 : decode cX1_printedAgain 1 = .ok (.bipush 8, 2) := dk_16 8 (dk_at dksX1_printedAgain_0 1 rfl rfl)
theorem dX1_printedAgain_3 : decode cX1_printedAgain 3 = .ok (.invokevirtual 337, 3) := dk_182 1 81 (dk_at dksX1_printedAgain_0 3 rfl rfl)
theorem dX1_printedAgain_6 : decode cX1_printedAgain 6 = .ok (.aload_n 0, 1) := dk_42 (dk_at dksX1_printedAgain_0 6 rfl rfl)
theorem dX1_printedAgain_7 : decode cX1_printedAgain 7 = .ok (.bipush 9, 2) := dk_16 9 (dk_at dksX1_printedAgain_0 7 rfl rfl)
theorem dX1_printedAgain_9 : decode cX1_printedAgain 9 = .ok (.invokevirtual 337, 3) := dk_182 1 81 (dk_at dksX1_printedAgain_0 9 rfl rfl)
theorem dX1_printedAgain_12 : decode cX1_printedAgain 12 = .ok (.iadd, 1) := dk_96 (dk_at dksX1_printedAgain_0 12 rfl rfl)
theorem dX1_printedAgain_13 : decode cX1_printedAgain 13 = .ok (.aload_n 0, 1) := dk_42 (dk_at dksX1_printedAgain_0 13 rfl rfl)
theorem dX1_printedAgain_14 : decode cX1_printedAgain 14 = .ok (.bipush 10, 2) := dk_16 10 (dk_at dksX1_printedAgain_0 14 rfl rfl)
theorem dX1_printedAgain_16 : decode cX1_printedAgain 16 = .ok (.invokevirtual 337, 3) := dk_182 1 81 (dk_at dksX1_printedAgain_0 16 rfl rfl)
theorem dX1_printedAgain_19 : decode cX1_printedAgain 19 = .ok (.iadd, 1) := dk_96 (dk_at dksX1_printedAgain_0 19 rfl rfl)
theorem dX1_printedAgain_20 : decode cX1_printedAgain 20 = .ok (.aload_n 0, 1) := dk_42 (dk_at dksX1_printedAgain_0 20 rfl rfl)
theorem dX1_printedAgain_21 : decode cX1_printedAgain 21 = .ok (.bipush 11, 2) := dk_16 11 (dk_at dksX1_printedAgain_0 21 rfl rfl)
theorem dX1_printedAgain_23 : decode cX1_printedAgain 23 = .ok (.invokevirtual 337, 3) := dk_182 1 81 (dk_at dksX1_printedAgain_1 0 rfl rfl)
theorem dX1_printedAgain_26 : decode cX1_printedAgain 26 = .ok (.iadd, 1) := dk_96 (dk_at dksX1_printedAgain_1 3 rfl rfl)
theorem dX1_printedAgain_27 : decode cX1_printedAgain 27 = .ok (.aload_n 0, 1) := dk_42 (dk_at dksX1_printedAgain_1 4 rfl rfl)
theorem dX1_printedAgain_28 : decode cX1_printedAgain 28 = .ok (.bipush 12, 2) := dk_16 12 (dk_at dksX1_printedAgain_1 5 rfl rfl)
theorem dX1_printedAgain_30 : decode cX1_printedAgain 30 = .ok (.invokevirtual 337, 3) := dk_182 1 81 (dk_at dksX1_printedAgain_1 7 rfl rfl)
theorem dX1_printedAgain_33 : decode cX1_printedAgain 33 = .ok (.iadd, 1) := dk_96 (dk_at dksX1_printedAgain_1 10 rfl rfl)
theorem dX1_printedAgain_34 : decode cX1_printedAgain 34 = .ok (.ireturn, 1) := dk_172 (dk_at dksX1_printedAgain_1 11 rfl rfl)
abbrev cX1_number : ByteArray := prog_1_method_36_code
def yX1_number : MethodName := ⟨RX1, "number", "(I)I"⟩
def dkwX1_number_6 : List UInt8 := [180, 0, 43, 182, 1, 77, 172, 42, 180, 0, 27, 27, 182, 1, 78, 172]
abbrev dktX1_number_6 : List UInt8 := dkwX1_number_6 ++ []
def dkwX1_number_5 : List UInt8 := [180, 0, 27, 27, 182, 1, 72, 172, 42, 182, 1, 75, 172, 42, 180, 0, 36, 182, 0, 60, 172, 42]
abbrev dktX1_number_5 : List UInt8 := dkwX1_number_5 ++ dktX1_number_6
def dkwX1_number_4 : List UInt8 := [42, 180, 0, 27, 180, 1, 9, 185, 0, 134, 1, 0, 172, 42, 180, 0, 27, 2, 182, 0, 194, 172, 42]
abbrev dktX1_number_4 : List UInt8 := dkwX1_number_4 ++ dktX1_number_5
def dkwX1_number_3 : List UInt8 := [185, 0, 134, 1, 0, 172, 42, 180, 0, 27, 180, 0, 130, 185, 0, 134, 1, 0, 172, 42, 182, 1, 70, 172]
abbrev dktX1_number_3 : List UInt8 := dkwX1_number_3 ++ dktX1_number_4
def dkwX1_number_2 : List UInt8 := [42, 180, 0, 27, 180, 1, 67, 185, 0, 134, 1, 0, 172, 42, 180, 0, 27, 180, 1, 52]
abbrev dktX1_number_2 : List UInt8 := dkwX1_number_2 ++ dktX1_number_3
def dkwX1_number_1 : List UInt8 := [170, 0, 0, 0, 173, 0, 0, 0, 0, 0, 0, 0, 15, 0, 0, 0, 77, 0, 0, 0, 90, 0, 0, 0, 103, 0, 0, 0, 116, 0, 0, 0, 121, 0, 0, 0, 134, 0, 0, 0, 173, 0, 0, 0, 143, 0, 0, 0, 173, 0, 0, 0, 173, 0, 0, 0, 173, 0, 0, 0, 143, 0, 0, 0, 143, 0, 0, 0, 152, 0, 0, 0, 157, 0, 0, 0, 165]
abbrev dktX1_number_1 : List UInt8 := dkwX1_number_1 ++ dktX1_number_2
def dkwX1_number_0 : List UInt8 := [27, 3, 16, 15, 184, 0, 106, 184, 0, 110, 27]
abbrev dktX1_number_0 : List UInt8 := dkwX1_number_0 ++ dktX1_number_1
theorem dksX1_number_0 : cX1_number.data.toList.drop 0 = dktX1_number_0 := by decide +kernel
theorem dksX1_number_1 : cX1_number.data.toList.drop 11 = dktX1_number_1 := dk_seg dksX1_number_0 11 rfl rfl
theorem dksX1_number_2 : cX1_number.data.toList.drop 88 = dktX1_number_2 := dk_seg dksX1_number_1 77 rfl rfl
theorem dksX1_number_3 : cX1_number.data.toList.drop 108 = dktX1_number_3 := dk_seg dksX1_number_2 20 rfl rfl
theorem dksX1_number_4 : cX1_number.data.toList.drop 132 = dktX1_number_4 := dk_seg dksX1_number_3 24 rfl rfl
theorem dksX1_number_5 : cX1_number.data.toList.drop 155 = dktX1_number_5 := dk_seg dksX1_number_4 23 rfl rfl
theorem dksX1_number_6 : cX1_number.data.toList.drop 177 = dktX1_number_6 := dk_seg dksX1_number_5 22 rfl rfl
theorem dX1_number_0 : decode cX1_number 0 = .ok (.iload_n 1, 1) := dk_27 (dk_at dksX1_number_0 0 rfl rfl)
theorem dX1_number_1 : decode cX1_number 1 = .ok (.iconst 0, 1) := dk_3 (dk_at dksX1_number_0 1 rfl rfl)
theorem dX1_number_2 : decode cX1_number 2 = .ok (.bipush 15, 2) := dk_16 15 (dk_at dksX1_number_0 2 rfl rfl)
theorem dX1_number_4 : decode cX1_number 4 = .ok (.invokestatic 106, 3) := dk_184 0 106 (dk_at dksX1_number_0 4 rfl rfl)
theorem dX1_number_7 : decode cX1_number 7 = .ok (.invokestatic 110, 3) := dk_184 0 110 (dk_at dksX1_number_0 7 rfl rfl)
theorem dX1_number_10 : decode cX1_number 10 = .ok (.iload_n 1, 1) := dk_27 (dk_at dksX1_number_0 10 rfl rfl)
theorem dX1_number_11 : decode cX1_number 11 = .ok (.tableswitch 173 0 15 #[77, 90, 103, 116, 121, 134, 173, 143, 173, 173, 173, 143, 143, 152, 157, 165], 77) := by decide +kernel
theorem dX1_number_88 : decode cX1_number 88 = .ok (.aload_n 0, 1) := dk_42 (dk_at dksX1_number_2 0 rfl rfl)
theorem dX1_number_89 : decode cX1_number 89 = .ok (.getfield 27, 3) := dk_180 0 27 (dk_at dksX1_number_2 1 rfl rfl)
theorem dX1_number_92 : decode cX1_number 92 = .ok (.getfield 323, 3) := dk_180 1 67 (dk_at dksX1_number_2 4 rfl rfl)
theorem dX1_number_95 : decode cX1_number 95 = .ok (.invokeinterface 134 1, 5) := by decide +kernel
theorem dX1_number_100 : decode cX1_number 100 = .ok (.ireturn, 1) := dk_172 (dk_at dksX1_number_2 12 rfl rfl)
theorem dX1_number_101 : decode cX1_number 101 = .ok (.aload_n 0, 1) := dk_42 (dk_at dksX1_number_2 13 rfl rfl)
theorem dX1_number_102 : decode cX1_number 102 = .ok (.getfield 27, 3) := dk_180 0 27 (dk_at dksX1_number_2 14 rfl rfl)
theorem dX1_number_105 : decode cX1_number 105 = .ok (.getfield 308, 3) := dk_180 1 52 (dk_at dksX1_number_2 17 rfl rfl)
theorem dX1_number_108 : decode cX1_number 108 = .ok (.invokeinterface 134 1, 5) := by decide +kernel
theorem dX1_number_113 : decode cX1_number 113 = .ok (.ireturn, 1) := dk_172 (dk_at dksX1_number_3 5 rfl rfl)
theorem dX1_number_114 : decode cX1_number 114 = .ok (.aload_n 0, 1) := dk_42 (dk_at dksX1_number_3 6 rfl rfl)
theorem dX1_number_115 : decode cX1_number 115 = .ok (.getfield 27, 3) := dk_180 0 27 (dk_at dksX1_number_3 7 rfl rfl)
theorem dX1_number_118 : decode cX1_number 118 = .ok (.getfield 130, 3) := dk_180 0 130 (dk_at dksX1_number_3 10 rfl rfl)
theorem dX1_number_121 : decode cX1_number 121 = .ok (.invokeinterface 134 1, 5) := by decide +kernel
theorem dX1_number_126 : decode cX1_number 126 = .ok (.ireturn, 1) := dk_172 (dk_at dksX1_number_3 18 rfl rfl)
theorem dX1_number_127 : decode cX1_number 127 = .ok (.aload_n 0, 1) := dk_42 (dk_at dksX1_number_3 19 rfl rfl)
theorem dX1_number_128 : decode cX1_number 128 = .ok (.invokevirtual 326, 3) := dk_182 1 70 (dk_at dksX1_number_3 20 rfl rfl)
theorem dX1_number_131 : decode cX1_number 131 = .ok (.ireturn, 1) := dk_172 (dk_at dksX1_number_3 23 rfl rfl)
theorem dX1_number_132 : decode cX1_number 132 = .ok (.aload_n 0, 1) := dk_42 (dk_at dksX1_number_4 0 rfl rfl)
theorem dX1_number_133 : decode cX1_number 133 = .ok (.getfield 27, 3) := dk_180 0 27 (dk_at dksX1_number_4 1 rfl rfl)
theorem dX1_number_136 : decode cX1_number 136 = .ok (.getfield 265, 3) := dk_180 1 9 (dk_at dksX1_number_4 4 rfl rfl)
theorem dX1_number_139 : decode cX1_number 139 = .ok (.invokeinterface 134 1, 5) := by decide +kernel
theorem dX1_number_144 : decode cX1_number 144 = .ok (.ireturn, 1) := dk_172 (dk_at dksX1_number_4 12 rfl rfl)
theorem dX1_number_145 : decode cX1_number 145 = .ok (.aload_n 0, 1) := dk_42 (dk_at dksX1_number_4 13 rfl rfl)
theorem dX1_number_146 : decode cX1_number 146 = .ok (.getfield 27, 3) := dk_180 0 27 (dk_at dksX1_number_4 14 rfl rfl)
theorem dX1_number_149 : decode cX1_number 149 = .ok (.iconst (-1), 1) := dk_2 (dk_at dksX1_number_4 17 rfl rfl)
theorem dX1_number_150 : decode cX1_number 150 = .ok (.invokevirtual 194, 3) := dk_182 0 194 (dk_at dksX1_number_4 18 rfl rfl)
theorem dX1_number_153 : decode cX1_number 153 = .ok (.ireturn, 1) := dk_172 (dk_at dksX1_number_4 21 rfl rfl)
theorem dX1_number_154 : decode cX1_number 154 = .ok (.aload_n 0, 1) := dk_42 (dk_at dksX1_number_4 22 rfl rfl)
theorem dX1_number_155 : decode cX1_number 155 = .ok (.getfield 27, 3) := dk_180 0 27 (dk_at dksX1_number_5 0 rfl rfl)
theorem dX1_number_158 : decode cX1_number 158 = .ok (.iload_n 1, 1) := dk_27 (dk_at dksX1_number_5 3 rfl rfl)
theorem dX1_number_159 : decode cX1_number 159 = .ok (.invokevirtual 328, 3) := dk_182 1 72 (dk_at dksX1_number_5 4 rfl rfl)
theorem dX1_number_162 : decode cX1_number 162 = .ok (.ireturn, 1) := dk_172 (dk_at dksX1_number_5 7 rfl rfl)
theorem dX1_number_163 : decode cX1_number 163 = .ok (.aload_n 0, 1) := dk_42 (dk_at dksX1_number_5 8 rfl rfl)
theorem dX1_number_164 : decode cX1_number 164 = .ok (.invokevirtual 331, 3) := dk_182 1 75 (dk_at dksX1_number_5 9 rfl rfl)
theorem dX1_number_167 : decode cX1_number 167 = .ok (.ireturn, 1) := dk_172 (dk_at dksX1_number_5 12 rfl rfl)
theorem dX1_number_168 : decode cX1_number 168 = .ok (.aload_n 0, 1) := dk_42 (dk_at dksX1_number_5 13 rfl rfl)
theorem dX1_number_169 : decode cX1_number 169 = .ok (.getfield 36, 3) := dk_180 0 36 (dk_at dksX1_number_5 14 rfl rfl)
theorem dX1_number_172 : decode cX1_number 172 = .ok (.invokevirtual 60, 3) := dk_182 0 60 (dk_at dksX1_number_5 17 rfl rfl)
theorem dX1_number_175 : decode cX1_number 175 = .ok (.ireturn, 1) := dk_172 (dk_at dksX1_number_5 20 rfl rfl)
theorem dX1_number_176 : decode cX1_number 176 = .ok (.aload_n 0, 1) := dk_42 (dk_at dksX1_number_5 21 rfl rfl)
theorem dX1_number_177 : decode cX1_number 177 = .ok (.getfield 43, 3) := dk_180 0 43 (dk_at dksX1_number_6 0 rfl rfl)
theorem dX1_number_180 : decode cX1_number 180 = .ok (.invokevirtual 333, 3) := dk_182 1 77 (dk_at dksX1_number_6 3 rfl rfl)
theorem dX1_number_183 : decode cX1_number 183 = .ok (.ireturn, 1) := dk_172 (dk_at dksX1_number_6 6 rfl rfl)
theorem dX1_number_184 : decode cX1_number 184 = .ok (.aload_n 0, 1) := dk_42 (dk_at dksX1_number_6 7 rfl rfl)
theorem dX1_number_185 : decode cX1_number 185 = .ok (.getfield 27, 3) := dk_180 0 27 (dk_at dksX1_number_6 8 rfl rfl)
theorem dX1_number_188 : decode cX1_number 188 = .ok (.iload_n 1, 1) := dk_27 (dk_at dksX1_number_6 11 rfl rfl)
theorem dX1_number_189 : decode cX1_number 189 = .ok (.invokevirtual 334, 3) := dk_182 1 78 (dk_at dksX1_number_6 12 rfl rfl)
theorem dX1_number_192 : decode cX1_number 192 = .ok (.ireturn, 1) := dk_172 (dk_at dksX1_number_6 15 rfl rfl)
abbrev cX1_inRange : ByteArray := prog_1_method_1_code
def yX1_inRange : MethodName := ⟨RX1, "inRange", "(III)Z"⟩
def dkwX1_inRange_0 : List UInt8 := [26, 27, 161, 0, 12, 26, 28, 163, 0, 7, 4, 167, 0, 4, 3, 172]
abbrev dktX1_inRange_0 : List UInt8 := dkwX1_inRange_0 ++ []
theorem dksX1_inRange_0 : cX1_inRange.data.toList.drop 0 = dktX1_inRange_0 := by decide +kernel
theorem dX1_inRange_0 : decode cX1_inRange 0 = .ok (.iload_n 0, 1) := dk_26 (dk_at dksX1_inRange_0 0 rfl rfl)
theorem dX1_inRange_1 : decode cX1_inRange 1 = .ok (.iload_n 1, 1) := dk_27 (dk_at dksX1_inRange_0 1 rfl rfl)
theorem dX1_inRange_2 : decode cX1_inRange 2 = .ok (.if_icmp .lt 12, 3) := dk_161 0 12 (dk_at dksX1_inRange_0 2 rfl rfl)
theorem dX1_inRange_5 : decode cX1_inRange 5 = .ok (.iload_n 0, 1) := dk_26 (dk_at dksX1_inRange_0 5 rfl rfl)
theorem dX1_inRange_6 : decode cX1_inRange 6 = .ok (.iload_n 2, 1) := dk_28 (dk_at dksX1_inRange_0 6 rfl rfl)
theorem dX1_inRange_7 : decode cX1_inRange 7 = .ok (.if_icmp .gt 7, 3) := dk_163 0 7 (dk_at dksX1_inRange_0 7 rfl rfl)
theorem dX1_inRange_10 : decode cX1_inRange 10 = .ok (.iconst 1, 1) := dk_4 (dk_at dksX1_inRange_0 10 rfl rfl)
theorem dX1_inRange_11 : decode cX1_inRange 11 = .ok (.goto 4, 3) := dk_167 0 4 (dk_at dksX1_inRange_0 11 rfl rfl)
theorem dX1_inRange_14 : decode cX1_inRange 14 = .ok (.iconst 0, 1) := dk_3 (dk_at dksX1_inRange_0 14 rfl rfl)
theorem dX1_inRange_15 : decode cX1_inRange 15 = .ok (.ireturn, 1) := dk_172 (dk_at dksX1_inRange_0 15 rfl rfl)
abbrev cX1_require : ByteArray := prog_1_method_2_code
def yX1_require : MethodName := ⟨RX1, "require", "(Z)V"⟩
def dkwX1_require_0 : List UInt8 := [26, 154, 0, 11, 187, 0, 1, 89, 183, 0, 3, 191, 177]
abbrev dktX1_require_0 : List UInt8 := dkwX1_require_0 ++ []
theorem dksX1_require_0 : cX1_require.data.toList.drop 0 = dktX1_require_0 := by decide +kernel
theorem dX1_require_0 : decode cX1_require 0 = .ok (.iload_n 0, 1) := dk_26 (dk_at dksX1_require_0 0 rfl rfl)
theorem dX1_require_1 : decode cX1_require 1 = .ok (.ifCond .ne 11, 3) := dk_154 0 11 (dk_at dksX1_require_0 1 rfl rfl)
theorem dX1_require_4 : decode cX1_require 4 = .ok (.new 1, 3) := dk_187 0 1 (dk_at dksX1_require_0 4 rfl rfl)
theorem dX1_require_7 : decode cX1_require 7 = .ok (.dup, 1) := dk_89 (dk_at dksX1_require_0 7 rfl rfl)
theorem dX1_require_8 : decode cX1_require 8 = .ok (.invokespecial 3, 3) := dk_183 0 3 (dk_at dksX1_require_0 8 rfl rfl)
theorem dX1_require_11 : decode cX1_require 11 = .ok (.athrow, 1) := dk_191 (dk_at dksX1_require_0 11 rfl rfl)
theorem dX1_require_12 : decode cX1_require 12 = .ok (.return_, 1) := dk_177 (dk_at dksX1_require_0 12 rfl rfl)
abbrev cX1_back : ByteArray := prog_1_method_35_code
def yX1_back : MethodName := ⟨RX1, "back", "()I"⟩
def dkwX1_back_2 : List UInt8 := [60, 167, 255, 222, 27, 172]
abbrev dktX1_back_2 : List UInt8 := dkwX1_back_2 ++ []
def dkwX1_back_1 : List UInt8 := [44, 185, 1, 64, 1, 0, 192, 0, 141, 78, 27, 45, 180, 0, 191, 153, 0, 7, 4, 167, 0, 4, 3, 96]
abbrev dktX1_back_1 : List UInt8 := dkwX1_back_1 ++ dktX1_back_2
def dkwX1_back_0 : List UInt8 := [3, 60, 42, 180, 0, 27, 180, 0, 130, 185, 1, 55, 1, 0, 77, 44, 185, 1, 59, 1, 0, 153, 0, 31]
abbrev dktX1_back_0 : List UInt8 := dkwX1_back_0 ++ dktX1_back_1
theorem dksX1_back_0 : cX1_back.data.toList.drop 0 = dktX1_back_0 := by decide +kernel
theorem dksX1_back_1 : cX1_back.data.toList.drop 24 = dktX1_back_1 := dk_seg dksX1_back_0 24 rfl rfl
theorem dksX1_back_2 : cX1_back.data.toList.drop 48 = dktX1_back_2 := dk_seg dksX1_back_1 24 rfl rfl
theorem dX1_back_0 : decode cX1_back 0 = .ok (.iconst 0, 1) := dk_3 (dk_at dksX1_back_0 0 rfl rfl)
theorem dX1_back_1 : decode cX1_back 1 = .ok (.istore_n 1, 1) := dk_60 (dk_at dksX1_back_0 1 rfl rfl)
theorem dX1_back_2 : decode cX1_back 2 = .ok (.aload_n 0, 1) := dk_42 (dk_at dksX1_back_0 2 rfl rfl)
theorem dX1_back_3 : decode cX1_back 3 = .ok (.getfield 27, 3) := dk_180 0 27 (dk_at dksX1_back_0 3 rfl rfl)
theorem dX1_back_6 : decode cX1_back 6 = .ok (.getfield 130, 3) := dk_180 0 130 (dk_at dksX1_back_0 6 rfl rfl)
theorem dX1_back_9 : decode cX1_back 9 = .ok (.invokeinterface 311 1, 5) := by decide +kernel
theorem dX1_back_14 : decode cX1_back 14 = .ok (.astore_n 2, 1) := dk_77 (dk_at dksX1_back_0 14 rfl rfl)
theorem dX1_back_15 : decode cX1_back 15 = .ok (.aload_n 2, 1) := dk_44 (dk_at dksX1_back_0 15 rfl rfl)
theorem dX1_back_16 : decode cX1_back 16 = .ok (.invokeinterface 315 1, 5) := by decide +kernel
theorem dX1_back_21 : decode cX1_back 21 = .ok (.ifCond .eq 31, 3) := dk_153 0 31 (dk_at dksX1_back_0 21 rfl rfl)
theorem dX1_back_24 : decode cX1_back 24 = .ok (.aload_n 2, 1) := dk_44 (dk_at dksX1_back_1 0 rfl rfl)
theorem dX1_back_25 : decode cX1_back 25 = .ok (.invokeinterface 320 1, 5) := by decide +kernel
theorem dX1_back_30 : decode cX1_back 30 = .ok (.checkcast 141, 3) := dk_192 0 141 (dk_at dksX1_back_1 6 rfl rfl)
theorem dX1_back_33 : decode cX1_back 33 = .ok (.astore_n 3, 1) := dk_78 (dk_at dksX1_back_1 9 rfl rfl)
theorem dX1_back_34 : decode cX1_back 34 = .ok (.iload_n 1, 1) := dk_27 (dk_at dksX1_back_1 10 rfl rfl)
theorem dX1_back_35 : decode cX1_back 35 = .ok (.aload_n 3, 1) := dk_45 (dk_at dksX1_back_1 11 rfl rfl)
theorem dX1_back_36 : decode cX1_back 36 = .ok (.getfield 191, 3) := dk_180 0 191 (dk_at dksX1_back_1 12 rfl rfl)
theorem dX1_back_39 : decode cX1_back 39 = .ok (.ifCond .eq 7, 3) := dk_153 0 7 (dk_at dksX1_back_1 15 rfl rfl)
theorem dX1_back_42 : decode cX1_back 42 = .ok (.iconst 1, 1) := dk_4 (dk_at dksX1_back_1 18 rfl rfl)
theorem dX1_back_43 : decode cX1_back 43 = .ok (.goto 4, 3) := dk_167 0 4 (dk_at dksX1_back_1 19 rfl rfl)
theorem dX1_back_46 : decode cX1_back 46 = .ok (.iconst 0, 1) := dk_3 (dk_at dksX1_back_1 22 rfl rfl)
theorem dX1_back_47 : decode cX1_back 47 = .ok (.iadd, 1) := dk_96 (dk_at dksX1_back_1 23 rfl rfl)
theorem dX1_back_48 : decode cX1_back 48 = .ok (.istore_n 1, 1) := dk_60 (dk_at dksX1_back_2 0 rfl rfl)
theorem dX1_back_49 : decode cX1_back 49 = .ok (.goto (-34), 3) := dk_167 255 222 (dk_at dksX1_back_2 1 rfl rfl)
theorem dX1_back_52 : decode cX1_back 52 = .ok (.iload_n 1, 1) := dk_27 (dk_at dksX1_back_2 4 rfl rfl)
theorem dX1_back_53 : decode cX1_back 53 = .ok (.ireturn, 1) := dk_172 (dk_at dksX1_back_2 5 rfl rfl)
abbrev cX1_requireElement : ByteArray := prog_1_method_5_code
def yX1_requireElement : MethodName := ⟨RX1, "requireElement", "(Z)V"⟩
def dkwX1_requireElement_0 : List UInt8 := [26, 154, 0, 11, 187, 0, 13, 89, 183, 0, 15, 191, 177]
abbrev dktX1_requireElement_0 : List UInt8 := dkwX1_requireElement_0 ++ []
theorem dksX1_requireElement_0 : cX1_requireElement.data.toList.drop 0 = dktX1_requireElement_0 := by decide +kernel
theorem dX1_requireElement_0 : decode cX1_requireElement 0 = .ok (.iload_n 0, 1) := dk_26 (dk_at dksX1_requireElement_0 0 rfl rfl)
theorem dX1_requireElement_1 : decode cX1_requireElement 1 = .ok (.ifCond .ne 11, 3) := dk_154 0 11 (dk_at dksX1_requireElement_0 1 rfl rfl)
theorem dX1_requireElement_4 : decode cX1_requireElement 4 = .ok (.new 13, 3) := dk_187 0 13 (dk_at dksX1_requireElement_0 4 rfl rfl)
theorem dX1_requireElement_7 : decode cX1_requireElement 7 = .ok (.dup, 1) := dk_89 (dk_at dksX1_requireElement_0 7 rfl rfl)
theorem dX1_requireElement_8 : decode cX1_requireElement 8 = .ok (.invokespecial 15, 3) := dk_183 0 15 (dk_at dksX1_requireElement_0 8 rfl rfl)
theorem dX1_requireElement_11 : decode cX1_requireElement 11 = .ok (.athrow, 1) := dk_191 (dk_at dksX1_requireElement_0 11 rfl rfl)
theorem dX1_requireElement_12 : decode cX1_requireElement 12 = .ok (.return_, 1) := dk_177 (dk_at dksX1_requireElement_0 12 rfl rfl)
abbrev cX1_grams : ByteArray := prog_1_method_34_code
def yX1_grams : MethodName := ⟨RX1, "grams", "()I"⟩
def dkwX1_grams_1 : List UInt8 := [44, 185, 1, 64, 1, 0, 192, 0, 162, 78, 27, 45, 180, 0, 169, 96, 60, 167, 255, 230, 27, 172]
abbrev dktX1_grams_1 : List UInt8 := dkwX1_grams_1 ++ []
def dkwX1_grams_0 : List UInt8 := [3, 60, 42, 180, 0, 27, 180, 1, 52, 185, 1, 55, 1, 0, 77, 44, 185, 1, 59, 1, 0, 153, 0, 23]
abbrev dktX1_grams_0 : List UInt8 := dkwX1_grams_0 ++ dktX1_grams_1
theorem dksX1_grams_0 : cX1_grams.data.toList.drop 0 = dktX1_grams_0 := by decide +kernel
theorem dksX1_grams_1 : cX1_grams.data.toList.drop 24 = dktX1_grams_1 := dk_seg dksX1_grams_0 24 rfl rfl
theorem dX1_grams_0 : decode cX1_grams 0 = .ok (.iconst 0, 1) := dk_3 (dk_at dksX1_grams_0 0 rfl rfl)
theorem dX1_grams_1 : decode cX1_grams 1 = .ok (.istore_n 1, 1) := dk_60 (dk_at dksX1_grams_0 1 rfl rfl)
theorem dX1_grams_2 : decode cX1_grams 2 = .ok (.aload_n 0, 1) := dk_42 (dk_at dksX1_grams_0 2 rfl rfl)
theorem dX1_grams_3 : decode cX1_grams 3 = .ok (.getfield 27, 3) := dk_180 0 27 (dk_at dksX1_grams_0 3 rfl rfl)
theorem dX1_grams_6 : decode cX1_grams 6 = .ok (.getfield 308, 3) := dk_180 1 52 (dk_at dksX1_grams_0 6 rfl rfl)
theorem dX1_grams_9 : decode cX1_grams 9 = .ok (.invokeinterface 311 1, 5) := by decide +kernel
theorem dX1_grams_14 : decode cX1_grams 14 = .ok (.astore_n 2, 1) := dk_77 (dk_at dksX1_grams_0 14 rfl rfl)
theorem dX1_grams_15 : decode cX1_grams 15 = .ok (.aload_n 2, 1) := dk_44 (dk_at dksX1_grams_0 15 rfl rfl)
theorem dX1_grams_16 : decode cX1_grams 16 = .ok (.invokeinterface 315 1, 5) := by decide +kernel
theorem dX1_grams_21 : decode cX1_grams 21 = .ok (.ifCond .eq 23, 3) := dk_153 0 23 (dk_at dksX1_grams_0 21 rfl rfl)
theorem dX1_grams_24 : decode cX1_grams 24 = .ok (.aload_n 2, 1) := dk_44 (dk_at dksX1_grams_1 0 rfl rfl)
theorem dX1_grams_25 : decode cX1_grams 25 = .ok (.invokeinterface 320 1, 5) := by decide +kernel
theorem dX1_grams_30 : decode cX1_grams 30 = .ok (.checkcast 162, 3) := dk_192 0 162 (dk_at dksX1_grams_1 6 rfl rfl)
theorem dX1_grams_33 : decode cX1_grams 33 = .ok (.astore_n 3, 1) := dk_78 (dk_at dksX1_grams_1 9 rfl rfl)
theorem dX1_grams_34 : decode cX1_grams 34 = .ok (.iload_n 1, 1) := dk_27 (dk_at dksX1_grams_1 10 rfl rfl)
theorem dX1_grams_35 : decode cX1_grams 35 = .ok (.aload_n 3, 1) := dk_45 (dk_at dksX1_grams_1 11 rfl rfl)
theorem dX1_grams_36 : decode cX1_grams 36 = .ok (.getfield 169, 3) := dk_180 0 169 (dk_at dksX1_grams_1 12 rfl rfl)
theorem dX1_grams_39 : decode cX1_grams 39 = .ok (.iadd, 1) := dk_96 (dk_at dksX1_grams_1 15 rfl rfl)
theorem dX1_grams_40 : decode cX1_grams 40 = .ok (.istore_n 1, 1) := dk_60 (dk_at dksX1_grams_1 16 rfl rfl)
theorem dX1_grams_41 : decode cX1_grams 41 = .ok (.goto (-26), 3) := dk_167 255 230 (dk_at dksX1_grams_1 17 rfl rfl)
theorem dX1_grams_44 : decode cX1_grams 44 = .ok (.iload_n 1, 1) := dk_27 (dk_at dksX1_grams_1 20 rfl rfl)
theorem dX1_grams_45 : decode cX1_grams 45 = .ok (.ireturn, 1) := dk_172 (dk_at dksX1_grams_1 21 rfl rfl)
abbrev cX1_saveSnapshot : ByteArray := prog_1_method_46_code
def yX1_saveSnapshot : MethodName := ⟨RX1, "saveSnapshot", "()I"⟩
def dkwX1_saveSnapshot_0 : List UInt8 := [42, 42, 182, 0, 72, 181, 1, 134, 42, 180, 1, 134, 180, 0, 130, 185, 0, 134, 1, 0, 172]
abbrev dktX1_saveSnapshot_0 : List UInt8 := dkwX1_saveSnapshot_0 ++ []
theorem dksX1_saveSnapshot_0 : cX1_saveSnapshot.data.toList.drop 0 = dktX1_saveSnapshot_0 := by decide +kernel
theorem dX1_saveSnapshot_0 : decode cX1_saveSnapshot 0 = .ok (.aload_n 0, 1) := dk_42 (dk_at dksX1_saveSnapshot_0 0 rfl rfl)
theorem dX1_saveSnapshot_1 : decode cX1_saveSnapshot 1 = .ok (.aload_n 0, 1) := dk_42 (dk_at dksX1_saveSnapshot_0 1 rfl rfl)
theorem dX1_saveSnapshot_2 : decode cX1_saveSnapshot 2 = .ok (.invokevirtual 72, 3) := dk_182 0 72 (dk_at dksX1_saveSnapshot_0 2 rfl rfl)
theorem dX1_saveSnapshot_5 : decode cX1_saveSnapshot 5 = .ok (.putfield 390, 3) := dk_181 1 134 (dk_at dksX1_saveSnapshot_0 5 rfl rfl)
theorem dX1_saveSnapshot_8 : decode cX1_saveSnapshot 8 = .ok (.aload_n 0, 1) := dk_42 (dk_at dksX1_saveSnapshot_0 8 rfl rfl)
theorem dX1_saveSnapshot_9 : decode cX1_saveSnapshot 9 = .ok (.getfield 390, 3) := dk_180 1 134 (dk_at dksX1_saveSnapshot_0 9 rfl rfl)
theorem dX1_saveSnapshot_12 : decode cX1_saveSnapshot 12 = .ok (.getfield 130, 3) := dk_180 0 130 (dk_at dksX1_saveSnapshot_0 12 rfl rfl)
theorem dX1_saveSnapshot_15 : decode cX1_saveSnapshot 15 = .ok (.invokeinterface 134 1, 5) := by decide +kernel
theorem dX1_saveSnapshot_20 : decode cX1_saveSnapshot 20 = .ok (.ireturn, 1) := dk_172 (dk_at dksX1_saveSnapshot_0 20 rfl rfl)
abbrev cX1_draft : ByteArray := prog_1_method_8_code
def yX1_draft : MethodName := ⟨RX1, "draft", "()LBlockPapers$Workshop;"⟩
def dkwX1_draft_0 : List UInt8 := [187, 0, 24, 89, 42, 180, 0, 27, 183, 0, 57, 176]
abbrev dktX1_draft_0 : List UInt8 := dkwX1_draft_0 ++ []
theorem dksX1_draft_0 : cX1_draft.data.toList.drop 0 = dktX1_draft_0 := by decide +kernel
theorem dX1_draft_0 : decode cX1_draft 0 = .ok (.new 24, 3) := dk_187 0 24 (dk_at dksX1_draft_0 0 rfl rfl)
theorem dX1_draft_3 : decode cX1_draft 3 = .ok (.dup, 1) := dk_89 (dk_at dksX1_draft_0 3 rfl rfl)
theorem dX1_draft_4 : decode cX1_draft 4 = .ok (.aload_n 0, 1) := dk_42 (dk_at dksX1_draft_0 4 rfl rfl)
theorem dX1_draft_5 : decode cX1_draft 5 = .ok (.getfield 27, 3) := dk_180 0 27 (dk_at dksX1_draft_0 5 rfl rfl)
theorem dX1_draft_8 : decode cX1_draft 8 = .ok (.invokespecial 57, 3) := dk_183 0 57 (dk_at dksX1_draft_0 8 rfl rfl)
theorem dX1_draft_11 : decode cX1_draft 11 = .ok (.areturn, 1) := dk_176 (dk_at dksX1_draft_0 11 rfl rfl)
abbrev cX1_block : ByteArray := prog_1_method_11_code
def yX1_block : MethodName := ⟨RX1, "block", "(IZ)I"⟩
def dkwX1_block_0 : List UInt8 := [42, 187, 0, 92, 89, 18, 94, 27, 28, 153, 0, 7, 4, 167, 0, 4, 3, 183, 0, 96, 182, 0, 99, 172]
abbrev dktX1_block_0 : List UInt8 := dkwX1_block_0 ++ []
theorem dksX1_block_0 : cX1_block.data.toList.drop 0 = dktX1_block_0 := by decide +kernel
theorem dX1_block_0 : decode cX1_block 0 = .ok (.aload_n 0, 1) := dk_42 (dk_at dksX1_block_0 0 rfl rfl)
theorem dX1_block_1 : decode cX1_block 1 = .ok (.new 92, 3) := dk_187 0 92 (dk_at dksX1_block_0 1 rfl rfl)
theorem dX1_block_4 : decode cX1_block 4 = .ok (.dup, 1) := dk_89 (dk_at dksX1_block_0 4 rfl rfl)
theorem dX1_block_5 : decode cX1_block 5 = .ok (.ldc 94, 2) := dk_18 94 (dk_at dksX1_block_0 5 rfl rfl)
theorem dX1_block_7 : decode cX1_block 7 = .ok (.iload_n 1, 1) := dk_27 (dk_at dksX1_block_0 7 rfl rfl)
theorem dX1_block_8 : decode cX1_block 8 = .ok (.iload_n 2, 1) := dk_28 (dk_at dksX1_block_0 8 rfl rfl)
theorem dX1_block_9 : decode cX1_block 9 = .ok (.ifCond .eq 7, 3) := dk_153 0 7 (dk_at dksX1_block_0 9 rfl rfl)
theorem dX1_block_12 : decode cX1_block 12 = .ok (.iconst 1, 1) := dk_4 (dk_at dksX1_block_0 12 rfl rfl)
theorem dX1_block_13 : decode cX1_block 13 = .ok (.goto 4, 3) := dk_167 0 4 (dk_at dksX1_block_0 13 rfl rfl)
theorem dX1_block_16 : decode cX1_block 16 = .ok (.iconst 0, 1) := dk_3 (dk_at dksX1_block_0 16 rfl rfl)
theorem dX1_block_17 : decode cX1_block 17 = .ok (.invokespecial 96, 3) := dk_183 0 96 (dk_at dksX1_block_0 17 rfl rfl)
theorem dX1_block_20 : decode cX1_block 20 = .ok (.invokevirtual 99, 3) := dk_182 0 99 (dk_at dksX1_block_0 20 rfl rfl)
theorem dX1_block_23 : decode cX1_block 23 = .ok (.ireturn, 1) := dk_172 (dk_at dksX1_block_0 23 rfl rfl)
abbrev cX1_change : ByteArray := prog_1_method_10_code
def yX1_change : MethodName := ⟨RX1, "change", "(LBlockPapers$Deed;)I"⟩
def dkwX1_change_1 : List UInt8 := [181, 0, 85, 187, 0, 89, 89, 183, 0, 91, 191]
abbrev dktX1_change_1 : List UInt8 := dkwX1_change_1 ++ []
def dkwX1_change_0 : List UInt8 := [42, 182, 0, 72, 77, 43, 44, 185, 0, 76, 2, 0, 62, 42, 44, 182, 0, 82, 29, 172, 78, 42, 45]
abbrev dktX1_change_0 : List UInt8 := dkwX1_change_0 ++ dktX1_change_1
theorem dksX1_change_0 : cX1_change.data.toList.drop 0 = dktX1_change_0 := by decide +kernel
theorem dksX1_change_1 : cX1_change.data.toList.drop 23 = dktX1_change_1 := dk_seg dksX1_change_0 23 rfl rfl
theorem dX1_change_0 : decode cX1_change 0 = .ok (.aload_n 0, 1) := dk_42 (dk_at dksX1_change_0 0 rfl rfl)
theorem dX1_change_1 : decode cX1_change 1 = .ok (.invokevirtual 72, 3) := dk_182 0 72 (dk_at dksX1_change_0 1 rfl rfl)
theorem dX1_change_4 : decode cX1_change 4 = .ok (.astore_n 2, 1) := dk_77 (dk_at dksX1_change_0 4 rfl rfl)
theorem dX1_change_5 : decode cX1_change 5 = .ok (.aload_n 1, 1) := dk_43 (dk_at dksX1_change_0 5 rfl rfl)
theorem dX1_change_6 : decode cX1_change 6 = .ok (.aload_n 2, 1) := dk_44 (dk_at dksX1_change_0 6 rfl rfl)
theorem dX1_change_7 : decode cX1_change 7 = .ok (.invokeinterface 76 2, 5) := by decide +kernel
theorem dX1_change_12 : decode cX1_change 12 = .ok (.istore_n 3, 1) := dk_62 (dk_at dksX1_change_0 12 rfl rfl)
theorem dX1_change_13 : decode cX1_change 13 = .ok (.aload_n 0, 1) := dk_42 (dk_at dksX1_change_0 13 rfl rfl)
theorem dX1_change_14 : decode cX1_change 14 = .ok (.aload_n 2, 1) := dk_44 (dk_at dksX1_change_0 14 rfl rfl)
theorem dX1_change_15 : decode cX1_change 15 = .ok (.invokevirtual 82, 3) := dk_182 0 82 (dk_at dksX1_change_0 15 rfl rfl)
theorem dX1_change_18 : decode cX1_change 18 = .ok (.iload_n 3, 1) := dk_29 (dk_at dksX1_change_0 18 rfl rfl)
theorem dX1_change_19 : decode cX1_change 19 = .ok (.ireturn, 1) := dk_172 (dk_at dksX1_change_0 19 rfl rfl)
theorem dX1_change_20 : decode cX1_change 20 = .ok (.astore_n 3, 1) := dk_78 (dk_at dksX1_change_0 20 rfl rfl)
theorem dX1_change_21 : decode cX1_change 21 = .ok (.aload_n 0, 1) := dk_42 (dk_at dksX1_change_0 21 rfl rfl)
theorem dX1_change_22 : decode cX1_change 22 = .ok (.aload_n 3, 1) := dk_45 (dk_at dksX1_change_0 22 rfl rfl)
theorem dX1_change_23 : decode cX1_change 23 = .ok (.putfield 85, 3) := dk_181 0 85 (dk_at dksX1_change_1 0 rfl rfl)
theorem dX1_change_26 : decode cX1_change 26 = .ok (.new 89, 3) := dk_187 0 89 (dk_at dksX1_change_1 3 rfl rfl)
theorem dX1_change_29 : decode cX1_change 29 = .ok (.dup, 1) := dk_89 (dk_at dksX1_change_1 6 rfl rfl)
theorem dX1_change_30 : decode cX1_change 30 = .ok (.invokespecial 91, 3) := dk_183 0 91 (dk_at dksX1_change_1 7 rfl rfl)
theorem dX1_change_33 : decode cX1_change 33 = .ok (.athrow, 1) := dk_191 (dk_at dksX1_change_1 10 rfl rfl)
abbrev cX1_allow : ByteArray := prog_1_method_6_code
def yX1_allow : MethodName := ⟨RX1, "allow", "(ZII)V"⟩
def dkwX1_allow_0 : List UInt8 := [26, 154, 0, 13, 187, 0, 16, 89, 27, 28, 183, 0, 18, 191, 177]
abbrev dktX1_allow_0 : List UInt8 := dkwX1_allow_0 ++ []
theorem dksX1_allow_0 : cX1_allow.data.toList.drop 0 = dktX1_allow_0 := by decide +kernel
theorem dX1_allow_0 : decode cX1_allow 0 = .ok (.iload_n 0, 1) := dk_26 (dk_at dksX1_allow_0 0 rfl rfl)
theorem dX1_allow_1 : decode cX1_allow 1 = .ok (.ifCond .ne 13, 3) := dk_154 0 13 (dk_at dksX1_allow_0 1 rfl rfl)
theorem dX1_allow_4 : decode cX1_allow 4 = .ok (.new 16, 3) := dk_187 0 16 (dk_at dksX1_allow_0 4 rfl rfl)
theorem dX1_allow_7 : decode cX1_allow 7 = .ok (.dup, 1) := dk_89 (dk_at dksX1_allow_0 7 rfl rfl)
theorem dX1_allow_8 : decode cX1_allow 8 = .ok (.iload_n 1, 1) := dk_27 (dk_at dksX1_allow_0 8 rfl rfl)
theorem dX1_allow_9 : decode cX1_allow 9 = .ok (.iload_n 2, 1) := dk_28 (dk_at dksX1_allow_0 9 rfl rfl)
theorem dX1_allow_10 : decode cX1_allow 10 = .ok (.invokespecial 18, 3) := dk_183 0 18 (dk_at dksX1_allow_0 10 rfl rfl)
theorem dX1_allow_13 : decode cX1_allow 13 = .ok (.athrow, 1) := dk_191 (dk_at dksX1_allow_0 13 rfl rfl)
theorem dX1_allow_14 : decode cX1_allow 14 = .ok (.return_, 1) := dk_177 (dk_at dksX1_allow_0 14 rfl rfl)
abbrev cX1_requireIndex : ByteArray := prog_1_method_3_code
def yX1_requireIndex : MethodName := ⟨RX1, "requireIndex", "(Z)V"⟩
def dkwX1_requireIndex_0 : List UInt8 := [26, 154, 0, 11, 187, 0, 7, 89, 183, 0, 9, 191, 177]
abbrev dktX1_requireIndex_0 : List UInt8 := dkwX1_requireIndex_0 ++ []
theorem dksX1_requireIndex_0 : cX1_requireIndex.data.toList.drop 0 = dktX1_requireIndex_0 := by decide +kernel
theorem dX1_requireIndex_0 : decode cX1_requireIndex 0 = .ok (.iload_n 0, 1) := dk_26 (dk_at dksX1_requireIndex_0 0 rfl rfl)
theorem dX1_requireIndex_1 : decode cX1_requireIndex 1 = .ok (.ifCond .ne 11, 3) := dk_154 0 11 (dk_at dksX1_requireIndex_0 1 rfl rfl)
theorem dX1_requireIndex_4 : decode cX1_requireIndex 4 = .ok (.new 7, 3) := dk_187 0 7 (dk_at dksX1_requireIndex_0 4 rfl rfl)
theorem dX1_requireIndex_7 : decode cX1_requireIndex 7 = .ok (.dup, 1) := dk_89 (dk_at dksX1_requireIndex_0 7 rfl rfl)
theorem dX1_requireIndex_8 : decode cX1_requireIndex 8 = .ok (.invokespecial 9, 3) := dk_183 0 9 (dk_at dksX1_requireIndex_0 8 rfl rfl)
theorem dX1_requireIndex_11 : decode cX1_requireIndex 11 = .ok (.athrow, 1) := dk_191 (dk_at dksX1_requireIndex_0 11 rfl rfl)
theorem dX1_requireIndex_12 : decode cX1_requireIndex 12 = .ok (.return_, 1) := dk_177 (dk_at dksX1_requireIndex_0 12 rfl rfl)
abbrev cX1_replace : ByteArray := prog_1_method_9_code
def yX1_replace : MethodName := ⟨RX1, "replace", "(LBlockPapers$Workshop;)V"⟩
def dkwX1_replace_1 : List UInt8 := [180, 0, 36, 42, 180, 0, 27, 182, 0, 68, 42, 43, 181, 0, 27, 177]
abbrev dktX1_replace_1 : List UInt8 := dkwX1_replace_1 ++ []
def dkwX1_replace_0 : List UInt8 := [42, 180, 0, 36, 182, 0, 60, 16, 8, 160, 0, 14, 42, 180, 0, 36, 182, 0, 64, 192, 0, 24, 77, 42]
abbrev dktX1_replace_0 : List UInt8 := dkwX1_replace_0 ++ dktX1_replace_1
theorem dksX1_replace_0 : cX1_replace.data.toList.drop 0 = dktX1_replace_0 := by decide +kernel
theorem dksX1_replace_1 : cX1_replace.data.toList.drop 24 = dktX1_replace_1 := dk_seg dksX1_replace_0 24 rfl rfl
theorem dX1_replace_0 : decode cX1_replace 0 = .ok (.aload_n 0, 1) := dk_42 (dk_at dksX1_replace_0 0 rfl rfl)
theorem dX1_replace_1 : decode cX1_replace 1 = .ok (.getfield 36, 3) := dk_180 0 36 (dk_at dksX1_replace_0 1 rfl rfl)
theorem dX1_replace_4 : decode cX1_replace 4 = .ok (.invokevirtual 60, 3) := dk_182 0 60 (dk_at dksX1_replace_0 4 rfl rfl)
theorem dX1_replace_7 : decode cX1_replace 7 = .ok (.bipush 8, 2) := dk_16 8 (dk_at dksX1_replace_0 7 rfl rfl)
theorem dX1_replace_9 : decode cX1_replace 9 = .ok (.if_icmp .ne 14, 3) := dk_160 0 14 (dk_at dksX1_replace_0 9 rfl rfl)
theorem dX1_replace_12 : decode cX1_replace 12 = .ok (.aload_n 0, 1) := dk_42 (dk_at dksX1_replace_0 12 rfl rfl)
theorem dX1_replace_13 : decode cX1_replace 13 = .ok (.getfield 36, 3) := dk_180 0 36 (dk_at dksX1_replace_0 13 rfl rfl)
theorem dX1_replace_16 : decode cX1_replace 16 = .ok (.invokevirtual 64, 3) := dk_182 0 64 (dk_at dksX1_replace_0 16 rfl rfl)
theorem dX1_replace_19 : decode cX1_replace 19 = .ok (.checkcast 24, 3) := dk_192 0 24 (dk_at dksX1_replace_0 19 rfl rfl)
theorem dX1_replace_22 : decode cX1_replace 22 = .ok (.astore_n 2, 1) := dk_77 (dk_at dksX1_replace_0 22 rfl rfl)
theorem dX1_replace_23 : decode cX1_replace 23 = .ok (.aload_n 0, 1) := dk_42 (dk_at dksX1_replace_0 23 rfl rfl)
theorem dX1_replace_24 : decode cX1_replace 24 = .ok (.getfield 36, 3) := dk_180 0 36 (dk_at dksX1_replace_1 0 rfl rfl)
theorem dX1_replace_27 : decode cX1_replace 27 = .ok (.aload_n 0, 1) := dk_42 (dk_at dksX1_replace_1 3 rfl rfl)
theorem dX1_replace_28 : decode cX1_replace 28 = .ok (.getfield 27, 3) := dk_180 0 27 (dk_at dksX1_replace_1 4 rfl rfl)
theorem dX1_replace_31 : decode cX1_replace 31 = .ok (.invokevirtual 68, 3) := dk_182 0 68 (dk_at dksX1_replace_1 7 rfl rfl)
theorem dX1_replace_34 : decode cX1_replace 34 = .ok (.aload_n 0, 1) := dk_42 (dk_at dksX1_replace_1 10 rfl rfl)
theorem dX1_replace_35 : decode cX1_replace 35 = .ok (.aload_n 1, 1) := dk_43 (dk_at dksX1_replace_1 11 rfl rfl)
theorem dX1_replace_36 : decode cX1_replace 36 = .ok (.putfield 27, 3) := dk_181 0 27 (dk_at dksX1_replace_1 12 rfl rfl)
theorem dX1_replace_39 : decode cX1_replace 39 = .ok (.return_, 1) := dk_177 (dk_at dksX1_replace_1 15 rfl rfl)
abbrev cX1_blockOf : ByteArray := prog_1_method_12_code
def yX1_blockOf : MethodName := ⟨RX1, "blockOf", "(II)I"⟩
def dkwX1_blockOf_3 : List UInt8 := [27, 4, 182, 0, 126, 172]
abbrev dktX1_blockOf_3 : List UInt8 := dkwX1_blockOf_3 ++ []
def dkwX1_blockOf_2 : List UInt8 := [45, 180, 0, 114, 172, 45, 180, 0, 119, 153, 0, 7, 4, 167, 0, 4, 3, 172, 45, 180, 0, 123, 172, 42]
abbrev dktX1_blockOf_2 : List UInt8 := dkwX1_blockOf_2 ++ dktX1_blockOf_3
def dkwX1_blockOf_1 : List UInt8 := [170, 0, 0, 0, 48, 0, 0, 0, 0, 0, 0, 0, 2, 0, 0, 0, 25, 0, 0, 0, 30, 0, 0, 0, 43]
abbrev dktX1_blockOf_1 : List UInt8 := dkwX1_blockOf_1 ++ dktX1_blockOf_2
def dkwX1_blockOf_0 : List UInt8 := [42, 180, 0, 27, 27, 182, 0, 103, 78, 28, 3, 6, 184, 0, 106, 184, 0, 110, 28]
abbrev dktX1_blockOf_0 : List UInt8 := dkwX1_blockOf_0 ++ dktX1_blockOf_1
theorem dksX1_blockOf_0 : cX1_blockOf.data.toList.drop 0 = dktX1_blockOf_0 := by decide +kernel
theorem dksX1_blockOf_1 : cX1_blockOf.data.toList.drop 19 = dktX1_blockOf_1 := dk_seg dksX1_blockOf_0 19 rfl rfl
theorem dksX1_blockOf_2 : cX1_blockOf.data.toList.drop 44 = dktX1_blockOf_2 := dk_seg dksX1_blockOf_1 25 rfl rfl
theorem dksX1_blockOf_3 : cX1_blockOf.data.toList.drop 68 = dktX1_blockOf_3 := dk_seg dksX1_blockOf_2 24 rfl rfl
theorem dX1_blockOf_0 : decode cX1_blockOf 0 = .ok (.aload_n 0, 1) := dk_42 (dk_at dksX1_blockOf_0 0 rfl rfl)
theorem dX1_blockOf_1 : decode cX1_blockOf 1 = .ok (.getfield 27, 3) := dk_180 0 27 (dk_at dksX1_blockOf_0 1 rfl rfl)
theorem dX1_blockOf_4 : decode cX1_blockOf 4 = .ok (.iload_n 1, 1) := dk_27 (dk_at dksX1_blockOf_0 4 rfl rfl)
theorem dX1_blockOf_5 : decode cX1_blockOf 5 = .ok (.invokevirtual 103, 3) := dk_182 0 103 (dk_at dksX1_blockOf_0 5 rfl rfl)
theorem dX1_blockOf_8 : decode cX1_blockOf 8 = .ok (.astore_n 3, 1) := dk_78 (dk_at dksX1_blockOf_0 8 rfl rfl)
theorem dX1_blockOf_9 : decode cX1_blockOf 9 = .ok (.iload_n 2, 1) := dk_28 (dk_at dksX1_blockOf_0 9 rfl rfl)
theorem dX1_blockOf_10 : decode cX1_blockOf 10 = .ok (.iconst 0, 1) := dk_3 (dk_at dksX1_blockOf_0 10 rfl rfl)
theorem dX1_blockOf_11 : decode cX1_blockOf 11 = .ok (.iconst 3, 1) := dk_6 (dk_at dksX1_blockOf_0 11 rfl rfl)
theorem dX1_blockOf_12 : decode cX1_blockOf 12 = .ok (.invokestatic 106, 3) := dk_184 0 106 (dk_at dksX1_blockOf_0 12 rfl rfl)
theorem dX1_blockOf_15 : decode cX1_blockOf 15 = .ok (.invokestatic 110, 3) := dk_184 0 110 (dk_at dksX1_blockOf_0 15 rfl rfl)
theorem dX1_blockOf_18 : decode cX1_blockOf 18 = .ok (.iload_n 2, 1) := dk_28 (dk_at dksX1_blockOf_0 18 rfl rfl)
theorem dX1_blockOf_19 : decode cX1_blockOf 19 = .ok (.tableswitch 48 0 2 #[25, 30, 43], 25) := by decide +kernel
theorem dX1_blockOf_44 : decode cX1_blockOf 44 = .ok (.aload_n 3, 1) := dk_45 (dk_at dksX1_blockOf_2 0 rfl rfl)
theorem dX1_blockOf_45 : decode cX1_blockOf 45 = .ok (.getfield 114, 3) := dk_180 0 114 (dk_at dksX1_blockOf_2 1 rfl rfl)
theorem dX1_blockOf_48 : decode cX1_blockOf 48 = .ok (.ireturn, 1) := dk_172 (dk_at dksX1_blockOf_2 4 rfl rfl)
theorem dX1_blockOf_49 : decode cX1_blockOf 49 = .ok (.aload_n 3, 1) := dk_45 (dk_at dksX1_blockOf_2 5 rfl rfl)
theorem dX1_blockOf_50 : decode cX1_blockOf 50 = .ok (.getfield 119, 3) := dk_180 0 119 (dk_at dksX1_blockOf_2 6 rfl rfl)
theorem dX1_blockOf_53 : decode cX1_blockOf 53 = .ok (.ifCond .eq 7, 3) := dk_153 0 7 (dk_at dksX1_blockOf_2 9 rfl rfl)
theorem dX1_blockOf_56 : decode cX1_blockOf 56 = .ok (.iconst 1, 1) := dk_4 (dk_at dksX1_blockOf_2 12 rfl rfl)
theorem dX1_blockOf_57 : decode cX1_blockOf 57 = .ok (.goto 4, 3) := dk_167 0 4 (dk_at dksX1_blockOf_2 13 rfl rfl)
theorem dX1_blockOf_60 : decode cX1_blockOf 60 = .ok (.iconst 0, 1) := dk_3 (dk_at dksX1_blockOf_2 16 rfl rfl)
theorem dX1_blockOf_61 : decode cX1_blockOf 61 = .ok (.ireturn, 1) := dk_172 (dk_at dksX1_blockOf_2 17 rfl rfl)
theorem dX1_blockOf_62 : decode cX1_blockOf 62 = .ok (.aload_n 3, 1) := dk_45 (dk_at dksX1_blockOf_2 18 rfl rfl)
theorem dX1_blockOf_63 : decode cX1_blockOf 63 = .ok (.getfield 123, 3) := dk_180 0 123 (dk_at dksX1_blockOf_2 19 rfl rfl)
theorem dX1_blockOf_66 : decode cX1_blockOf 66 = .ok (.ireturn, 1) := dk_172 (dk_at dksX1_blockOf_2 22 rfl rfl)
theorem dX1_blockOf_67 : decode cX1_blockOf 67 = .ok (.aload_n 0, 1) := dk_42 (dk_at dksX1_blockOf_2 23 rfl rfl)
theorem dX1_blockOf_68 : decode cX1_blockOf 68 = .ok (.iload_n 1, 1) := dk_27 (dk_at dksX1_blockOf_3 0 rfl rfl)
theorem dX1_blockOf_69 : decode cX1_blockOf 69 = .ok (.iconst 1, 1) := dk_4 (dk_at dksX1_blockOf_3 1 rfl rfl)
theorem dX1_blockOf_70 : decode cX1_blockOf 70 = .ok (.invokevirtual 126, 3) := dk_182 0 126 (dk_at dksX1_blockOf_3 2 rfl rfl)
theorem dX1_blockOf_73 : decode cX1_blockOf 73 = .ok (.ireturn, 1) := dk_172 (dk_at dksX1_blockOf_3 5 rfl rfl)
abbrev cX1_printed : ByteArray := prog_1_method_13_code
def yX1_printed : MethodName := ⟨RX1, "printed", "(IZ)I"⟩
def dkwX1_printed_3 : List UInt8 := [132, 4, 1, 167, 255, 188, 29, 172]
abbrev dktX1_printed_3 : List UInt8 := dkwX1_printed_3 ++ []
def dkwX1_printed_2 : List UInt8 := [25, 5, 180, 0, 143, 167, 0, 8, 25, 5, 180, 0, 145, 27, 160, 0, 7, 4, 167, 0, 4, 3, 96, 62]
abbrev dktX1_printed_2 : List UInt8 := dkwX1_printed_2 ++ dktX1_printed_3
def dkwX1_printed_1 : List UInt8 := [180, 0, 27, 180, 0, 130, 21, 4, 185, 0, 137, 2, 0, 192, 0, 141, 58, 5, 29, 28, 153, 0, 11]
abbrev dktX1_printed_1 : List UInt8 := dkwX1_printed_1 ++ dktX1_printed_2
def dkwX1_printed_0 : List UInt8 := [3, 62, 3, 54, 4, 21, 4, 42, 180, 0, 27, 180, 0, 130, 185, 0, 134, 1, 0, 162, 0, 57, 42]
abbrev dktX1_printed_0 : List UInt8 := dkwX1_printed_0 ++ dktX1_printed_1
theorem dksX1_printed_0 : cX1_printed.data.toList.drop 0 = dktX1_printed_0 := by decide +kernel
theorem dksX1_printed_1 : cX1_printed.data.toList.drop 23 = dktX1_printed_1 := dk_seg dksX1_printed_0 23 rfl rfl
theorem dksX1_printed_2 : cX1_printed.data.toList.drop 46 = dktX1_printed_2 := dk_seg dksX1_printed_1 23 rfl rfl
theorem dksX1_printed_3 : cX1_printed.data.toList.drop 70 = dktX1_printed_3 := dk_seg dksX1_printed_2 24 rfl rfl
theorem dX1_printed_0 : decode cX1_printed 0 = .ok (.iconst 0, 1) := dk_3 (dk_at dksX1_printed_0 0 rfl rfl)
theorem dX1_printed_1 : decode cX1_printed 1 = .ok (.istore_n 3, 1) := dk_62 (dk_at dksX1_printed_0 1 rfl rfl)
theorem dX1_printed_2 : decode cX1_printed 2 = .ok (.iconst 0, 1) := dk_3 (dk_at dksX1_printed_0 2 rfl rfl)
theorem dX1_printed_3 : decode cX1_printed 3 = .ok (.istore 4, 2) := dk_54 4 (dk_at dksX1_printed_0 3 rfl rfl)
theorem dX1_printed_5 : decode cX1_printed 5 = .ok (.iload 4, 2) := dk_21 4 (dk_at dksX1_printed_0 5 rfl rfl)
theorem dX1_printed_7 : decode cX1_printed 7 = .ok (.aload_n 0, 1) := dk_42 (dk_at dksX1_printed_0 7 rfl rfl)
theorem dX1_printed_8 : decode cX1_printed 8 = .ok (.getfield 27, 3) := dk_180 0 27 (dk_at dksX1_printed_0 8 rfl rfl)
theorem dX1_printed_11 : decode cX1_printed 11 = .ok (.getfield 130, 3) := dk_180 0 130 (dk_at dksX1_printed_0 11 rfl rfl)
theorem dX1_printed_14 : decode cX1_printed 14 = .ok (.invokeinterface 134 1, 5) := by decide +kernel
theorem dX1_printed_19 : decode cX1_printed 19 = .ok (.if_icmp .ge 57, 3) := dk_162 0 57 (dk_at dksX1_printed_0 19 rfl rfl)
theorem dX1_printed_22 : decode cX1_printed 22 = .ok (.aload_n 0, 1) := dk_42 (dk_at dksX1_printed_0 22 rfl rfl)
theorem dX1_printed_23 : decode cX1_printed 23 = .ok (.getfield 27, 3) := dk_180 0 27 (dk_at dksX1_printed_1 0 rfl rfl)
theorem dX1_printed_26 : decode cX1_printed 26 = .ok (.getfield 130, 3) := dk_180 0 130 (dk_at dksX1_printed_1 3 rfl rfl)
theorem dX1_printed_29 : decode cX1_printed 29 = .ok (.iload 4, 2) := dk_21 4 (dk_at dksX1_printed_1 6 rfl rfl)
theorem dX1_printed_31 : decode cX1_printed 31 = .ok (.invokeinterface 137 2, 5) := by decide +kernel
theorem dX1_printed_36 : decode cX1_printed 36 = .ok (.checkcast 141, 3) := dk_192 0 141 (dk_at dksX1_printed_1 13 rfl rfl)
theorem dX1_printed_39 : decode cX1_printed 39 = .ok (.astore 5, 2) := dk_58 5 (dk_at dksX1_printed_1 16 rfl rfl)
theorem dX1_printed_41 : decode cX1_printed 41 = .ok (.iload_n 3, 1) := dk_29 (dk_at dksX1_printed_1 18 rfl rfl)
theorem dX1_printed_42 : decode cX1_printed 42 = .ok (.iload_n 2, 1) := dk_28 (dk_at dksX1_printed_1 19 rfl rfl)
theorem dX1_printed_43 : decode cX1_printed 43 = .ok (.ifCond .eq 11, 3) := dk_153 0 11 (dk_at dksX1_printed_1 20 rfl rfl)
theorem dX1_printed_46 : decode cX1_printed 46 = .ok (.aload 5, 2) := dk_25 5 (dk_at dksX1_printed_2 0 rfl rfl)
theorem dX1_printed_48 : decode cX1_printed 48 = .ok (.getfield 143, 3) := dk_180 0 143 (dk_at dksX1_printed_2 2 rfl rfl)
theorem dX1_printed_51 : decode cX1_printed 51 = .ok (.goto 8, 3) := dk_167 0 8 (dk_at dksX1_printed_2 5 rfl rfl)
theorem dX1_printed_54 : decode cX1_printed 54 = .ok (.aload 5, 2) := dk_25 5 (dk_at dksX1_printed_2 8 rfl rfl)
theorem dX1_printed_56 : decode cX1_printed 56 = .ok (.getfield 145, 3) := dk_180 0 145 (dk_at dksX1_printed_2 10 rfl rfl)
theorem dX1_printed_59 : decode cX1_printed 59 = .ok (.iload_n 1, 1) := dk_27 (dk_at dksX1_printed_2 13 rfl rfl)
theorem dX1_printed_60 : decode cX1_printed 60 = .ok (.if_icmp .ne 7, 3) := dk_160 0 7 (dk_at dksX1_printed_2 14 rfl rfl)
theorem dX1_printed_63 : decode cX1_printed 63 = .ok (.iconst 1, 1) := dk_4 (dk_at dksX1_printed_2 17 rfl rfl)
theorem dX1_printed_64 : decode cX1_printed 64 = .ok (.goto 4, 3) := dk_167 0 4 (dk_at dksX1_printed_2 18 rfl rfl)
theorem dX1_printed_67 : decode cX1_printed 67 = .ok (.iconst 0, 1) := dk_3 (dk_at dksX1_printed_2 21 rfl rfl)
theorem dX1_printed_68 : decode cX1_printed 68 = .ok (.iadd, 1) := dk_96 (dk_at dksX1_printed_2 22 rfl rfl)
theorem dX1_printed_69 : decode cX1_printed 69 = .ok (.istore_n 3, 1) := dk_62 (dk_at dksX1_printed_2 23 rfl rfl)
theorem dX1_printed_70 : decode cX1_printed 70 = .ok (.iinc 4 1, 3) := dk_132 4 1 (dk_at dksX1_printed_3 0 rfl rfl)
theorem dX1_printed_73 : decode cX1_printed 73 = .ok (.goto (-68), 3) := dk_167 255 188 (dk_at dksX1_printed_3 3 rfl rfl)
theorem dX1_printed_76 : decode cX1_printed 76 = .ok (.iload_n 3, 1) := dk_29 (dk_at dksX1_printed_3 6 rfl rfl)
theorem dX1_printed_77 : decode cX1_printed 77 = .ok (.ireturn, 1) := dk_172 (dk_at dksX1_printed_3 7 rfl rfl)
abbrev cX1_carve : ByteArray := prog_1_method_14_code
def yX1_carve : MethodName := ⟨RX1, "carve", "(I)I"⟩
def dkwX1_carve_0 : List UInt8 := [42, 187, 0, 92, 89, 18, 148, 27, 183, 0, 150, 182, 0, 99, 172]
abbrev dktX1_carve_0 : List UInt8 := dkwX1_carve_0 ++ []
theorem dksX1_carve_0 : cX1_carve.data.toList.drop 0 = dktX1_carve_0 := by decide +kernel
theorem dX1_carve_0 : decode cX1_carve 0 = .ok (.aload_n 0, 1) := dk_42 (dk_at dksX1_carve_0 0 rfl rfl)
theorem dX1_carve_1 : decode cX1_carve 1 = .ok (.new 92, 3) := dk_187 0 92 (dk_at dksX1_carve_0 1 rfl rfl)
theorem dX1_carve_4 : decode cX1_carve 4 = .ok (.dup, 1) := dk_89 (dk_at dksX1_carve_0 4 rfl rfl)
theorem dX1_carve_5 : decode cX1_carve 5 = .ok (.ldc 148, 2) := dk_18 148 (dk_at dksX1_carve_0 5 rfl rfl)
theorem dX1_carve_7 : decode cX1_carve 7 = .ok (.iload_n 1, 1) := dk_27 (dk_at dksX1_carve_0 7 rfl rfl)
theorem dX1_carve_8 : decode cX1_carve 8 = .ok (.invokespecial 150, 3) := dk_183 0 150 (dk_at dksX1_carve_0 8 rfl rfl)
theorem dX1_carve_11 : decode cX1_carve 11 = .ok (.invokevirtual 99, 3) := dk_182 0 99 (dk_at dksX1_carve_0 11 rfl rfl)
theorem dX1_carve_14 : decode cX1_carve 14 = .ok (.ireturn, 1) := dk_172 (dk_at dksX1_carve_0 14 rfl rfl)
abbrev cX1_ink : ByteArray := prog_1_method_15_code
def yX1_ink : MethodName := ⟨RX1, "ink", "(III)I"⟩
def dkwX1_ink_0 : List UInt8 := [42, 187, 0, 92, 89, 18, 153, 27, 28, 29, 183, 0, 155, 182, 0, 99, 172]
abbrev dktX1_ink_0 : List UInt8 := dkwX1_ink_0 ++ []
theorem dksX1_ink_0 : cX1_ink.data.toList.drop 0 = dktX1_ink_0 := by decide +kernel
theorem dX1_ink_0 : decode cX1_ink 0 = .ok (.aload_n 0, 1) := dk_42 (dk_at dksX1_ink_0 0 rfl rfl)
theorem dX1_ink_1 : decode cX1_ink 1 = .ok (.new 92, 3) := dk_187 0 92 (dk_at dksX1_ink_0 1 rfl rfl)
theorem dX1_ink_4 : decode cX1_ink 4 = .ok (.dup, 1) := dk_89 (dk_at dksX1_ink_0 4 rfl rfl)
theorem dX1_ink_5 : decode cX1_ink 5 = .ok (.ldc 153, 2) := dk_18 153 (dk_at dksX1_ink_0 5 rfl rfl)
theorem dX1_ink_7 : decode cX1_ink 7 = .ok (.iload_n 1, 1) := dk_27 (dk_at dksX1_ink_0 7 rfl rfl)
theorem dX1_ink_8 : decode cX1_ink 8 = .ok (.iload_n 2, 1) := dk_28 (dk_at dksX1_ink_0 8 rfl rfl)
theorem dX1_ink_9 : decode cX1_ink 9 = .ok (.iload_n 3, 1) := dk_29 (dk_at dksX1_ink_0 9 rfl rfl)
theorem dX1_ink_10 : decode cX1_ink 10 = .ok (.invokespecial 155, 3) := dk_183 0 155 (dk_at dksX1_ink_0 10 rfl rfl)
theorem dX1_ink_13 : decode cX1_ink 13 = .ok (.invokevirtual 99, 3) := dk_182 0 99 (dk_at dksX1_ink_0 13 rfl rfl)
theorem dX1_ink_16 : decode cX1_ink 16 = .ok (.ireturn, 1) := dk_172 (dk_at dksX1_ink_0 16 rfl rfl)
abbrev cX1_inkOf : ByteArray := prog_1_method_16_code
def yX1_inkOf : MethodName := ⟨RX1, "inkOf", "(II)I"⟩
def dkwX1_inkOf_2 : List UInt8 := [180, 0, 169, 167, 0, 9, 42, 27, 3, 182, 0, 126, 172]
abbrev dktX1_inkOf_2 : List UInt8 := dkwX1_inkOf_2 ++ []
def dkwX1_inkOf_1 : List UInt8 := [180, 0, 161, 167, 0, 33, 28, 4, 160, 0, 10, 45, 180, 0, 166, 167, 0, 21, 28, 5, 160, 0, 10, 45]
abbrev dktX1_inkOf_1 : List UInt8 := dkwX1_inkOf_1 ++ dktX1_inkOf_2
def dkwX1_inkOf_0 : List UInt8 := [42, 180, 0, 27, 27, 182, 0, 158, 78, 28, 3, 6, 184, 0, 106, 184, 0, 110, 28, 154, 0, 10, 45]
abbrev dktX1_inkOf_0 : List UInt8 := dkwX1_inkOf_0 ++ dktX1_inkOf_1
theorem dksX1_inkOf_0 : cX1_inkOf.data.toList.drop 0 = dktX1_inkOf_0 := by decide +kernel
theorem dksX1_inkOf_1 : cX1_inkOf.data.toList.drop 23 = dktX1_inkOf_1 := dk_seg dksX1_inkOf_0 23 rfl rfl
theorem dksX1_inkOf_2 : cX1_inkOf.data.toList.drop 47 = dktX1_inkOf_2 := dk_seg dksX1_inkOf_1 24 rfl rfl
theorem dX1_inkOf_0 : decode cX1_inkOf 0 = .ok (.aload_n 0, 1) := dk_42 (dk_at dksX1_inkOf_0 0 rfl rfl)
theorem dX1_inkOf_1 : decode cX1_inkOf 1 = .ok (.getfield 27, 3) := dk_180 0 27 (dk_at dksX1_inkOf_0 1 rfl rfl)
theorem dX1_inkOf_4 : decode cX1_inkOf 4 = .ok (.iload_n 1, 1) := dk_27 (dk_at dksX1_inkOf_0 4 rfl rfl)
theorem dX1_inkOf_5 : decode cX1_inkOf 5 = .ok (.invokevirtual 158, 3) := dk_182 0 158 (dk_at dksX1_inkOf_0 5 rfl rfl)
theorem dX1_inkOf_8 : decode cX1_inkOf 8 = .ok (.astore_n 3, 1) := dk_78 (dk_at dksX1_inkOf_0 8 rfl rfl)
theorem dX1_inkOf_9 : decode cX1_inkOf 9 = .ok (.iload_n 2, 1) := dk_28 (dk_at dksX1_inkOf_0 9 rfl rfl)
theorem dX1_inkOf_10 : decode cX1_inkOf 10 = .ok (.iconst 0, 1) := dk_3 (dk_at dksX1_inkOf_0 10 rfl rfl)
theorem dX1_inkOf_11 : decode cX1_inkOf 11 = .ok (.iconst 3, 1) := dk_6 (dk_at dksX1_inkOf_0 11 rfl rfl)
theorem dX1_inkOf_12 : decode cX1_inkOf 12 = .ok (.invokestatic 106, 3) := dk_184 0 106 (dk_at dksX1_inkOf_0 12 rfl rfl)
theorem dX1_inkOf_15 : decode cX1_inkOf 15 = .ok (.invokestatic 110, 3) := dk_184 0 110 (dk_at dksX1_inkOf_0 15 rfl rfl)
theorem dX1_inkOf_18 : decode cX1_inkOf 18 = .ok (.iload_n 2, 1) := dk_28 (dk_at dksX1_inkOf_0 18 rfl rfl)
theorem dX1_inkOf_19 : decode cX1_inkOf 19 = .ok (.ifCond .ne 10, 3) := dk_154 0 10 (dk_at dksX1_inkOf_0 19 rfl rfl)
theorem dX1_inkOf_22 : decode cX1_inkOf 22 = .ok (.aload_n 3, 1) := dk_45 (dk_at dksX1_inkOf_0 22 rfl rfl)
theorem dX1_inkOf_23 : decode cX1_inkOf 23 = .ok (.getfield 161, 3) := dk_180 0 161 (dk_at dksX1_inkOf_1 0 rfl rfl)
theorem dX1_inkOf_26 : decode cX1_inkOf 26 = .ok (.goto 33, 3) := dk_167 0 33 (dk_at dksX1_inkOf_1 3 rfl rfl)
theorem dX1_inkOf_29 : decode cX1_inkOf 29 = .ok (.iload_n 2, 1) := dk_28 (dk_at dksX1_inkOf_1 6 rfl rfl)
theorem dX1_inkOf_30 : decode cX1_inkOf 30 = .ok (.iconst 1, 1) := dk_4 (dk_at dksX1_inkOf_1 7 rfl rfl)
theorem dX1_inkOf_31 : decode cX1_inkOf 31 = .ok (.if_icmp .ne 10, 3) := dk_160 0 10 (dk_at dksX1_inkOf_1 8 rfl rfl)
theorem dX1_inkOf_34 : decode cX1_inkOf 34 = .ok (.aload_n 3, 1) := dk_45 (dk_at dksX1_inkOf_1 11 rfl rfl)
theorem dX1_inkOf_35 : decode cX1_inkOf 35 = .ok (.getfield 166, 3) := dk_180 0 166 (dk_at dksX1_inkOf_1 12 rfl rfl)
theorem dX1_inkOf_38 : decode cX1_inkOf 38 = .ok (.goto 21, 3) := dk_167 0 21 (dk_at dksX1_inkOf_1 15 rfl rfl)
theorem dX1_inkOf_41 : decode cX1_inkOf 41 = .ok (.iload_n 2, 1) := dk_28 (dk_at dksX1_inkOf_1 18 rfl rfl)
theorem dX1_inkOf_42 : decode cX1_inkOf 42 = .ok (.iconst 2, 1) := dk_5 (dk_at dksX1_inkOf_1 19 rfl rfl)
theorem dX1_inkOf_43 : decode cX1_inkOf 43 = .ok (.if_icmp .ne 10, 3) := dk_160 0 10 (dk_at dksX1_inkOf_1 20 rfl rfl)
theorem dX1_inkOf_46 : decode cX1_inkOf 46 = .ok (.aload_n 3, 1) := dk_45 (dk_at dksX1_inkOf_1 23 rfl rfl)
theorem dX1_inkOf_47 : decode cX1_inkOf 47 = .ok (.getfield 169, 3) := dk_180 0 169 (dk_at dksX1_inkOf_2 0 rfl rfl)
theorem dX1_inkOf_50 : decode cX1_inkOf 50 = .ok (.goto 9, 3) := dk_167 0 9 (dk_at dksX1_inkOf_2 3 rfl rfl)
theorem dX1_inkOf_53 : decode cX1_inkOf 53 = .ok (.aload_n 0, 1) := dk_42 (dk_at dksX1_inkOf_2 6 rfl rfl)
theorem dX1_inkOf_54 : decode cX1_inkOf 54 = .ok (.iload_n 1, 1) := dk_27 (dk_at dksX1_inkOf_2 7 rfl rfl)
theorem dX1_inkOf_55 : decode cX1_inkOf 55 = .ok (.iconst 0, 1) := dk_3 (dk_at dksX1_inkOf_2 8 rfl rfl)
theorem dX1_inkOf_56 : decode cX1_inkOf 56 = .ok (.invokevirtual 126, 3) := dk_182 0 126 (dk_at dksX1_inkOf_2 9 rfl rfl)
theorem dX1_inkOf_59 : decode cX1_inkOf 59 = .ok (.ireturn, 1) := dk_172 (dk_at dksX1_inkOf_2 12 rfl rfl)
abbrev cX1_mix : ByteArray := prog_1_method_17_code
def yX1_mix : MethodName := ⟨RX1, "mix", "(III)I"⟩
def dkwX1_mix_0 : List UInt8 := [42, 187, 0, 92, 89, 18, 172, 27, 28, 29, 183, 0, 155, 182, 0, 99, 172]
abbrev dktX1_mix_0 : List UInt8 := dkwX1_mix_0 ++ []
theorem dksX1_mix_0 : cX1_mix.data.toList.drop 0 = dktX1_mix_0 := by decide +kernel
theorem dX1_mix_0 : decode cX1_mix 0 = .ok (.aload_n 0, 1) := dk_42 (dk_at dksX1_mix_0 0 rfl rfl)
theorem dX1_mix_1 : decode cX1_mix 1 = .ok (.new 92, 3) := dk_187 0 92 (dk_at dksX1_mix_0 1 rfl rfl)
theorem dX1_mix_4 : decode cX1_mix 4 = .ok (.dup, 1) := dk_89 (dk_at dksX1_mix_0 4 rfl rfl)
theorem dX1_mix_5 : decode cX1_mix 5 = .ok (.ldc 172, 2) := dk_18 172 (dk_at dksX1_mix_0 5 rfl rfl)
theorem dX1_mix_7 : decode cX1_mix 7 = .ok (.iload_n 1, 1) := dk_27 (dk_at dksX1_mix_0 7 rfl rfl)
theorem dX1_mix_8 : decode cX1_mix 8 = .ok (.iload_n 2, 1) := dk_28 (dk_at dksX1_mix_0 8 rfl rfl)
theorem dX1_mix_9 : decode cX1_mix 9 = .ok (.iload_n 3, 1) := dk_29 (dk_at dksX1_mix_0 9 rfl rfl)
theorem dX1_mix_10 : decode cX1_mix 10 = .ok (.invokespecial 155, 3) := dk_183 0 155 (dk_at dksX1_mix_0 10 rfl rfl)
theorem dX1_mix_13 : decode cX1_mix 13 = .ok (.invokevirtual 99, 3) := dk_182 0 99 (dk_at dksX1_mix_0 13 rfl rfl)
theorem dX1_mix_16 : decode cX1_mix 16 = .ok (.ireturn, 1) := dk_172 (dk_at dksX1_mix_0 16 rfl rfl)
abbrev cX1_print : ByteArray := prog_1_method_18_code
def yX1_print : MethodName := ⟨RX1, "print", "(III)I"⟩
def dkwX1_print_0 : List UInt8 := [42, 187, 0, 92, 89, 18, 174, 27, 28, 29, 183, 0, 155, 182, 0, 99, 172]
abbrev dktX1_print_0 : List UInt8 := dkwX1_print_0 ++ []
theorem dksX1_print_0 : cX1_print.data.toList.drop 0 = dktX1_print_0 := by decide +kernel
theorem dX1_print_0 : decode cX1_print 0 = .ok (.aload_n 0, 1) := dk_42 (dk_at dksX1_print_0 0 rfl rfl)
theorem dX1_print_1 : decode cX1_print 1 = .ok (.new 92, 3) := dk_187 0 92 (dk_at dksX1_print_0 1 rfl rfl)
theorem dX1_print_4 : decode cX1_print 4 = .ok (.dup, 1) := dk_89 (dk_at dksX1_print_0 4 rfl rfl)
theorem dX1_print_5 : decode cX1_print 5 = .ok (.ldc 174, 2) := dk_18 174 (dk_at dksX1_print_0 5 rfl rfl)
theorem dX1_print_7 : decode cX1_print 7 = .ok (.iload_n 1, 1) := dk_27 (dk_at dksX1_print_0 7 rfl rfl)
theorem dX1_print_8 : decode cX1_print 8 = .ok (.iload_n 2, 1) := dk_28 (dk_at dksX1_print_0 8 rfl rfl)
theorem dX1_print_9 : decode cX1_print 9 = .ok (.iload_n 3, 1) := dk_29 (dk_at dksX1_print_0 9 rfl rfl)
theorem dX1_print_10 : decode cX1_print 10 = .ok (.invokespecial 155, 3) := dk_183 0 155 (dk_at dksX1_print_0 10 rfl rfl)
theorem dX1_print_13 : decode cX1_print 13 = .ok (.invokevirtual 99, 3) := dk_182 0 99 (dk_at dksX1_print_0 13 rfl rfl)
theorem dX1_print_16 : decode cX1_print 16 = .ok (.ireturn, 1) := dk_172 (dk_at dksX1_print_0 16 rfl rfl)
abbrev cX1_rollOf : ByteArray := prog_1_method_19_code
def yX1_rollOf : MethodName := ⟨RX1, "rollOf", "(II)I"⟩
def dkwX1_rollOf_4 : List UInt8 := [42, 180, 0, 27, 27, 182, 0, 194, 172]
abbrev dktX1_rollOf_4 : List UInt8 := dkwX1_rollOf_4 ++ []
def dkwX1_rollOf_3 : List UInt8 := [172, 45, 180, 0, 185, 172, 45, 182, 0, 188, 172, 45, 180, 0, 191, 153, 0, 7, 4, 167, 0, 4, 3, 172]
abbrev dktX1_rollOf_3 : List UInt8 := dkwX1_rollOf_3 ++ dktX1_rollOf_4
def dkwX1_rollOf_2 : List UInt8 := [45, 180, 0, 143, 172, 45, 180, 0, 145, 172, 45, 180, 0, 180, 172, 45, 180, 0, 183, 172, 45, 180, 0, 184]
abbrev dktX1_rollOf_2 : List UInt8 := dkwX1_rollOf_2 ++ dktX1_rollOf_3
def dkwX1_rollOf_1 : List UInt8 := [170, 0, 0, 0, 0, 0, 0, 96, 0, 0, 0, 0, 0, 0, 0, 7, 0, 0, 0, 48, 0, 0, 0, 53, 0, 0, 0, 58, 0, 0, 0, 63, 0, 0, 0, 68, 0, 0, 0, 73, 0, 0, 0, 78, 0, 0, 0, 83]
abbrev dktX1_rollOf_1 : List UInt8 := dkwX1_rollOf_1 ++ dktX1_rollOf_2
def dkwX1_rollOf_0 : List UInt8 := [42, 180, 0, 27, 27, 182, 0, 176, 78, 28, 3, 16, 8, 184, 0, 106, 184, 0, 110, 28]
abbrev dktX1_rollOf_0 : List UInt8 := dkwX1_rollOf_0 ++ dktX1_rollOf_1
theorem dksX1_rollOf_0 : cX1_rollOf.data.toList.drop 0 = dktX1_rollOf_0 := by decide +kernel
theorem dksX1_rollOf_1 : cX1_rollOf.data.toList.drop 20 = dktX1_rollOf_1 := dk_seg dksX1_rollOf_0 20 rfl rfl
theorem dksX1_rollOf_2 : cX1_rollOf.data.toList.drop 68 = dktX1_rollOf_2 := dk_seg dksX1_rollOf_1 48 rfl rfl
theorem dksX1_rollOf_3 : cX1_rollOf.data.toList.drop 92 = dktX1_rollOf_3 := dk_seg dksX1_rollOf_2 24 rfl rfl
theorem dksX1_rollOf_4 : cX1_rollOf.data.toList.drop 116 = dktX1_rollOf_4 := dk_seg dksX1_rollOf_3 24 rfl rfl
theorem dX1_rollOf_0 : decode cX1_rollOf 0 = .ok (.aload_n 0, 1) := dk_42 (dk_at dksX1_rollOf_0 0 rfl rfl)
theorem dX1_rollOf_1 : decode cX1_rollOf 1 = .ok (.getfield 27, 3) := dk_180 0 27 (dk_at dksX1_rollOf_0 1 rfl rfl)
theorem dX1_rollOf_4 : decode cX1_rollOf 4 = .ok (.iload_n 1, 1) := dk_27 (dk_at dksX1_rollOf_0 4 rfl rfl)
theorem dX1_rollOf_5 : decode cX1_rollOf 5 = .ok (.invokevirtual 176, 3) := dk_182 0 176 (dk_at dksX1_rollOf_0 5 rfl rfl)
theorem dX1_rollOf_8 : decode cX1_rollOf 8 = .ok (.astore_n 3, 1) := dk_78 (dk_at dksX1_rollOf_0 8 rfl rfl)
theorem dX1_rollOf_9 : decode cX1_rollOf 9 = .ok (.iload_n 2, 1) := dk_28 (dk_at dksX1_rollOf_0 9 rfl rfl)
theorem dX1_rollOf_10 : decode cX1_rollOf 10 = .ok (.iconst 0, 1) := dk_3 (dk_at dksX1_rollOf_0 10 rfl rfl)
theorem dX1_rollOf_11 : decode cX1_rollOf 11 = .ok (.bipush 8, 2) := dk_16 8 (dk_at dksX1_rollOf_0 11 rfl rfl)
theorem dX1_rollOf_13 : decode cX1_rollOf 13 = .ok (.invokestatic 106, 3) := dk_184 0 106 (dk_at dksX1_rollOf_0 13 rfl rfl)
theorem dX1_rollOf_16 : decode cX1_rollOf 16 = .ok (.invokestatic 110, 3) := dk_184 0 110 (dk_at dksX1_rollOf_0 16 rfl rfl)
theorem dX1_rollOf_19 : decode cX1_rollOf 19 = .ok (.iload_n 2, 1) := dk_28 (dk_at dksX1_rollOf_0 19 rfl rfl)
theorem dX1_rollOf_20 : decode cX1_rollOf 20 = .ok (.tableswitch 96 0 7 #[48, 53, 58, 63, 68, 73, 78, 83], 48) := by decide +kernel
theorem dX1_rollOf_68 : decode cX1_rollOf 68 = .ok (.aload_n 3, 1) := dk_45 (dk_at dksX1_rollOf_2 0 rfl rfl)
theorem dX1_rollOf_69 : decode cX1_rollOf 69 = .ok (.getfield 143, 3) := dk_180 0 143 (dk_at dksX1_rollOf_2 1 rfl rfl)
theorem dX1_rollOf_72 : decode cX1_rollOf 72 = .ok (.ireturn, 1) := dk_172 (dk_at dksX1_rollOf_2 4 rfl rfl)
theorem dX1_rollOf_73 : decode cX1_rollOf 73 = .ok (.aload_n 3, 1) := dk_45 (dk_at dksX1_rollOf_2 5 rfl rfl)
theorem dX1_rollOf_74 : decode cX1_rollOf 74 = .ok (.getfield 145, 3) := dk_180 0 145 (dk_at dksX1_rollOf_2 6 rfl rfl)
theorem dX1_rollOf_77 : decode cX1_rollOf 77 = .ok (.ireturn, 1) := dk_172 (dk_at dksX1_rollOf_2 9 rfl rfl)
theorem dX1_rollOf_78 : decode cX1_rollOf 78 = .ok (.aload_n 3, 1) := dk_45 (dk_at dksX1_rollOf_2 10 rfl rfl)
theorem dX1_rollOf_79 : decode cX1_rollOf 79 = .ok (.getfield 180, 3) := dk_180 0 180 (dk_at dksX1_rollOf_2 11 rfl rfl)
theorem dX1_rollOf_82 : decode cX1_rollOf 82 = .ok (.ireturn, 1) := dk_172 (dk_at dksX1_rollOf_2 14 rfl rfl)
theorem dX1_rollOf_83 : decode cX1_rollOf 83 = .ok (.aload_n 3, 1) := dk_45 (dk_at dksX1_rollOf_2 15 rfl rfl)
theorem dX1_rollOf_84 : decode cX1_rollOf 84 = .ok (.getfield 183, 3) := dk_180 0 183 (dk_at dksX1_rollOf_2 16 rfl rfl)
theorem dX1_rollOf_87 : decode cX1_rollOf 87 = .ok (.ireturn, 1) := dk_172 (dk_at dksX1_rollOf_2 19 rfl rfl)
theorem dX1_rollOf_88 : decode cX1_rollOf 88 = .ok (.aload_n 3, 1) := dk_45 (dk_at dksX1_rollOf_2 20 rfl rfl)
theorem dX1_rollOf_89 : decode cX1_rollOf 89 = .ok (.getfield 184, 3) := dk_180 0 184 (dk_at dksX1_rollOf_2 21 rfl rfl)
theorem dX1_rollOf_92 : decode cX1_rollOf 92 = .ok (.ireturn, 1) := dk_172 (dk_at dksX1_rollOf_3 0 rfl rfl)
theorem dX1_rollOf_93 : decode cX1_rollOf 93 = .ok (.aload_n 3, 1) := dk_45 (dk_at dksX1_rollOf_3 1 rfl rfl)
theorem dX1_rollOf_94 : decode cX1_rollOf 94 = .ok (.getfield 185, 3) := dk_180 0 185 (dk_at dksX1_rollOf_3 2 rfl rfl)
theorem dX1_rollOf_97 : decode cX1_rollOf 97 = .ok (.ireturn, 1) := dk_172 (dk_at dksX1_rollOf_3 5 rfl rfl)
theorem dX1_rollOf_98 : decode cX1_rollOf 98 = .ok (.aload_n 3, 1) := dk_45 (dk_at dksX1_rollOf_3 6 rfl rfl)
theorem dX1_rollOf_99 : decode cX1_rollOf 99 = .ok (.invokevirtual 188, 3) := dk_182 0 188 (dk_at dksX1_rollOf_3 7 rfl rfl)
theorem dX1_rollOf_102 : decode cX1_rollOf 102 = .ok (.ireturn, 1) := dk_172 (dk_at dksX1_rollOf_3 10 rfl rfl)
theorem dX1_rollOf_103 : decode cX1_rollOf 103 = .ok (.aload_n 3, 1) := dk_45 (dk_at dksX1_rollOf_3 11 rfl rfl)
theorem dX1_rollOf_104 : decode cX1_rollOf 104 = .ok (.getfield 191, 3) := dk_180 0 191 (dk_at dksX1_rollOf_3 12 rfl rfl)
theorem dX1_rollOf_107 : decode cX1_rollOf 107 = .ok (.ifCond .eq 7, 3) := dk_153 0 7 (dk_at dksX1_rollOf_3 15 rfl rfl)
theorem dX1_rollOf_110 : decode cX1_rollOf 110 = .ok (.iconst 1, 1) := dk_4 (dk_at dksX1_rollOf_3 18 rfl rfl)
theorem dX1_rollOf_111 : decode cX1_rollOf 111 = .ok (.goto 4, 3) := dk_167 0 4 (dk_at dksX1_rollOf_3 19 rfl rfl)
theorem dX1_rollOf_114 : decode cX1_rollOf 114 = .ok (.iconst 0, 1) := dk_3 (dk_at dksX1_rollOf_3 22 rfl rfl)
theorem dX1_rollOf_115 : decode cX1_rollOf 115 = .ok (.ireturn, 1) := dk_172 (dk_at dksX1_rollOf_3 23 rfl rfl)
theorem dX1_rollOf_116 : decode cX1_rollOf 116 = .ok (.aload_n 0, 1) := dk_42 (dk_at dksX1_rollOf_4 0 rfl rfl)
theorem dX1_rollOf_117 : decode cX1_rollOf 117 = .ok (.getfield 27, 3) := dk_180 0 27 (dk_at dksX1_rollOf_4 1 rfl rfl)
theorem dX1_rollOf_120 : decode cX1_rollOf 120 = .ok (.iload_n 1, 1) := dk_27 (dk_at dksX1_rollOf_4 4 rfl rfl)
theorem dX1_rollOf_121 : decode cX1_rollOf 121 = .ok (.invokevirtual 194, 3) := dk_182 0 194 (dk_at dksX1_rollOf_4 5 rfl rfl)
theorem dX1_rollOf_124 : decode cX1_rollOf 124 = .ok (.ireturn, 1) := dk_172 (dk_at dksX1_rollOf_4 8 rfl rfl)
abbrev cX1_giveBack : ByteArray := prog_1_method_20_code
def yX1_giveBack : MethodName := ⟨RX1, "giveBack", "(I)I"⟩
def dkwX1_giveBack_0 : List UInt8 := [42, 187, 0, 92, 89, 18, 198, 27, 183, 0, 150, 182, 0, 99, 172]
abbrev dktX1_giveBack_0 : List UInt8 := dkwX1_giveBack_0 ++ []
theorem dksX1_giveBack_0 : cX1_giveBack.data.toList.drop 0 = dktX1_giveBack_0 := by decide +kernel
theorem dX1_giveBack_0 : decode cX1_giveBack 0 = .ok (.aload_n 0, 1) := dk_42 (dk_at dksX1_giveBack_0 0 rfl rfl)
theorem dX1_giveBack_1 : decode cX1_giveBack 1 = .ok (.new 92, 3) := dk_187 0 92 (dk_at dksX1_giveBack_0 1 rfl rfl)
theorem dX1_giveBack_4 : decode cX1_giveBack 4 = .ok (.dup, 1) := dk_89 (dk_at dksX1_giveBack_0 4 rfl rfl)
theorem dX1_giveBack_5 : decode cX1_giveBack 5 = .ok (.ldc 198, 2) := dk_18 198 (dk_at dksX1_giveBack_0 5 rfl rfl)
theorem dX1_giveBack_7 : decode cX1_giveBack 7 = .ok (.iload_n 1, 1) := dk_27 (dk_at dksX1_giveBack_0 7 rfl rfl)
theorem dX1_giveBack_8 : decode cX1_giveBack 8 = .ok (.invokespecial 150, 3) := dk_183 0 150 (dk_at dksX1_giveBack_0 8 rfl rfl)
theorem dX1_giveBack_11 : decode cX1_giveBack 11 = .ok (.invokevirtual 99, 3) := dk_182 0 99 (dk_at dksX1_giveBack_0 11 rfl rfl)
theorem dX1_giveBack_14 : decode cX1_giveBack 14 = .ok (.ireturn, 1) := dk_172 (dk_at dksX1_giveBack_0 14 rfl rfl)
abbrev cX1_room : ByteArray := prog_1_method_21_code
def yX1_room : MethodName := ⟨RX1, "room", "(II)I"⟩
def dkwX1_room_0 : List UInt8 := [42, 187, 0, 92, 89, 18, 200, 27, 28, 183, 0, 96, 182, 0, 99, 172]
abbrev dktX1_room_0 : List UInt8 := dkwX1_room_0 ++ []
theorem dksX1_room_0 : cX1_room.data.toList.drop 0 = dktX1_room_0 := by decide +kernel
theorem dX1_room_0 : decode cX1_room 0 = .ok (.aload_n 0, 1) := dk_42 (dk_at dksX1_room_0 0 rfl rfl)
theorem dX1_room_1 : decode cX1_room 1 = .ok (.new 92, 3) := dk_187 0 92 (dk_at dksX1_room_0 1 rfl rfl)
theorem dX1_room_4 : decode cX1_room 4 = .ok (.dup, 1) := dk_89 (dk_at dksX1_room_0 4 rfl rfl)
theorem dX1_room_5 : decode cX1_room 5 = .ok (.ldc 200, 2) := dk_18 200 (dk_at dksX1_room_0 5 rfl rfl)
theorem dX1_room_7 : decode cX1_room 7 = .ok (.iload_n 1, 1) := dk_27 (dk_at dksX1_room_0 7 rfl rfl)
theorem dX1_room_8 : decode cX1_room 8 = .ok (.iload_n 2, 1) := dk_28 (dk_at dksX1_room_0 8 rfl rfl)
theorem dX1_room_9 : decode cX1_room 9 = .ok (.invokespecial 96, 3) := dk_183 0 96 (dk_at dksX1_room_0 9 rfl rfl)
theorem dX1_room_12 : decode cX1_room 12 = .ok (.invokevirtual 99, 3) := dk_182 0 99 (dk_at dksX1_room_0 12 rfl rfl)
theorem dX1_room_15 : decode cX1_room 15 = .ok (.ireturn, 1) := dk_172 (dk_at dksX1_room_0 15 rfl rfl)
abbrev cX1_roomOf : ByteArray := prog_1_method_22_code
def yX1_roomOf : MethodName := ⟨RX1, "roomOf", "(II)I"⟩
def dkwX1_roomOf_6 : List UInt8 := [167, 0, 20, 42, 180, 0, 27, 45, 45, 180, 0, 217, 185, 0, 134, 1, 0, 182, 0, 230, 172]
abbrev dktX1_roomOf_6 : List UInt8 := dkwX1_roomOf_6 ++ []
def dkwX1_roomOf_5 : List UInt8 := [180, 0, 184, 172, 45, 180, 0, 220, 172, 45, 180, 0, 223, 172, 45, 182, 0, 226, 153, 0, 7, 2]
abbrev dktX1_roomOf_5 : List UInt8 := dkwX1_roomOf_5 ++ dktX1_roomOf_6
def dkwX1_roomOf_4 : List UInt8 := [199, 0, 7, 2, 167, 0, 8, 25, 4, 180, 0, 143, 172, 25, 4, 199, 0, 7, 2, 167, 0, 8, 25, 4]
abbrev dktX1_roomOf_4 : List UInt8 := dkwX1_roomOf_4 ++ dktX1_roomOf_5
def dkwX1_roomOf_3 : List UInt8 := [45, 180, 0, 209, 172, 45, 180, 0, 214, 172, 45, 180, 0, 217, 185, 0, 134, 1, 0, 172, 25, 4]
abbrev dktX1_roomOf_3 : List UInt8 := dkwX1_roomOf_3 ++ dktX1_roomOf_4
def dkwX1_roomOf_2 : List UInt8 := [170, 0, 0, 0, 0, 102, 0, 0, 0, 0, 0, 0, 0, 6, 0, 0, 0, 42, 0, 0, 0, 47, 0, 0, 0, 52, 0, 0, 0, 62, 0, 0, 0, 77, 0, 0, 0, 92, 0, 0, 0, 97]
abbrev dktX1_roomOf_2 : List UInt8 := dkwX1_roomOf_2 ++ dktX1_roomOf_3
def dkwX1_roomOf_1 : List UInt8 := [182, 0, 205, 58, 4, 28]
abbrev dktX1_roomOf_1 : List UInt8 := dkwX1_roomOf_1 ++ dktX1_roomOf_2
def dkwX1_roomOf_0 : List UInt8 := [42, 180, 0, 27, 27, 182, 0, 202, 78, 28, 3, 16, 7, 184, 0, 106, 184, 0, 110, 42, 180, 0, 27, 45]
abbrev dktX1_roomOf_0 : List UInt8 := dkwX1_roomOf_0 ++ dktX1_roomOf_1
theorem dksX1_roomOf_0 : cX1_roomOf.data.toList.drop 0 = dktX1_roomOf_0 := by decide +kernel
theorem dksX1_roomOf_1 : cX1_roomOf.data.toList.drop 24 = dktX1_roomOf_1 := dk_seg dksX1_roomOf_0 24 rfl rfl
theorem dksX1_roomOf_2 : cX1_roomOf.data.toList.drop 30 = dktX1_roomOf_2 := dk_seg dksX1_roomOf_1 6 rfl rfl
theorem dksX1_roomOf_3 : cX1_roomOf.data.toList.drop 72 = dktX1_roomOf_3 := dk_seg dksX1_roomOf_2 42 rfl rfl
theorem dksX1_roomOf_4 : cX1_roomOf.data.toList.drop 94 = dktX1_roomOf_4 := dk_seg dksX1_roomOf_3 22 rfl rfl
theorem dksX1_roomOf_5 : cX1_roomOf.data.toList.drop 118 = dktX1_roomOf_5 := dk_seg dksX1_roomOf_4 24 rfl rfl
theorem dksX1_roomOf_6 : cX1_roomOf.data.toList.drop 140 = dktX1_roomOf_6 := dk_seg dksX1_roomOf_5 22 rfl rfl
theorem dX1_roomOf_0 : decode cX1_roomOf 0 = .ok (.aload_n 0, 1) := dk_42 (dk_at dksX1_roomOf_0 0 rfl rfl)
theorem dX1_roomOf_1 : decode cX1_roomOf 1 = .ok (.getfield 27, 3) := dk_180 0 27 (dk_at dksX1_roomOf_0 1 rfl rfl)
theorem dX1_roomOf_4 : decode cX1_roomOf 4 = .ok (.iload_n 1, 1) := dk_27 (dk_at dksX1_roomOf_0 4 rfl rfl)
theorem dX1_roomOf_5 : decode cX1_roomOf 5 = .ok (.invokevirtual 202, 3) := dk_182 0 202 (dk_at dksX1_roomOf_0 5 rfl rfl)
theorem dX1_roomOf_8 : decode cX1_roomOf 8 = .ok (.astore_n 3, 1) := dk_78 (dk_at dksX1_roomOf_0 8 rfl rfl)
theorem dX1_roomOf_9 : decode cX1_roomOf 9 = .ok (.iload_n 2, 1) := dk_28 (dk_at dksX1_roomOf_0 9 rfl rfl)
theorem dX1_roomOf_10 : decode cX1_roomOf 10 = .ok (.iconst 0, 1) := dk_3 (dk_at dksX1_roomOf_0 10 rfl rfl)
theorem dX1_roomOf_11 : decode cX1_roomOf 11 = .ok (.bipush 7, 2) := dk_16 7 (dk_at dksX1_roomOf_0 11 rfl rfl)
theorem dX1_roomOf_13 : decode cX1_roomOf 13 = .ok (.invokestatic 106, 3) := dk_184 0 106 (dk_at dksX1_roomOf_0 13 rfl rfl)
theorem dX1_roomOf_16 : decode cX1_roomOf 16 = .ok (.invokestatic 110, 3) := dk_184 0 110 (dk_at dksX1_roomOf_0 16 rfl rfl)
theorem dX1_roomOf_19 : decode cX1_roomOf 19 = .ok (.aload_n 0, 1) := dk_42 (dk_at dksX1_roomOf_0 19 rfl rfl)
theorem dX1_roomOf_20 : decode cX1_roomOf 20 = .ok (.getfield 27, 3) := dk_180 0 27 (dk_at dksX1_roomOf_0 20 rfl rfl)
theorem dX1_roomOf_23 : decode cX1_roomOf 23 = .ok (.aload_n 3, 1) := dk_45 (dk_at dksX1_roomOf_0 23 rfl rfl)
theorem dX1_roomOf_24 : decode cX1_roomOf 24 = .ok (.invokevirtual 205, 3) := dk_182 0 205 (dk_at dksX1_roomOf_1 0 rfl rfl)
theorem dX1_roomOf_27 : decode cX1_roomOf 27 = .ok (.astore 4, 2) := dk_58 4 (dk_at dksX1_roomOf_1 3 rfl rfl)
theorem dX1_roomOf_29 : decode cX1_roomOf 29 = .ok (.iload_n 2, 1) := dk_28 (dk_at dksX1_roomOf_1 5 rfl rfl)
theorem dX1_roomOf_30 : decode cX1_roomOf 30 = .ok (.tableswitch 102 0 6 #[42, 47, 52, 62, 77, 92, 97], 42) := by decide +kernel
theorem dX1_roomOf_72 : decode cX1_roomOf 72 = .ok (.aload_n 3, 1) := dk_45 (dk_at dksX1_roomOf_3 0 rfl rfl)
theorem dX1_roomOf_73 : decode cX1_roomOf 73 = .ok (.getfield 209, 3) := dk_180 0 209 (dk_at dksX1_roomOf_3 1 rfl rfl)
theorem dX1_roomOf_76 : decode cX1_roomOf 76 = .ok (.ireturn, 1) := dk_172 (dk_at dksX1_roomOf_3 4 rfl rfl)
theorem dX1_roomOf_77 : decode cX1_roomOf 77 = .ok (.aload_n 3, 1) := dk_45 (dk_at dksX1_roomOf_3 5 rfl rfl)
theorem dX1_roomOf_78 : decode cX1_roomOf 78 = .ok (.getfield 214, 3) := dk_180 0 214 (dk_at dksX1_roomOf_3 6 rfl rfl)
theorem dX1_roomOf_81 : decode cX1_roomOf 81 = .ok (.ireturn, 1) := dk_172 (dk_at dksX1_roomOf_3 9 rfl rfl)
theorem dX1_roomOf_82 : decode cX1_roomOf 82 = .ok (.aload_n 3, 1) := dk_45 (dk_at dksX1_roomOf_3 10 rfl rfl)
theorem dX1_roomOf_83 : decode cX1_roomOf 83 = .ok (.getfield 217, 3) := dk_180 0 217 (dk_at dksX1_roomOf_3 11 rfl rfl)
theorem dX1_roomOf_86 : decode cX1_roomOf 86 = .ok (.invokeinterface 134 1, 5) := by decide +kernel
theorem dX1_roomOf_91 : decode cX1_roomOf 91 = .ok (.ireturn, 1) := dk_172 (dk_at dksX1_roomOf_3 19 rfl rfl)
theorem dX1_roomOf_92 : decode cX1_roomOf 92 = .ok (.aload 4, 2) := dk_25 4 (dk_at dksX1_roomOf_3 20 rfl rfl)
theorem dX1_roomOf_94 : decode cX1_roomOf 94 = .ok (.ifnonnull 7, 3) := dk_199 0 7 (dk_at dksX1_roomOf_4 0 rfl rfl)
theorem dX1_roomOf_97 : decode cX1_roomOf 97 = .ok (.iconst (-1), 1) := dk_2 (dk_at dksX1_roomOf_4 3 rfl rfl)
theorem dX1_roomOf_98 : decode cX1_roomOf 98 = .ok (.goto 8, 3) := dk_167 0 8 (dk_at dksX1_roomOf_4 4 rfl rfl)
theorem dX1_roomOf_101 : decode cX1_roomOf 101 = .ok (.aload 4, 2) := dk_25 4 (dk_at dksX1_roomOf_4 7 rfl rfl)
theorem dX1_roomOf_103 : decode cX1_roomOf 103 = .ok (.getfield 143, 3) := dk_180 0 143 (dk_at dksX1_roomOf_4 9 rfl rfl)
theorem dX1_roomOf_106 : decode cX1_roomOf 106 = .ok (.ireturn, 1) := dk_172 (dk_at dksX1_roomOf_4 12 rfl rfl)
theorem dX1_roomOf_107 : decode cX1_roomOf 107 = .ok (.aload 4, 2) := dk_25 4 (dk_at dksX1_roomOf_4 13 rfl rfl)
theorem dX1_roomOf_109 : decode cX1_roomOf 109 = .ok (.ifnonnull 7, 3) := dk_199 0 7 (dk_at dksX1_roomOf_4 15 rfl rfl)
theorem dX1_roomOf_112 : decode cX1_roomOf 112 = .ok (.iconst (-1), 1) := dk_2 (dk_at dksX1_roomOf_4 18 rfl rfl)
theorem dX1_roomOf_113 : decode cX1_roomOf 113 = .ok (.goto 8, 3) := dk_167 0 8 (dk_at dksX1_roomOf_4 19 rfl rfl)
theorem dX1_roomOf_116 : decode cX1_roomOf 116 = .ok (.aload 4, 2) := dk_25 4 (dk_at dksX1_roomOf_4 22 rfl rfl)
theorem dX1_roomOf_118 : decode cX1_roomOf 118 = .ok (.getfield 184, 3) := dk_180 0 184 (dk_at dksX1_roomOf_5 0 rfl rfl)
theorem dX1_roomOf_121 : decode cX1_roomOf 121 = .ok (.ireturn, 1) := dk_172 (dk_at dksX1_roomOf_5 3 rfl rfl)
theorem dX1_roomOf_122 : decode cX1_roomOf 122 = .ok (.aload_n 3, 1) := dk_45 (dk_at dksX1_roomOf_5 4 rfl rfl)
theorem dX1_roomOf_123 : decode cX1_roomOf 123 = .ok (.getfield 220, 3) := dk_180 0 220 (dk_at dksX1_roomOf_5 5 rfl rfl)
theorem dX1_roomOf_126 : decode cX1_roomOf 126 = .ok (.ireturn, 1) := dk_172 (dk_at dksX1_roomOf_5 8 rfl rfl)
theorem dX1_roomOf_127 : decode cX1_roomOf 127 = .ok (.aload_n 3, 1) := dk_45 (dk_at dksX1_roomOf_5 9 rfl rfl)
theorem dX1_roomOf_128 : decode cX1_roomOf 128 = .ok (.getfield 223, 3) := dk_180 0 223 (dk_at dksX1_roomOf_5 10 rfl rfl)
theorem dX1_roomOf_131 : decode cX1_roomOf 131 = .ok (.ireturn, 1) := dk_172 (dk_at dksX1_roomOf_5 13 rfl rfl)
theorem dX1_roomOf_132 : decode cX1_roomOf 132 = .ok (.aload_n 3, 1) := dk_45 (dk_at dksX1_roomOf_5 14 rfl rfl)
theorem dX1_roomOf_133 : decode cX1_roomOf 133 = .ok (.invokevirtual 226, 3) := dk_182 0 226 (dk_at dksX1_roomOf_5 15 rfl rfl)
theorem dX1_roomOf_136 : decode cX1_roomOf 136 = .ok (.ifCond .eq 7, 3) := dk_153 0 7 (dk_at dksX1_roomOf_5 18 rfl rfl)
theorem dX1_roomOf_139 : decode cX1_roomOf 139 = .ok (.iconst (-1), 1) := dk_2 (dk_at dksX1_roomOf_5 21 rfl rfl)
theorem dX1_roomOf_140 : decode cX1_roomOf 140 = .ok (.goto 20, 3) := dk_167 0 20 (dk_at dksX1_roomOf_6 0 rfl rfl)
theorem dX1_roomOf_143 : decode cX1_roomOf 143 = .ok (.aload_n 0, 1) := dk_42 (dk_at dksX1_roomOf_6 3 rfl rfl)
theorem dX1_roomOf_144 : decode cX1_roomOf 144 = .ok (.getfield 27, 3) := dk_180 0 27 (dk_at dksX1_roomOf_6 4 rfl rfl)
theorem dX1_roomOf_147 : decode cX1_roomOf 147 = .ok (.aload_n 3, 1) := dk_45 (dk_at dksX1_roomOf_6 7 rfl rfl)
theorem dX1_roomOf_148 : decode cX1_roomOf 148 = .ok (.aload_n 3, 1) := dk_45 (dk_at dksX1_roomOf_6 8 rfl rfl)
theorem dX1_roomOf_149 : decode cX1_roomOf 149 = .ok (.getfield 217, 3) := dk_180 0 217 (dk_at dksX1_roomOf_6 9 rfl rfl)
theorem dX1_roomOf_152 : decode cX1_roomOf 152 = .ok (.invokeinterface 134 1, 5) := by decide +kernel
theorem dX1_roomOf_157 : decode cX1_roomOf 157 = .ok (.invokevirtual 230, 3) := dk_182 0 230 (dk_at dksX1_roomOf_6 17 rfl rfl)
theorem dX1_roomOf_160 : decode cX1_roomOf 160 = .ok (.ireturn, 1) := dk_172 (dk_at dksX1_roomOf_6 20 rfl rfl)
abbrev cX1_dropOf : ByteArray := prog_1_method_23_code
def yX1_dropOf : MethodName := ⟨RX1, "dropOf", "(III)I"⟩
def dkwX1_dropOf_4 : List UInt8 := [25, 5, 180, 0, 244, 172]
abbrev dktX1_dropOf_4 : List UInt8 := dkwX1_dropOf_4 ++ []
def dkwX1_dropOf_3 : List UInt8 := [160, 0, 11, 25, 5, 180, 0, 241, 167, 0, 21, 29, 5, 160, 0, 11, 25, 5, 180, 0, 243, 167, 0, 8]
abbrev dktX1_dropOf_3 : List UInt8 := dkwX1_dropOf_3 ++ dktX1_dropOf_4
def dkwX1_dropOf_2 : List UInt8 := [185, 0, 137, 2, 0, 192, 0, 237, 58, 5, 29, 154, 0, 11, 25, 5, 180, 0, 239, 167, 0, 34, 29, 4]
abbrev dktX1_dropOf_2 : List UInt8 := dkwX1_dropOf_2 ++ dktX1_dropOf_3
def dkwX1_dropOf_1 : List UInt8 := [184, 0, 106, 184, 0, 234, 29, 3, 6, 184, 0, 106, 184, 0, 110, 25, 4, 180, 0, 217, 28]
abbrev dktX1_dropOf_1 : List UInt8 := dkwX1_dropOf_1 ++ dktX1_dropOf_2
def dkwX1_dropOf_0 : List UInt8 := [42, 180, 0, 27, 27, 182, 0, 202, 58, 4, 28, 3, 25, 4, 180, 0, 217, 185, 0, 134, 1, 0, 4, 100]
abbrev dktX1_dropOf_0 : List UInt8 := dkwX1_dropOf_0 ++ dktX1_dropOf_1
theorem dksX1_dropOf_0 : cX1_dropOf.data.toList.drop 0 = dktX1_dropOf_0 := by decide +kernel
theorem dksX1_dropOf_1 : cX1_dropOf.data.toList.drop 24 = dktX1_dropOf_1 := dk_seg dksX1_dropOf_0 24 rfl rfl
theorem dksX1_dropOf_2 : cX1_dropOf.data.toList.drop 45 = dktX1_dropOf_2 := dk_seg dksX1_dropOf_1 21 rfl rfl
theorem dksX1_dropOf_3 : cX1_dropOf.data.toList.drop 69 = dktX1_dropOf_3 := dk_seg dksX1_dropOf_2 24 rfl rfl
theorem dksX1_dropOf_4 : cX1_dropOf.data.toList.drop 93 = dktX1_dropOf_4 := dk_seg dksX1_dropOf_3 24 rfl rfl
theorem dX1_dropOf_0 : decode cX1_dropOf 0 = .ok (.aload_n 0, 1) := dk_42 (dk_at dksX1_dropOf_0 0 rfl rfl)
theorem dX1_dropOf_1 : decode cX1_dropOf 1 = .ok (.getfield 27, 3) := dk_180 0 27 (dk_at dksX1_dropOf_0 1 rfl rfl)
theorem dX1_dropOf_4 : decode cX1_dropOf 4 = .ok (.iload_n 1, 1) := dk_27 (dk_at dksX1_dropOf_0 4 rfl rfl)
theorem dX1_dropOf_5 : decode cX1_dropOf 5 = .ok (.invokevirtual 202, 3) := dk_182 0 202 (dk_at dksX1_dropOf_0 5 rfl rfl)
theorem dX1_dropOf_8 : decode cX1_dropOf 8 = .ok (.astore 4, 2) := dk_58 4 (dk_at dksX1_dropOf_0 8 rfl rfl)
theorem dX1_dropOf_10 : decode cX1_dropOf 10 = .ok (.iload_n 2, 1) := dk_28 (dk_at dksX1_dropOf_0 10 rfl rfl)
theorem dX1_dropOf_11 : decode cX1_dropOf 11 = .ok (.iconst 0, 1) := dk_3 (dk_at dksX1_dropOf_0 11 rfl rfl)
theorem dX1_dropOf_12 : decode cX1_dropOf 12 = .ok (.aload 4, 2) := dk_25 4 (dk_at dksX1_dropOf_0 12 rfl rfl)
theorem dX1_dropOf_14 : decode cX1_dropOf 14 = .ok (.getfield 217, 3) := dk_180 0 217 (dk_at dksX1_dropOf_0 14 rfl rfl)
theorem dX1_dropOf_17 : decode cX1_dropOf 17 = .ok (.invokeinterface 134 1, 5) := by decide +kernel
theorem dX1_dropOf_22 : decode cX1_dropOf 22 = .ok (.iconst 1, 1) := dk_4 (dk_at dksX1_dropOf_0 22 rfl rfl)
theorem dX1_dropOf_23 : decode cX1_dropOf 23 = .ok (.isub, 1) := dk_100 (dk_at dksX1_dropOf_0 23 rfl rfl)
theorem dX1_dropOf_24 : decode cX1_dropOf 24 = .ok (.invokestatic 106, 3) := dk_184 0 106 (dk_at dksX1_dropOf_1 0 rfl rfl)
theorem dX1_dropOf_27 : decode cX1_dropOf 27 = .ok (.invokestatic 234, 3) := dk_184 0 234 (dk_at dksX1_dropOf_1 3 rfl rfl)
theorem dX1_dropOf_30 : decode cX1_dropOf 30 = .ok (.iload_n 3, 1) := dk_29 (dk_at dksX1_dropOf_1 6 rfl rfl)
theorem dX1_dropOf_31 : decode cX1_dropOf 31 = .ok (.iconst 0, 1) := dk_3 (dk_at dksX1_dropOf_1 7 rfl rfl)
theorem dX1_dropOf_32 : decode cX1_dropOf 32 = .ok (.iconst 3, 1) := dk_6 (dk_at dksX1_dropOf_1 8 rfl rfl)
theorem dX1_dropOf_33 : decode cX1_dropOf 33 = .ok (.invokestatic 106, 3) := dk_184 0 106 (dk_at dksX1_dropOf_1 9 rfl rfl)
theorem dX1_dropOf_36 : decode cX1_dropOf 36 = .ok (.invokestatic 110, 3) := dk_184 0 110 (dk_at dksX1_dropOf_1 12 rfl rfl)
theorem dX1_dropOf_39 : decode cX1_dropOf 39 = .ok (.aload 4, 2) := dk_25 4 (dk_at dksX1_dropOf_1 15 rfl rfl)
theorem dX1_dropOf_41 : decode cX1_dropOf 41 = .ok (.getfield 217, 3) := dk_180 0 217 (dk_at dksX1_dropOf_1 17 rfl rfl)
theorem dX1_dropOf_44 : decode cX1_dropOf 44 = .ok (.iload_n 2, 1) := dk_28 (dk_at dksX1_dropOf_1 20 rfl rfl)
theorem dX1_dropOf_45 : decode cX1_dropOf 45 = .ok (.invokeinterface 137 2, 5) := by decide +kernel
theorem dX1_dropOf_50 : decode cX1_dropOf 50 = .ok (.checkcast 237, 3) := dk_192 0 237 (dk_at dksX1_dropOf_2 5 rfl rfl)
theorem dX1_dropOf_53 : decode cX1_dropOf 53 = .ok (.astore 5, 2) := dk_58 5 (dk_at dksX1_dropOf_2 8 rfl rfl)
theorem dX1_dropOf_55 : decode cX1_dropOf 55 = .ok (.iload_n 3, 1) := dk_29 (dk_at dksX1_dropOf_2 10 rfl rfl)
theorem dX1_dropOf_56 : decode cX1_dropOf 56 = .ok (.ifCond .ne 11, 3) := dk_154 0 11 (dk_at dksX1_dropOf_2 11 rfl rfl)
theorem dX1_dropOf_59 : decode cX1_dropOf 59 = .ok (.aload 5, 2) := dk_25 5 (dk_at dksX1_dropOf_2 14 rfl rfl)
theorem dX1_dropOf_61 : decode cX1_dropOf 61 = .ok (.getfield 239, 3) := dk_180 0 239 (dk_at dksX1_dropOf_2 16 rfl rfl)
theorem dX1_dropOf_64 : decode cX1_dropOf 64 = .ok (.goto 34, 3) := dk_167 0 34 (dk_at dksX1_dropOf_2 19 rfl rfl)
theorem dX1_dropOf_67 : decode cX1_dropOf 67 = .ok (.iload_n 3, 1) := dk_29 (dk_at dksX1_dropOf_2 22 rfl rfl)
theorem dX1_dropOf_68 : decode cX1_dropOf 68 = .ok (.iconst 1, 1) := dk_4 (dk_at dksX1_dropOf_2 23 rfl rfl)
theorem dX1_dropOf_69 : decode cX1_dropOf 69 = .ok (.if_icmp .ne 11, 3) := dk_160 0 11 (dk_at dksX1_dropOf_3 0 rfl rfl)
theorem dX1_dropOf_72 : decode cX1_dropOf 72 = .ok (.aload 5, 2) := dk_25 5 (dk_at dksX1_dropOf_3 3 rfl rfl)
theorem dX1_dropOf_74 : decode cX1_dropOf 74 = .ok (.getfield 241, 3) := dk_180 0 241 (dk_at dksX1_dropOf_3 5 rfl rfl)
theorem dX1_dropOf_77 : decode cX1_dropOf 77 = .ok (.goto 21, 3) := dk_167 0 21 (dk_at dksX1_dropOf_3 8 rfl rfl)
theorem dX1_dropOf_80 : decode cX1_dropOf 80 = .ok (.iload_n 3, 1) := dk_29 (dk_at dksX1_dropOf_3 11 rfl rfl)
theorem dX1_dropOf_81 : decode cX1_dropOf 81 = .ok (.iconst 2, 1) := dk_5 (dk_at dksX1_dropOf_3 12 rfl rfl)
theorem dX1_dropOf_82 : decode cX1_dropOf 82 = .ok (.if_icmp .ne 11, 3) := dk_160 0 11 (dk_at dksX1_dropOf_3 13 rfl rfl)
theorem dX1_dropOf_85 : decode cX1_dropOf 85 = .ok (.aload 5, 2) := dk_25 5 (dk_at dksX1_dropOf_3 16 rfl rfl)
theorem dX1_dropOf_87 : decode cX1_dropOf 87 = .ok (.getfield 243, 3) := dk_180 0 243 (dk_at dksX1_dropOf_3 18 rfl rfl)
theorem dX1_dropOf_90 : decode cX1_dropOf 90 = .ok (.goto 8, 3) := dk_167 0 8 (dk_at dksX1_dropOf_3 21 rfl rfl)
theorem dX1_dropOf_93 : decode cX1_dropOf 93 = .ok (.aload 5, 2) := dk_25 5 (dk_at dksX1_dropOf_4 0 rfl rfl)
theorem dX1_dropOf_95 : decode cX1_dropOf 95 = .ok (.getfield 244, 3) := dk_180 0 244 (dk_at dksX1_dropOf_4 2 rfl rfl)
theorem dX1_dropOf_98 : decode cX1_dropOf 98 = .ok (.ireturn, 1) := dk_172 (dk_at dksX1_dropOf_4 5 rfl rfl)
abbrev cX1_hang : ByteArray := prog_1_method_24_code
def yX1_hang : MethodName := ⟨RX1, "hang", "(II)I"⟩
def dkwX1_hang_0 : List UInt8 := [42, 187, 0, 92, 89, 18, 245, 27, 28, 183, 0, 96, 182, 0, 99, 172]
abbrev dktX1_hang_0 : List UInt8 := dkwX1_hang_0 ++ []
theorem dksX1_hang_0 : cX1_hang.data.toList.drop 0 = dktX1_hang_0 := by decide +kernel
theorem dX1_hang_0 : decode cX1_hang 0 = .ok (.aload_n 0, 1) := dk_42 (dk_at dksX1_hang_0 0 rfl rfl)
theorem dX1_hang_1 : decode cX1_hang 1 = .ok (.new 92, 3) := dk_187 0 92 (dk_at dksX1_hang_0 1 rfl rfl)
theorem dX1_hang_4 : decode cX1_hang 4 = .ok (.dup, 1) := dk_89 (dk_at dksX1_hang_0 4 rfl rfl)
theorem dX1_hang_5 : decode cX1_hang 5 = .ok (.ldc 245, 2) := dk_18 245 (dk_at dksX1_hang_0 5 rfl rfl)
theorem dX1_hang_7 : decode cX1_hang 7 = .ok (.iload_n 1, 1) := dk_27 (dk_at dksX1_hang_0 7 rfl rfl)
theorem dX1_hang_8 : decode cX1_hang 8 = .ok (.iload_n 2, 1) := dk_28 (dk_at dksX1_hang_0 8 rfl rfl)
theorem dX1_hang_9 : decode cX1_hang 9 = .ok (.invokespecial 96, 3) := dk_183 0 96 (dk_at dksX1_hang_0 9 rfl rfl)
theorem dX1_hang_12 : decode cX1_hang 12 = .ok (.invokevirtual 99, 3) := dk_182 0 99 (dk_at dksX1_hang_0 12 rfl rfl)
theorem dX1_hang_15 : decode cX1_hang 15 = .ok (.ireturn, 1) := dk_172 (dk_at dksX1_hang_0 15 rfl rfl)
abbrev cX1_why : ByteArray := prog_1_method_25_code
def yX1_why : MethodName := ⟨RX1, "why", "(IIZ)I"⟩
def dkwX1_why_2 : List UInt8 := [21, 5, 172]
abbrev dktX1_why_2 : List UInt8 := dkwX1_why_2 ++ []
def dkwX1_why_1 : List UInt8 := [182, 0, 247, 54, 5, 29, 153, 0, 18, 42, 180, 0, 27, 25, 4, 28, 21, 5, 182, 0, 251, 167, 0, 5]
abbrev dktX1_why_1 : List UInt8 := dkwX1_why_1 ++ dktX1_why_2
def dkwX1_why_0 : List UInt8 := [42, 180, 0, 27, 27, 182, 0, 202, 58, 4, 42, 180, 0, 27, 25, 4, 42, 180, 0, 27, 28, 182, 0, 176]
abbrev dktX1_why_0 : List UInt8 := dkwX1_why_0 ++ dktX1_why_1
theorem dksX1_why_0 : cX1_why.data.toList.drop 0 = dktX1_why_0 := by decide +kernel
theorem dksX1_why_1 : cX1_why.data.toList.drop 24 = dktX1_why_1 := dk_seg dksX1_why_0 24 rfl rfl
theorem dksX1_why_2 : cX1_why.data.toList.drop 48 = dktX1_why_2 := dk_seg dksX1_why_1 24 rfl rfl
theorem dX1_why_0 : decode cX1_why 0 = .ok (.aload_n 0, 1) := dk_42 (dk_at dksX1_why_0 0 rfl rfl)
theorem dX1_why_1 : decode cX1_why 1 = .ok (.getfield 27, 3) := dk_180 0 27 (dk_at dksX1_why_0 1 rfl rfl)
theorem dX1_why_4 : decode cX1_why 4 = .ok (.iload_n 1, 1) := dk_27 (dk_at dksX1_why_0 4 rfl rfl)
theorem dX1_why_5 : decode cX1_why 5 = .ok (.invokevirtual 202, 3) := dk_182 0 202 (dk_at dksX1_why_0 5 rfl rfl)
theorem dX1_why_8 : decode cX1_why 8 = .ok (.astore 4, 2) := dk_58 4 (dk_at dksX1_why_0 8 rfl rfl)
theorem dX1_why_10 : decode cX1_why 10 = .ok (.aload_n 0, 1) := dk_42 (dk_at dksX1_why_0 10 rfl rfl)
theorem dX1_why_11 : decode cX1_why 11 = .ok (.getfield 27, 3) := dk_180 0 27 (dk_at dksX1_why_0 11 rfl rfl)
theorem dX1_why_14 : decode cX1_why 14 = .ok (.aload 4, 2) := dk_25 4 (dk_at dksX1_why_0 14 rfl rfl)
theorem dX1_why_16 : decode cX1_why 16 = .ok (.aload_n 0, 1) := dk_42 (dk_at dksX1_why_0 16 rfl rfl)
theorem dX1_why_17 : decode cX1_why 17 = .ok (.getfield 27, 3) := dk_180 0 27 (dk_at dksX1_why_0 17 rfl rfl)
theorem dX1_why_20 : decode cX1_why 20 = .ok (.iload_n 2, 1) := dk_28 (dk_at dksX1_why_0 20 rfl rfl)
theorem dX1_why_21 : decode cX1_why 21 = .ok (.invokevirtual 176, 3) := dk_182 0 176 (dk_at dksX1_why_0 21 rfl rfl)
theorem dX1_why_24 : decode cX1_why 24 = .ok (.invokevirtual 247, 3) := dk_182 0 247 (dk_at dksX1_why_1 0 rfl rfl)
theorem dX1_why_27 : decode cX1_why 27 = .ok (.istore 5, 2) := dk_54 5 (dk_at dksX1_why_1 3 rfl rfl)
theorem dX1_why_29 : decode cX1_why 29 = .ok (.iload_n 3, 1) := dk_29 (dk_at dksX1_why_1 5 rfl rfl)
theorem dX1_why_30 : decode cX1_why 30 = .ok (.ifCond .eq 18, 3) := dk_153 0 18 (dk_at dksX1_why_1 6 rfl rfl)
theorem dX1_why_33 : decode cX1_why 33 = .ok (.aload_n 0, 1) := dk_42 (dk_at dksX1_why_1 9 rfl rfl)
theorem dX1_why_34 : decode cX1_why 34 = .ok (.getfield 27, 3) := dk_180 0 27 (dk_at dksX1_why_1 10 rfl rfl)
theorem dX1_why_37 : decode cX1_why 37 = .ok (.aload 4, 2) := dk_25 4 (dk_at dksX1_why_1 13 rfl rfl)
theorem dX1_why_39 : decode cX1_why 39 = .ok (.iload_n 2, 1) := dk_28 (dk_at dksX1_why_1 15 rfl rfl)
theorem dX1_why_40 : decode cX1_why 40 = .ok (.iload 5, 2) := dk_21 5 (dk_at dksX1_why_1 16 rfl rfl)
theorem dX1_why_42 : decode cX1_why 42 = .ok (.invokevirtual 251, 3) := dk_182 0 251 (dk_at dksX1_why_1 18 rfl rfl)
theorem dX1_why_45 : decode cX1_why 45 = .ok (.goto 5, 3) := dk_167 0 5 (dk_at dksX1_why_1 21 rfl rfl)
theorem dX1_why_48 : decode cX1_why 48 = .ok (.iload 5, 2) := dk_21 5 (dk_at dksX1_why_2 0 rfl rfl)
theorem dX1_why_50 : decode cX1_why 50 = .ok (.ireturn, 1) := dk_172 (dk_at dksX1_why_2 2 rfl rfl)
abbrev cX1_strip : ByteArray := prog_1_method_26_code
def yX1_strip : MethodName := ⟨RX1, "strip", "(I)I"⟩
def dkwX1_strip_0 : List UInt8 := [42, 187, 0, 92, 89, 18, 255, 27, 183, 0, 150, 182, 0, 99, 172]
abbrev dktX1_strip_0 : List UInt8 := dkwX1_strip_0 ++ []
theorem dksX1_strip_0 : cX1_strip.data.toList.drop 0 = dktX1_strip_0 := by decide +kernel
theorem dX1_strip_0 : decode cX1_strip 0 = .ok (.aload_n 0, 1) := dk_42 (dk_at dksX1_strip_0 0 rfl rfl)
theorem dX1_strip_1 : decode cX1_strip 1 = .ok (.new 92, 3) := dk_187 0 92 (dk_at dksX1_strip_0 1 rfl rfl)
theorem dX1_strip_4 : decode cX1_strip 4 = .ok (.dup, 1) := dk_89 (dk_at dksX1_strip_0 4 rfl rfl)
theorem dX1_strip_5 : decode cX1_strip 5 = .ok (.ldc 255, 2) := dk_18 255 (dk_at dksX1_strip_0 5 rfl rfl)
theorem dX1_strip_7 : decode cX1_strip 7 = .ok (.iload_n 1, 1) := dk_27 (dk_at dksX1_strip_0 7 rfl rfl)
theorem dX1_strip_8 : decode cX1_strip 8 = .ok (.invokespecial 150, 3) := dk_183 0 150 (dk_at dksX1_strip_0 8 rfl rfl)
theorem dX1_strip_11 : decode cX1_strip 11 = .ok (.invokevirtual 99, 3) := dk_182 0 99 (dk_at dksX1_strip_0 11 rfl rfl)
theorem dX1_strip_14 : decode cX1_strip 14 = .ok (.ireturn, 1) := dk_172 (dk_at dksX1_strip_0 14 rfl rfl)
abbrev cX1_isMatched : ByteArray := prog_1_method_27_code
def yX1_isMatched : MethodName := ⟨RX1, "isMatched", "(I)Z"⟩
def dkwX1_isMatched_3 : List UInt8 := [132, 4, 1, 167, 255, 201, 29, 172]
abbrev dktX1_isMatched_3 : List UInt8 := dkwX1_isMatched_3 ++ []
def dkwX1_isMatched_2 : List UInt8 := [180, 0, 241, 42, 180, 0, 27, 44, 21, 4, 182, 0, 230, 160, 0, 7, 4, 167, 0, 4, 3, 126, 62]
abbrev dktX1_isMatched_2 : List UInt8 := dkwX1_isMatched_2 ++ dktX1_isMatched_3
def dkwX1_isMatched_1 : List UInt8 := [185, 0, 134, 1, 0, 162, 0, 47, 29, 44, 180, 0, 217, 21, 4, 185, 0, 137, 2, 0, 192, 0, 237]
abbrev dktX1_isMatched_1 : List UInt8 := dkwX1_isMatched_1 ++ dktX1_isMatched_2
def dkwX1_isMatched_0 : List UInt8 := [42, 180, 0, 27, 27, 182, 0, 202, 77, 4, 62, 4, 54, 4, 21, 4, 44, 180, 0, 217]
abbrev dktX1_isMatched_0 : List UInt8 := dkwX1_isMatched_0 ++ dktX1_isMatched_1
theorem dksX1_isMatched_0 : cX1_isMatched.data.toList.drop 0 = dktX1_isMatched_0 := by decide +kernel
theorem dksX1_isMatched_1 : cX1_isMatched.data.toList.drop 20 = dktX1_isMatched_1 := dk_seg dksX1_isMatched_0 20 rfl rfl
theorem dksX1_isMatched_2 : cX1_isMatched.data.toList.drop 43 = dktX1_isMatched_2 := dk_seg dksX1_isMatched_1 23 rfl rfl
theorem dksX1_isMatched_3 : cX1_isMatched.data.toList.drop 66 = dktX1_isMatched_3 := dk_seg dksX1_isMatched_2 23 rfl rfl
theorem dX1_isMatched_0 : decode cX1_isMatched 0 = .ok (.aload_n 0, 1) := dk_42 (dk_at dksX1_isMatched_0 0 rfl rfl)
theorem dX1_isMatched_1 : decode cX1_isMatched 1 = .ok (.getfield 27, 3) := dk_180 0 27 (dk_at dksX1_isMatched_0 1 rfl rfl)
theorem dX1_isMatched_4 : decode cX1_isMatched 4 = .ok (.iload_n 1, 1) := dk_27 (dk_at dksX1_isMatched_0 4 rfl rfl)
theorem dX1_isMatched_5 : decode cX1_isMatched 5 = .ok (.invokevirtual 202, 3) := dk_182 0 202 (dk_at dksX1_isMatched_0 5 rfl rfl)
theorem dX1_isMatched_8 : decode cX1_isMatched 8 = .ok (.astore_n 2, 1) := dk_77 (dk_at dksX1_isMatched_0 8 rfl rfl)
theorem dX1_isMatched_9 : decode cX1_isMatched 9 = .ok (.iconst 1, 1) := dk_4 (dk_at dksX1_isMatched_0 9 rfl rfl)
theorem dX1_isMatched_10 : decode cX1_isMatched 10 = .ok (.istore_n 3, 1) := dk_62 (dk_at dksX1_isMatched_0 10 rfl rfl)
theorem dX1_isMatched_11 : decode cX1_isMatched 11 = .ok (.iconst 1, 1) := dk_4 (dk_at dksX1_isMatched_0 11 rfl rfl)
theorem dX1_isMatched_12 : decode cX1_isMatched 12 = .ok (.istore 4, 2) := dk_54 4 (dk_at dksX1_isMatched_0 12 rfl rfl)
theorem dX1_isMatched_14 : decode cX1_isMatched 14 = .ok (.iload 4, 2) := dk_21 4 (dk_at dksX1_isMatched_0 14 rfl rfl)
theorem dX1_isMatched_16 : decode cX1_isMatched 16 = .ok (.aload_n 2, 1) := dk_44 (dk_at dksX1_isMatched_0 16 rfl rfl)
theorem dX1_isMatched_17 : decode cX1_isMatched 17 = .ok (.getfield 217, 3) := dk_180 0 217 (dk_at dksX1_isMatched_0 17 rfl rfl)
theorem dX1_isMatched_20 : decode cX1_isMatched 20 = .ok (.invokeinterface 134 1, 5) := by decide +kernel
theorem dX1_isMatched_25 : decode cX1_isMatched 25 = .ok (.if_icmp .ge 47, 3) := dk_162 0 47 (dk_at dksX1_isMatched_1 5 rfl rfl)
theorem dX1_isMatched_28 : decode cX1_isMatched 28 = .ok (.iload_n 3, 1) := dk_29 (dk_at dksX1_isMatched_1 8 rfl rfl)
theorem dX1_isMatched_29 : decode cX1_isMatched 29 = .ok (.aload_n 2, 1) := dk_44 (dk_at dksX1_isMatched_1 9 rfl rfl)
theorem dX1_isMatched_30 : decode cX1_isMatched 30 = .ok (.getfield 217, 3) := dk_180 0 217 (dk_at dksX1_isMatched_1 10 rfl rfl)
theorem dX1_isMatched_33 : decode cX1_isMatched 33 = .ok (.iload 4, 2) := dk_21 4 (dk_at dksX1_isMatched_1 13 rfl rfl)
theorem dX1_isMatched_35 : decode cX1_isMatched 35 = .ok (.invokeinterface 137 2, 5) := by decide +kernel
theorem dX1_isMatched_40 : decode cX1_isMatched 40 = .ok (.checkcast 237, 3) := dk_192 0 237 (dk_at dksX1_isMatched_1 20 rfl rfl)
theorem dX1_isMatched_43 : decode cX1_isMatched 43 = .ok (.getfield 241, 3) := dk_180 0 241 (dk_at dksX1_isMatched_2 0 rfl rfl)
theorem dX1_isMatched_46 : decode cX1_isMatched 46 = .ok (.aload_n 0, 1) := dk_42 (dk_at dksX1_isMatched_2 3 rfl rfl)
theorem dX1_isMatched_47 : decode cX1_isMatched 47 = .ok (.getfield 27, 3) := dk_180 0 27 (dk_at dksX1_isMatched_2 4 rfl rfl)
theorem dX1_isMatched_50 : decode cX1_isMatched 50 = .ok (.aload_n 2, 1) := dk_44 (dk_at dksX1_isMatched_2 7 rfl rfl)
theorem dX1_isMatched_51 : decode cX1_isMatched 51 = .ok (.iload 4, 2) := dk_21 4 (dk_at dksX1_isMatched_2 8 rfl rfl)
theorem dX1_isMatched_53 : decode cX1_isMatched 53 = .ok (.invokevirtual 230, 3) := dk_182 0 230 (dk_at dksX1_isMatched_2 10 rfl rfl)
theorem dX1_isMatched_56 : decode cX1_isMatched 56 = .ok (.if_icmp .ne 7, 3) := dk_160 0 7 (dk_at dksX1_isMatched_2 13 rfl rfl)
theorem dX1_isMatched_59 : decode cX1_isMatched 59 = .ok (.iconst 1, 1) := dk_4 (dk_at dksX1_isMatched_2 16 rfl rfl)
theorem dX1_isMatched_60 : decode cX1_isMatched 60 = .ok (.goto 4, 3) := dk_167 0 4 (dk_at dksX1_isMatched_2 17 rfl rfl)
theorem dX1_isMatched_63 : decode cX1_isMatched 63 = .ok (.iconst 0, 1) := dk_3 (dk_at dksX1_isMatched_2 20 rfl rfl)
theorem dX1_isMatched_64 : decode cX1_isMatched 64 = .ok (.iand, 1) := dk_126 (dk_at dksX1_isMatched_2 21 rfl rfl)
theorem dX1_isMatched_65 : decode cX1_isMatched 65 = .ok (.istore_n 3, 1) := dk_62 (dk_at dksX1_isMatched_2 22 rfl rfl)
theorem dX1_isMatched_66 : decode cX1_isMatched 66 = .ok (.iinc 4 1, 3) := dk_132 4 1 (dk_at dksX1_isMatched_3 0 rfl rfl)
theorem dX1_isMatched_69 : decode cX1_isMatched 69 = .ok (.goto (-55), 3) := dk_167 255 201 (dk_at dksX1_isMatched_3 3 rfl rfl)
theorem dX1_isMatched_72 : decode cX1_isMatched 72 = .ok (.iload_n 3, 1) := dk_29 (dk_at dksX1_isMatched_3 6 rfl rfl)
theorem dX1_isMatched_73 : decode cX1_isMatched 73 = .ok (.ireturn, 1) := dk_172 (dk_at dksX1_isMatched_3 7 rfl rfl)
abbrev cX1_bestRoll : ByteArray := prog_1_method_28_code
def yX1_bestRoll : MethodName := ⟨RX1, "bestRoll", "(I)I"⟩
def dkwX1_bestRoll_1 : List UInt8 := [167, 0, 4, 3, 184, 0, 234, 28, 172]
abbrev dktX1_bestRoll_1 : List UInt8 := dkwX1_bestRoll_1 ++ []
def dkwX1_bestRoll_0 : List UInt8 := [42, 180, 0, 27, 42, 180, 0, 27, 27, 182, 0, 202, 182, 1, 1, 61, 28, 2, 159, 0, 7, 4]
abbrev dktX1_bestRoll_0 : List UInt8 := dkwX1_bestRoll_0 ++ dktX1_bestRoll_1
theorem dksX1_bestRoll_0 : cX1_bestRoll.data.toList.drop 0 = dktX1_bestRoll_0 := by decide +kernel
theorem dksX1_bestRoll_1 : cX1_bestRoll.data.toList.drop 22 = dktX1_bestRoll_1 := dk_seg dksX1_bestRoll_0 22 rfl rfl
theorem dX1_bestRoll_0 : decode cX1_bestRoll 0 = .ok (.aload_n 0, 1) := dk_42 (dk_at dksX1_bestRoll_0 0 rfl rfl)
theorem dX1_bestRoll_1 : decode cX1_bestRoll 1 = .ok (.getfield 27, 3) := dk_180 0 27 (dk_at dksX1_bestRoll_0 1 rfl rfl)
theorem dX1_bestRoll_4 : decode cX1_bestRoll 4 = .ok (.aload_n 0, 1) := dk_42 (dk_at dksX1_bestRoll_0 4 rfl rfl)
theorem dX1_bestRoll_5 : decode cX1_bestRoll 5 = .ok (.getfield 27, 3) := dk_180 0 27 (dk_at dksX1_bestRoll_0 5 rfl rfl)
theorem dX1_bestRoll_8 : decode cX1_bestRoll 8 = .ok (.iload_n 1, 1) := dk_27 (dk_at dksX1_bestRoll_0 8 rfl rfl)
theorem dX1_bestRoll_9 : decode cX1_bestRoll 9 = .ok (.invokevirtual 202, 3) := dk_182 0 202 (dk_at dksX1_bestRoll_0 9 rfl rfl)
theorem dX1_bestRoll_12 : decode cX1_bestRoll 12 = .ok (.invokevirtual 257, 3) := dk_182 1 1 (dk_at dksX1_bestRoll_0 12 rfl rfl)
theorem dX1_bestRoll_15 : decode cX1_bestRoll 15 = .ok (.istore_n 2, 1) := dk_61 (dk_at dksX1_bestRoll_0 15 rfl rfl)
theorem dX1_bestRoll_16 : decode cX1_bestRoll 16 = .ok (.iload_n 2, 1) := dk_28 (dk_at dksX1_bestRoll_0 16 rfl rfl)
theorem dX1_bestRoll_17 : decode cX1_bestRoll 17 = .ok (.iconst (-1), 1) := dk_2 (dk_at dksX1_bestRoll_0 17 rfl rfl)
theorem dX1_bestRoll_18 : decode cX1_bestRoll 18 = .ok (.if_icmp .eq 7, 3) := dk_159 0 7 (dk_at dksX1_bestRoll_0 18 rfl rfl)
theorem dX1_bestRoll_21 : decode cX1_bestRoll 21 = .ok (.iconst 1, 1) := dk_4 (dk_at dksX1_bestRoll_0 21 rfl rfl)
theorem dX1_bestRoll_22 : decode cX1_bestRoll 22 = .ok (.goto 4, 3) := dk_167 0 4 (dk_at dksX1_bestRoll_1 0 rfl rfl)
theorem dX1_bestRoll_25 : decode cX1_bestRoll 25 = .ok (.iconst 0, 1) := dk_3 (dk_at dksX1_bestRoll_1 3 rfl rfl)
theorem dX1_bestRoll_26 : decode cX1_bestRoll 26 = .ok (.invokestatic 234, 3) := dk_184 0 234 (dk_at dksX1_bestRoll_1 4 rfl rfl)
theorem dX1_bestRoll_29 : decode cX1_bestRoll 29 = .ok (.iload_n 2, 1) := dk_28 (dk_at dksX1_bestRoll_1 7 rfl rfl)
theorem dX1_bestRoll_30 : decode cX1_bestRoll 30 = .ok (.ireturn, 1) := dk_172 (dk_at dksX1_bestRoll_1 8 rfl rfl)
abbrev cX1_finish : ByteArray := prog_1_method_29_code
def yX1_finish : MethodName := ⟨RX1, "finish", "(I)I"⟩
def dkwX1_finish_0 : List UInt8 := [42, 187, 0, 92, 89, 19, 1, 5, 27, 183, 0, 150, 182, 0, 99, 172]
abbrev dktX1_finish_0 : List UInt8 := dkwX1_finish_0 ++ []
theorem dksX1_finish_0 : cX1_finish.data.toList.drop 0 = dktX1_finish_0 := by decide +kernel
theorem dX1_finish_0 : decode cX1_finish 0 = .ok (.aload_n 0, 1) := dk_42 (dk_at dksX1_finish_0 0 rfl rfl)
theorem dX1_finish_1 : decode cX1_finish 1 = .ok (.new 92, 3) := dk_187 0 92 (dk_at dksX1_finish_0 1 rfl rfl)
theorem dX1_finish_4 : decode cX1_finish 4 = .ok (.dup, 1) := dk_89 (dk_at dksX1_finish_0 4 rfl rfl)
theorem dX1_finish_5 : decode cX1_finish 5 = .ok (.ldc_w 261, 3) := dk_19 1 5 (dk_at dksX1_finish_0 5 rfl rfl)
theorem dX1_finish_8 : decode cX1_finish 8 = .ok (.iload_n 1, 1) := dk_27 (dk_at dksX1_finish_0 8 rfl rfl)
theorem dX1_finish_9 : decode cX1_finish 9 = .ok (.invokespecial 150, 3) := dk_183 0 150 (dk_at dksX1_finish_0 9 rfl rfl)
theorem dX1_finish_12 : decode cX1_finish 12 = .ok (.invokevirtual 99, 3) := dk_182 0 99 (dk_at dksX1_finish_0 12 rfl rfl)
theorem dX1_finish_15 : decode cX1_finish 15 = .ok (.ireturn, 1) := dk_172 (dk_at dksX1_finish_0 15 rfl rfl)
abbrev cX1_dropsFrom : ByteArray := prog_1_method_30_code
def yX1_dropsFrom : MethodName := ⟨RX1, "dropsFrom", "(II)I"⟩
def dkwX1_dropsFrom_0 : List UInt8 := [42, 180, 0, 27, 42, 180, 0, 27, 27, 182, 0, 202, 42, 180, 0, 27, 28, 182, 0, 176, 182, 1, 7, 172]
abbrev dktX1_dropsFrom_0 : List UInt8 := dkwX1_dropsFrom_0 ++ []
theorem dksX1_dropsFrom_0 : cX1_dropsFrom.data.toList.drop 0 = dktX1_dropsFrom_0 := by decide +kernel
theorem dX1_dropsFrom_0 : decode cX1_dropsFrom 0 = .ok (.aload_n 0, 1) := dk_42 (dk_at dksX1_dropsFrom_0 0 rfl rfl)
theorem dX1_dropsFrom_1 : decode cX1_dropsFrom 1 = .ok (.getfield 27, 3) := dk_180 0 27 (dk_at dksX1_dropsFrom_0 1 rfl rfl)
theorem dX1_dropsFrom_4 : decode cX1_dropsFrom 4 = .ok (.aload_n 0, 1) := dk_42 (dk_at dksX1_dropsFrom_0 4 rfl rfl)
theorem dX1_dropsFrom_5 : decode cX1_dropsFrom 5 = .ok (.getfield 27, 3) := dk_180 0 27 (dk_at dksX1_dropsFrom_0 5 rfl rfl)
theorem dX1_dropsFrom_8 : decode cX1_dropsFrom 8 = .ok (.iload_n 1, 1) := dk_27 (dk_at dksX1_dropsFrom_0 8 rfl rfl)
theorem dX1_dropsFrom_9 : decode cX1_dropsFrom 9 = .ok (.invokevirtual 202, 3) := dk_182 0 202 (dk_at dksX1_dropsFrom_0 9 rfl rfl)
theorem dX1_dropsFrom_12 : decode cX1_dropsFrom 12 = .ok (.aload_n 0, 1) := dk_42 (dk_at dksX1_dropsFrom_0 12 rfl rfl)
theorem dX1_dropsFrom_13 : decode cX1_dropsFrom 13 = .ok (.getfield 27, 3) := dk_180 0 27 (dk_at dksX1_dropsFrom_0 13 rfl rfl)
theorem dX1_dropsFrom_16 : decode cX1_dropsFrom 16 = .ok (.iload_n 2, 1) := dk_28 (dk_at dksX1_dropsFrom_0 16 rfl rfl)
theorem dX1_dropsFrom_17 : decode cX1_dropsFrom 17 = .ok (.invokevirtual 176, 3) := dk_182 0 176 (dk_at dksX1_dropsFrom_0 17 rfl rfl)
theorem dX1_dropsFrom_20 : decode cX1_dropsFrom 20 = .ok (.invokevirtual 263, 3) := dk_182 1 7 (dk_at dksX1_dropsFrom_0 20 rfl rfl)
theorem dX1_dropsFrom_23 : decode cX1_dropsFrom 23 = .ok (.ireturn, 1) := dk_172 (dk_at dksX1_dropsFrom_0 23 rfl rfl)
abbrev cX1_dropsAgain : ByteArray := prog_1_method_31_code
def yX1_dropsAgain : MethodName := ⟨RX1, "dropsAgain", "(II)I"⟩
def dkwX1_dropsAgain_4 : List UInt8 := [21, 6, 172]
abbrev dktX1_dropsAgain_4 : List UInt8 := dkwX1_dropsAgain_4 ++ []
def dkwX1_dropsAgain_3 : List UInt8 := [180, 1, 9, 27, 185, 0, 137, 2, 0, 192, 0, 210, 28, 182, 1, 12, 54, 7, 132, 6, 1, 167, 255, 195]
abbrev dktX1_dropsAgain_3 : List UInt8 := dkwX1_dropsAgain_3 ++ dktX1_dropsAgain_4
def dkwX1_dropsAgain_2 : List UInt8 := [180, 0, 130, 28, 185, 0, 137, 2, 0, 192, 0, 141, 182, 0, 247, 154, 0, 31, 25, 5, 25, 5]
abbrev dktX1_dropsAgain_2 : List UInt8 := dkwX1_dropsAgain_2 ++ dktX1_dropsAgain_3
def dkwX1_dropsAgain_1 : List UInt8 := [58, 5, 3, 54, 6, 25, 5, 25, 5, 180, 1, 9, 27, 185, 0, 137, 2, 0, 192, 0, 210, 25, 5]
abbrev dktX1_dropsAgain_1 : List UInt8 := dkwX1_dropsAgain_1 ++ dktX1_dropsAgain_2
def dkwX1_dropsAgain_0 : List UInt8 := [42, 180, 0, 27, 27, 182, 0, 202, 78, 42, 180, 0, 27, 28, 182, 0, 176, 58, 4, 42, 182, 0, 72]
abbrev dktX1_dropsAgain_0 : List UInt8 := dkwX1_dropsAgain_0 ++ dktX1_dropsAgain_1
theorem dksX1_dropsAgain_0 : cX1_dropsAgain.data.toList.drop 0 = dktX1_dropsAgain_0 := by decide +kernel
theorem dksX1_dropsAgain_1 : cX1_dropsAgain.data.toList.drop 23 = dktX1_dropsAgain_1 := dk_seg dksX1_dropsAgain_0 23 rfl rfl
theorem dksX1_dropsAgain_2 : cX1_dropsAgain.data.toList.drop 46 = dktX1_dropsAgain_2 := dk_seg dksX1_dropsAgain_1 23 rfl rfl
theorem dksX1_dropsAgain_3 : cX1_dropsAgain.data.toList.drop 68 = dktX1_dropsAgain_3 := dk_seg dksX1_dropsAgain_2 22 rfl rfl
theorem dksX1_dropsAgain_4 : cX1_dropsAgain.data.toList.drop 92 = dktX1_dropsAgain_4 := dk_seg dksX1_dropsAgain_3 24 rfl rfl
theorem dX1_dropsAgain_0 : decode cX1_dropsAgain 0 = .ok (.aload_n 0, 1) := dk_42 (dk_at dksX1_dropsAgain_0 0 rfl rfl)
theorem dX1_dropsAgain_1 : decode cX1_dropsAgain 1 = .ok (.getfield 27, 3) := dk_180 0 27 (dk_at dksX1_dropsAgain_0 1 rfl rfl)
theorem dX1_dropsAgain_4 : decode cX1_dropsAgain 4 = .ok (.iload_n 1, 1) := dk_27 (dk_at dksX1_dropsAgain_0 4 rfl rfl)
theorem dX1_dropsAgain_5 : decode cX1_dropsAgain 5 = .ok (.invokevirtual 202, 3) := dk_182 0 202 (dk_at dksX1_dropsAgain_0 5 rfl rfl)
theorem dX1_dropsAgain_8 : decode cX1_dropsAgain 8 = .ok (.astore_n 3, 1) := dk_78 (dk_at dksX1_dropsAgain_0 8 rfl rfl)
theorem dX1_dropsAgain_9 : decode cX1_dropsAgain 9 = .ok (.aload_n 0, 1) := dk_42 (dk_at dksX1_dropsAgain_0 9 rfl rfl)
theorem dX1_dropsAgain_10 : decode cX1_dropsAgain 10 = .ok (.getfield 27, 3) := dk_180 0 27 (dk_at dksX1_dropsAgain_0 10 rfl rfl)
theorem dX1_dropsAgain_13 : decode cX1_dropsAgain 13 = .ok (.iload_n 2, 1) := dk_28 (dk_at dksX1_dropsAgain_0 13 rfl rfl)
theorem dX1_dropsAgain_14 : decode cX1_dropsAgain 14 = .ok (.invokevirtual 176, 3) := dk_182 0 176 (dk_at dksX1_dropsAgain_0 14 rfl rfl)
theorem dX1_dropsAgain_17 : decode cX1_dropsAgain 17 = .ok (.astore 4, 2) := dk_58 4 (dk_at dksX1_dropsAgain_0 17 rfl rfl)
theorem dX1_dropsAgain_19 : decode cX1_dropsAgain 19 = .ok (.aload_n 0, 1) := dk_42 (dk_at dksX1_dropsAgain_0 19 rfl rfl)
theorem dX1_dropsAgain_20 : decode cX1_dropsAgain 20 = .ok (.invokevirtual 72, 3) := dk_182 0 72 (dk_at dksX1_dropsAgain_0 20 rfl rfl)
theorem dX1_dropsAgain_23 : decode cX1_dropsAgain 23 = .ok (.astore 5, 2) := dk_58 5 (dk_at dksX1_dropsAgain_1 0 rfl rfl)
theorem dX1_dropsAgain_25 : decode cX1_dropsAgain 25 = .ok (.iconst 0, 1) := dk_3 (dk_at dksX1_dropsAgain_1 2 rfl rfl)
theorem dX1_dropsAgain_26 : decode cX1_dropsAgain 26 = .ok (.istore 6, 2) := dk_54 6 (dk_at dksX1_dropsAgain_1 3 rfl rfl)
theorem dX1_dropsAgain_28 : decode cX1_dropsAgain 28 = .ok (.aload 5, 2) := dk_25 5 (dk_at dksX1_dropsAgain_1 5 rfl rfl)
theorem dX1_dropsAgain_30 : decode cX1_dropsAgain 30 = .ok (.aload 5, 2) := dk_25 5 (dk_at dksX1_dropsAgain_1 7 rfl rfl)
theorem dX1_dropsAgain_32 : decode cX1_dropsAgain 32 = .ok (.getfield 265, 3) := dk_180 1 9 (dk_at dksX1_dropsAgain_1 9 rfl rfl)
theorem dX1_dropsAgain_35 : decode cX1_dropsAgain 35 = .ok (.iload_n 1, 1) := dk_27 (dk_at dksX1_dropsAgain_1 12 rfl rfl)
theorem dX1_dropsAgain_36 : decode cX1_dropsAgain 36 = .ok (.invokeinterface 137 2, 5) := by decide +kernel
theorem dX1_dropsAgain_41 : decode cX1_dropsAgain 41 = .ok (.checkcast 210, 3) := dk_192 0 210 (dk_at dksX1_dropsAgain_1 18 rfl rfl)
theorem dX1_dropsAgain_44 : decode cX1_dropsAgain 44 = .ok (.aload 5, 2) := dk_25 5 (dk_at dksX1_dropsAgain_1 21 rfl rfl)
theorem dX1_dropsAgain_46 : decode cX1_dropsAgain 46 = .ok (.getfield 130, 3) := dk_180 0 130 (dk_at dksX1_dropsAgain_2 0 rfl rfl)
theorem dX1_dropsAgain_49 : decode cX1_dropsAgain 49 = .ok (.iload_n 2, 1) := dk_28 (dk_at dksX1_dropsAgain_2 3 rfl rfl)
theorem dX1_dropsAgain_50 : decode cX1_dropsAgain 50 = .ok (.invokeinterface 137 2, 5) := by decide +kernel
theorem dX1_dropsAgain_55 : decode cX1_dropsAgain 55 = .ok (.checkcast 141, 3) := dk_192 0 141 (dk_at dksX1_dropsAgain_2 9 rfl rfl)
theorem dX1_dropsAgain_58 : decode cX1_dropsAgain 58 = .ok (.invokevirtual 247, 3) := dk_182 0 247 (dk_at dksX1_dropsAgain_2 12 rfl rfl)
theorem dX1_dropsAgain_61 : decode cX1_dropsAgain 61 = .ok (.ifCond .ne 31, 3) := dk_154 0 31 (dk_at dksX1_dropsAgain_2 15 rfl rfl)
theorem dX1_dropsAgain_64 : decode cX1_dropsAgain 64 = .ok (.aload 5, 2) := dk_25 5 (dk_at dksX1_dropsAgain_2 18 rfl rfl)
theorem dX1_dropsAgain_66 : decode cX1_dropsAgain 66 = .ok (.aload 5, 2) := dk_25 5 (dk_at dksX1_dropsAgain_2 20 rfl rfl)
theorem dX1_dropsAgain_68 : decode cX1_dropsAgain 68 = .ok (.getfield 265, 3) := dk_180 1 9 (dk_at dksX1_dropsAgain_3 0 rfl rfl)
theorem dX1_dropsAgain_71 : decode cX1_dropsAgain 71 = .ok (.iload_n 1, 1) := dk_27 (dk_at dksX1_dropsAgain_3 3 rfl rfl)
theorem dX1_dropsAgain_72 : decode cX1_dropsAgain 72 = .ok (.invokeinterface 137 2, 5) := by decide +kernel
theorem dX1_dropsAgain_77 : decode cX1_dropsAgain 77 = .ok (.checkcast 210, 3) := dk_192 0 210 (dk_at dksX1_dropsAgain_3 9 rfl rfl)
theorem dX1_dropsAgain_80 : decode cX1_dropsAgain 80 = .ok (.iload_n 2, 1) := dk_28 (dk_at dksX1_dropsAgain_3 12 rfl rfl)
theorem dX1_dropsAgain_81 : decode cX1_dropsAgain 81 = .ok (.invokevirtual 268, 3) := dk_182 1 12 (dk_at dksX1_dropsAgain_3 13 rfl rfl)
theorem dX1_dropsAgain_84 : decode cX1_dropsAgain 84 = .ok (.istore 7, 2) := dk_54 7 (dk_at dksX1_dropsAgain_3 16 rfl rfl)
theorem dX1_dropsAgain_86 : decode cX1_dropsAgain 86 = .ok (.iinc 6 1, 3) := dk_132 6 1 (dk_at dksX1_dropsAgain_3 18 rfl rfl)
theorem dX1_dropsAgain_89 : decode cX1_dropsAgain 89 = .ok (.goto (-61), 3) := dk_167 255 195 (dk_at dksX1_dropsAgain_3 21 rfl rfl)
theorem dX1_dropsAgain_92 : decode cX1_dropsAgain 92 = .ok (.iload 6, 2) := dk_21 6 (dk_at dksX1_dropsAgain_4 0 rfl rfl)
theorem dX1_dropsAgain_94 : decode cX1_dropsAgain 94 = .ok (.ireturn, 1) := dk_172 (dk_at dksX1_dropsAgain_4 2 rfl rfl)
abbrev cX1_line : ByteArray := prog_1_method_32_code
def yX1_line : MethodName := ⟨RX1, "line", "(I)I"⟩
def dkwX1_line_3 : List UInt8 := [183, 1, 31, 44, 182, 1, 34, 182, 1, 38, 181, 0, 49, 42, 180, 0, 49, 185, 1, 41, 1, 0, 172]
abbrev dktX1_line_3 : List UInt8 := dkwX1_line_3 ++ []
def dkwX1_line_2 : List UInt8 := [19, 1, 25, 182, 1, 20, 44, 180, 0, 183, 182, 1, 14, 182, 1, 27, 78, 42, 187, 0, 40, 89, 45]
abbrev dktX1_line_2 : List UInt8 := dkwX1_line_2 ++ dktX1_line_3
def dkwX1_line_1 : List UInt8 := [182, 1, 20, 44, 182, 0, 188, 182, 1, 14, 19, 1, 23, 182, 1, 20, 44, 180, 0, 180, 182, 1, 14]
abbrev dktX1_line_1 : List UInt8 := dkwX1_line_1 ++ dktX1_line_2
def dkwX1_line_0 : List UInt8 := [42, 180, 0, 27, 27, 182, 0, 176, 77, 187, 0, 40, 89, 183, 0, 42, 27, 182, 1, 14, 19, 1, 18]
abbrev dktX1_line_0 : List UInt8 := dkwX1_line_0 ++ dktX1_line_1
theorem dksX1_line_0 : cX1_line.data.toList.drop 0 = dktX1_line_0 := by decide +kernel
theorem dksX1_line_1 : cX1_line.data.toList.drop 23 = dktX1_line_1 := dk_seg dksX1_line_0 23 rfl rfl
theorem dksX1_line_2 : cX1_line.data.toList.drop 46 = dktX1_line_2 := dk_seg dksX1_line_1 23 rfl rfl
theorem dksX1_line_3 : cX1_line.data.toList.drop 69 = dktX1_line_3 := dk_seg dksX1_line_2 23 rfl rfl
theorem dX1_line_0 : decode cX1_line 0 = .ok (.aload_n 0, 1) := dk_42 (dk_at dksX1_line_0 0 rfl rfl)
theorem dX1_line_1 : decode cX1_line 1 = .ok (.getfield 27, 3) := dk_180 0 27 (dk_at dksX1_line_0 1 rfl rfl)
theorem dX1_line_4 : decode cX1_line 4 = .ok (.iload_n 1, 1) := dk_27 (dk_at dksX1_line_0 4 rfl rfl)
theorem dX1_line_5 : decode cX1_line 5 = .ok (.invokevirtual 176, 3) := dk_182 0 176 (dk_at dksX1_line_0 5 rfl rfl)
theorem dX1_line_8 : decode cX1_line 8 = .ok (.astore_n 2, 1) := dk_77 (dk_at dksX1_line_0 8 rfl rfl)
theorem dX1_line_9 : decode cX1_line 9 = .ok (.new 40, 3) := dk_187 0 40 (dk_at dksX1_line_0 9 rfl rfl)
theorem dX1_line_12 : decode cX1_line 12 = .ok (.dup, 1) := dk_89 (dk_at dksX1_line_0 12 rfl rfl)
theorem dX1_line_13 : decode cX1_line 13 = .ok (.invokespecial 42, 3) := dk_183 0 42 (dk_at dksX1_line_0 13 rfl rfl)
theorem dX1_line_16 : decode cX1_line 16 = .ok (.iload_n 1, 1) := dk_27 (dk_at dksX1_line_0 16 rfl rfl)
theorem dX1_line_17 : decode cX1_line 17 = .ok (.invokevirtual 270, 3) := dk_182 1 14 (dk_at dksX1_line_0 17 rfl rfl)
theorem dX1_line_20 : decode cX1_line 20 = .ok (.ldc_w 274, 3) := dk_19 1 18 (dk_at dksX1_line_0 20 rfl rfl)
theorem dX1_line_23 : decode cX1_line 23 = .ok (.invokevirtual 276, 3) := dk_182 1 20 (dk_at dksX1_line_1 0 rfl rfl)
theorem dX1_line_26 : decode cX1_line 26 = .ok (.aload_n 2, 1) := dk_44 (dk_at dksX1_line_1 3 rfl rfl)
theorem dX1_line_27 : decode cX1_line 27 = .ok (.invokevirtual 188, 3) := dk_182 0 188 (dk_at dksX1_line_1 4 rfl rfl)
theorem dX1_line_30 : decode cX1_line 30 = .ok (.invokevirtual 270, 3) := dk_182 1 14 (dk_at dksX1_line_1 7 rfl rfl)
theorem dX1_line_33 : decode cX1_line 33 = .ok (.ldc_w 279, 3) := dk_19 1 23 (dk_at dksX1_line_1 10 rfl rfl)
theorem dX1_line_36 : decode cX1_line 36 = .ok (.invokevirtual 276, 3) := dk_182 1 20 (dk_at dksX1_line_1 13 rfl rfl)
theorem dX1_line_39 : decode cX1_line 39 = .ok (.aload_n 2, 1) := dk_44 (dk_at dksX1_line_1 16 rfl rfl)
theorem dX1_line_40 : decode cX1_line 40 = .ok (.getfield 180, 3) := dk_180 0 180 (dk_at dksX1_line_1 17 rfl rfl)
theorem dX1_line_43 : decode cX1_line 43 = .ok (.invokevirtual 270, 3) := dk_182 1 14 (dk_at dksX1_line_1 20 rfl rfl)
theorem dX1_line_46 : decode cX1_line 46 = .ok (.ldc_w 281, 3) := dk_19 1 25 (dk_at dksX1_line_2 0 rfl rfl)
theorem dX1_line_49 : decode cX1_line 49 = .ok (.invokevirtual 276, 3) := dk_182 1 20 (dk_at dksX1_line_2 3 rfl rfl)
theorem dX1_line_52 : decode cX1_line 52 = .ok (.aload_n 2, 1) := dk_44 (dk_at dksX1_line_2 6 rfl rfl)
theorem dX1_line_53 : decode cX1_line 53 = .ok (.getfield 183, 3) := dk_180 0 183 (dk_at dksX1_line_2 7 rfl rfl)
theorem dX1_line_56 : decode cX1_line 56 = .ok (.invokevirtual 270, 3) := dk_182 1 14 (dk_at dksX1_line_2 10 rfl rfl)
theorem dX1_line_59 : decode cX1_line 59 = .ok (.invokevirtual 283, 3) := dk_182 1 27 (dk_at dksX1_line_2 13 rfl rfl)
theorem dX1_line_62 : decode cX1_line 62 = .ok (.astore_n 3, 1) := dk_78 (dk_at dksX1_line_2 16 rfl rfl)
theorem dX1_line_63 : decode cX1_line 63 = .ok (.aload_n 0, 1) := dk_42 (dk_at dksX1_line_2 17 rfl rfl)
theorem dX1_line_64 : decode cX1_line 64 = .ok (.new 40, 3) := dk_187 0 40 (dk_at dksX1_line_2 18 rfl rfl)
theorem dX1_line_67 : decode cX1_line 67 = .ok (.dup, 1) := dk_89 (dk_at dksX1_line_2 21 rfl rfl)
theorem dX1_line_68 : decode cX1_line 68 = .ok (.aload_n 3, 1) := dk_45 (dk_at dksX1_line_2 22 rfl rfl)
theorem dX1_line_69 : decode cX1_line 69 = .ok (.invokespecial 287, 3) := dk_183 1 31 (dk_at dksX1_line_3 0 rfl rfl)
theorem dX1_line_72 : decode cX1_line 72 = .ok (.aload_n 2, 1) := dk_44 (dk_at dksX1_line_3 3 rfl rfl)
theorem dX1_line_73 : decode cX1_line 73 = .ok (.invokevirtual 290, 3) := dk_182 1 34 (dk_at dksX1_line_3 4 rfl rfl)
theorem dX1_line_76 : decode cX1_line 76 = .ok (.invokevirtual 294, 3) := dk_182 1 38 (dk_at dksX1_line_3 7 rfl rfl)
theorem dX1_line_79 : decode cX1_line 79 = .ok (.putfield 49, 3) := dk_181 0 49 (dk_at dksX1_line_3 10 rfl rfl)
theorem dX1_line_82 : decode cX1_line 82 = .ok (.aload_n 0, 1) := dk_42 (dk_at dksX1_line_3 13 rfl rfl)
theorem dX1_line_83 : decode cX1_line 83 = .ok (.getfield 49, 3) := dk_180 0 49 (dk_at dksX1_line_3 14 rfl rfl)
theorem dX1_line_86 : decode cX1_line 86 = .ok (.invokeinterface 297 1, 5) := by decide +kernel
theorem dX1_line_91 : decode cX1_line 91 = .ok (.ireturn, 1) := dk_172 (dk_at dksX1_line_3 22 rfl rfl)
abbrev cX1_character : ByteArray := prog_1_method_33_code
def yX1_character : MethodName := ⟨RX1, "character", "(I)C"⟩
def dkwX1_character_1 : List UInt8 := [185, 1, 48, 2, 0, 172]
abbrev dktX1_character_1 : List UInt8 := dkwX1_character_1 ++ []
def dkwX1_character_0 : List UInt8 := [27, 3, 42, 180, 0, 49, 185, 1, 41, 1, 0, 4, 100, 184, 0, 106, 184, 1, 45, 42, 180, 0, 49, 27]
abbrev dktX1_character_0 : List UInt8 := dkwX1_character_0 ++ dktX1_character_1
theorem dksX1_character_0 : cX1_character.data.toList.drop 0 = dktX1_character_0 := by decide +kernel
theorem dksX1_character_1 : cX1_character.data.toList.drop 24 = dktX1_character_1 := dk_seg dksX1_character_0 24 rfl rfl
theorem dX1_character_0 : decode cX1_character 0 = .ok (.iload_n 1, 1) := dk_27 (dk_at dksX1_character_0 0 rfl rfl)
theorem dX1_character_1 : decode cX1_character 1 = .ok (.iconst 0, 1) := dk_3 (dk_at dksX1_character_0 1 rfl rfl)
theorem dX1_character_2 : decode cX1_character 2 = .ok (.aload_n 0, 1) := dk_42 (dk_at dksX1_character_0 2 rfl rfl)
theorem dX1_character_3 : decode cX1_character 3 = .ok (.getfield 49, 3) := dk_180 0 49 (dk_at dksX1_character_0 3 rfl rfl)
theorem dX1_character_6 : decode cX1_character 6 = .ok (.invokeinterface 297 1, 5) := by decide +kernel
theorem dX1_character_11 : decode cX1_character 11 = .ok (.iconst 1, 1) := dk_4 (dk_at dksX1_character_0 11 rfl rfl)
theorem dX1_character_12 : decode cX1_character 12 = .ok (.isub, 1) := dk_100 (dk_at dksX1_character_0 12 rfl rfl)
theorem dX1_character_13 : decode cX1_character 13 = .ok (.invokestatic 106, 3) := dk_184 0 106 (dk_at dksX1_character_0 13 rfl rfl)
theorem dX1_character_16 : decode cX1_character 16 = .ok (.invokestatic 301, 3) := dk_184 1 45 (dk_at dksX1_character_0 16 rfl rfl)
theorem dX1_character_19 : decode cX1_character 19 = .ok (.aload_n 0, 1) := dk_42 (dk_at dksX1_character_0 19 rfl rfl)
theorem dX1_character_20 : decode cX1_character 20 = .ok (.getfield 49, 3) := dk_180 0 49 (dk_at dksX1_character_0 20 rfl rfl)
theorem dX1_character_23 : decode cX1_character 23 = .ok (.iload_n 1, 1) := dk_27 (dk_at dksX1_character_0 23 rfl rfl)
theorem dX1_character_24 : decode cX1_character 24 = .ok (.invokeinterface 304 2, 5) := by decide +kernel
theorem dX1_character_29 : decode cX1_character 29 = .ok (.ireturn, 1) := dk_172 (dk_at dksX1_character_1 5 rfl rfl)
abbrev cX1_meanShade : ByteArray := prog_1_method_38_code
def yX1_meanShade : MethodName := ⟨RX1, "meanShade", "()D"⟩
def dkwX1_meanShade_3 : List UInt8 := [180, 0, 27, 180, 0, 130, 185, 0, 134, 1, 0, 135, 111, 175]
abbrev dktX1_meanShade_3 : List UInt8 := dkwX1_meanShade_3 ++ []
def dkwX1_meanShade_2 : List UInt8 := [185, 1, 64, 1, 0, 192, 0, 141, 78, 27, 45, 180, 0, 183, 96, 60, 167, 255, 230, 27, 135, 42]
abbrev dktX1_meanShade_2 : List UInt8 := dkwX1_meanShade_2 ++ dktX1_meanShade_3
def dkwX1_meanShade_1 : List UInt8 := [60, 42, 180, 0, 27, 180, 0, 130, 185, 1, 55, 1, 0, 77, 44, 185, 1, 59, 1, 0, 153, 0, 23, 44]
abbrev dktX1_meanShade_1 : List UInt8 := dkwX1_meanShade_1 ++ dktX1_meanShade_2
def dkwX1_meanShade_0 : List UInt8 := [42, 180, 0, 27, 180, 0, 130, 185, 1, 84, 1, 0, 153, 0, 11, 187, 1, 87, 89, 183, 1, 89, 191, 3]
abbrev dktX1_meanShade_0 : List UInt8 := dkwX1_meanShade_0 ++ dktX1_meanShade_1
theorem dksX1_meanShade_0 : cX1_meanShade.data.toList.drop 0 = dktX1_meanShade_0 := by decide +kernel
theorem dksX1_meanShade_1 : cX1_meanShade.data.toList.drop 24 = dktX1_meanShade_1 := dk_seg dksX1_meanShade_0 24 rfl rfl
theorem dksX1_meanShade_2 : cX1_meanShade.data.toList.drop 48 = dktX1_meanShade_2 := dk_seg dksX1_meanShade_1 24 rfl rfl
theorem dksX1_meanShade_3 : cX1_meanShade.data.toList.drop 70 = dktX1_meanShade_3 := dk_seg dksX1_meanShade_2 22 rfl rfl
theorem dX1_meanShade_0 : decode cX1_meanShade 0 = .ok (.aload_n 0, 1) := dk_42 (dk_at dksX1_meanShade_0 0 rfl rfl)
theorem dX1_meanShade_1 : decode cX1_meanShade 1 = .ok (.getfield 27, 3) := dk_180 0 27 (dk_at dksX1_meanShade_0 1 rfl rfl)
theorem dX1_meanShade_4 : decode cX1_meanShade 4 = .ok (.getfield 130, 3) := dk_180 0 130 (dk_at dksX1_meanShade_0 4 rfl rfl)
theorem dX1_meanShade_7 : decode cX1_meanShade 7 = .ok (.invokeinterface 340 1, 5) := by decide +kernel
theorem dX1_meanShade_12 : decode cX1_meanShade 12 = .ok (.ifCond .eq 11, 3) := dk_153 0 11 (dk_at dksX1_meanShade_0 12 rfl rfl)
theorem dX1_meanShade_15 : decode cX1_meanShade 15 = .ok (.new 343, 3) := dk_187 1 87 (dk_at dksX1_meanShade_0 15 rfl rfl)
theorem dX1_meanShade_18 : decode cX1_meanShade 18 = .ok (.dup, 1) := dk_89 (dk_at dksX1_meanShade_0 18 rfl rfl)
theorem dX1_meanShade_19 : decode cX1_meanShade 19 = .ok (.invokespecial 345, 3) := dk_183 1 89 (dk_at dksX1_meanShade_0 19 rfl rfl)
theorem dX1_meanShade_22 : decode cX1_meanShade 22 = .ok (.athrow, 1) := dk_191 (dk_at dksX1_meanShade_0 22 rfl rfl)
theorem dX1_meanShade_23 : decode cX1_meanShade 23 = .ok (.iconst 0, 1) := dk_3 (dk_at dksX1_meanShade_0 23 rfl rfl)
theorem dX1_meanShade_24 : decode cX1_meanShade 24 = .ok (.istore_n 1, 1) := dk_60 (dk_at dksX1_meanShade_1 0 rfl rfl)
theorem dX1_meanShade_25 : decode cX1_meanShade 25 = .ok (.aload_n 0, 1) := dk_42 (dk_at dksX1_meanShade_1 1 rfl rfl)
theorem dX1_meanShade_26 : decode cX1_meanShade 26 = .ok (.getfield 27, 3) := dk_180 0 27 (dk_at dksX1_meanShade_1 2 rfl rfl)
theorem dX1_meanShade_29 : decode cX1_meanShade 29 = .ok (.getfield 130, 3) := dk_180 0 130 (dk_at dksX1_meanShade_1 5 rfl rfl)
theorem dX1_meanShade_32 : decode cX1_meanShade 32 = .ok (.invokeinterface 311 1, 5) := by decide +kernel
theorem dX1_meanShade_37 : decode cX1_meanShade 37 = .ok (.astore_n 2, 1) := dk_77 (dk_at dksX1_meanShade_1 13 rfl rfl)
theorem dX1_meanShade_38 : decode cX1_meanShade 38 = .ok (.aload_n 2, 1) := dk_44 (dk_at dksX1_meanShade_1 14 rfl rfl)
theorem dX1_meanShade_39 : decode cX1_meanShade 39 = .ok (.invokeinterface 315 1, 5) := by decide +kernel
theorem dX1_meanShade_44 : decode cX1_meanShade 44 = .ok (.ifCond .eq 23, 3) := dk_153 0 23 (dk_at dksX1_meanShade_1 20 rfl rfl)
theorem dX1_meanShade_47 : decode cX1_meanShade 47 = .ok (.aload_n 2, 1) := dk_44 (dk_at dksX1_meanShade_1 23 rfl rfl)
theorem dX1_meanShade_48 : decode cX1_meanShade 48 = .ok (.invokeinterface 320 1, 5) := by decide +kernel
theorem dX1_meanShade_53 : decode cX1_meanShade 53 = .ok (.checkcast 141, 3) := dk_192 0 141 (dk_at dksX1_meanShade_2 5 rfl rfl)
theorem dX1_meanShade_56 : decode cX1_meanShade 56 = .ok (.astore_n 3, 1) := dk_78 (dk_at dksX1_meanShade_2 8 rfl rfl)
theorem dX1_meanShade_57 : decode cX1_meanShade 57 = .ok (.iload_n 1, 1) := dk_27 (dk_at dksX1_meanShade_2 9 rfl rfl)
theorem dX1_meanShade_58 : decode cX1_meanShade 58 = .ok (.aload_n 3, 1) := dk_45 (dk_at dksX1_meanShade_2 10 rfl rfl)
theorem dX1_meanShade_59 : decode cX1_meanShade 59 = .ok (.getfield 183, 3) := dk_180 0 183 (dk_at dksX1_meanShade_2 11 rfl rfl)
theorem dX1_meanShade_62 : decode cX1_meanShade 62 = .ok (.iadd, 1) := dk_96 (dk_at dksX1_meanShade_2 14 rfl rfl)
theorem dX1_meanShade_63 : decode cX1_meanShade 63 = .ok (.istore_n 1, 1) := dk_60 (dk_at dksX1_meanShade_2 15 rfl rfl)
theorem dX1_meanShade_64 : decode cX1_meanShade 64 = .ok (.goto (-26), 3) := dk_167 255 230 (dk_at dksX1_meanShade_2 16 rfl rfl)
theorem dX1_meanShade_67 : decode cX1_meanShade 67 = .ok (.iload_n 1, 1) := dk_27 (dk_at dksX1_meanShade_2 19 rfl rfl)
theorem dX1_meanShade_68 : decode cX1_meanShade 68 = .ok (.i2d, 1) := dk_135 (dk_at dksX1_meanShade_2 20 rfl rfl)
theorem dX1_meanShade_69 : decode cX1_meanShade 69 = .ok (.aload_n 0, 1) := dk_42 (dk_at dksX1_meanShade_2 21 rfl rfl)
theorem dX1_meanShade_70 : decode cX1_meanShade 70 = .ok (.getfield 27, 3) := dk_180 0 27 (dk_at dksX1_meanShade_3 0 rfl rfl)
theorem dX1_meanShade_73 : decode cX1_meanShade 73 = .ok (.getfield 130, 3) := dk_180 0 130 (dk_at dksX1_meanShade_3 3 rfl rfl)
theorem dX1_meanShade_76 : decode cX1_meanShade 76 = .ok (.invokeinterface 134 1, 5) := by decide +kernel
theorem dX1_meanShade_81 : decode cX1_meanShade 81 = .ok (.i2d, 1) := dk_135 (dk_at dksX1_meanShade_3 11 rfl rfl)
theorem dX1_meanShade_82 : decode cX1_meanShade 82 = .ok (.ddiv, 1) := dk_111 (dk_at dksX1_meanShade_3 12 rfl rfl)
theorem dX1_meanShade_83 : decode cX1_meanShade 83 = .ok (.dreturn, 1) := dk_175 (dk_at dksX1_meanShade_3 13 rfl rfl)
abbrev cX1_wasted : ByteArray := prog_1_method_39_code
def yX1_wasted : MethodName := ⟨RX1, "wasted", "()F"⟩
def dkwX1_wasted_1 : List UInt8 := [182, 1, 81, 134, 27, 134, 110, 174]
abbrev dktX1_wasted_1 : List UInt8 := dkwX1_wasted_1 ++ []
def dkwX1_wasted_0 : List UInt8 := [42, 180, 0, 27, 8, 182, 1, 72, 60, 27, 154, 0, 11, 187, 1, 87, 89, 183, 1, 89, 191, 42, 16, 9]
abbrev dktX1_wasted_0 : List UInt8 := dkwX1_wasted_0 ++ dktX1_wasted_1
theorem dksX1_wasted_0 : cX1_wasted.data.toList.drop 0 = dktX1_wasted_0 := by decide +kernel
theorem dksX1_wasted_1 : cX1_wasted.data.toList.drop 24 = dktX1_wasted_1 := dk_seg dksX1_wasted_0 24 rfl rfl
theorem dX1_wasted_0 : decode cX1_wasted 0 = .ok (.aload_n 0, 1) := dk_42 (dk_at dksX1_wasted_0 0 rfl rfl)
theorem dX1_wasted_1 : decode cX1_wasted 1 = .ok (.getfield 27, 3) := dk_180 0 27 (dk_at dksX1_wasted_0 1 rfl rfl)
theorem dX1_wasted_4 : decode cX1_wasted 4 = .ok (.iconst 5, 1) := dk_8 (dk_at dksX1_wasted_0 4 rfl rfl)
theorem dX1_wasted_5 : decode cX1_wasted 5 = .ok (.invokevirtual 328, 3) := dk_182 1 72 (dk_at dksX1_wasted_0 5 rfl rfl)
theorem dX1_wasted_8 : decode cX1_wasted 8 = .ok (.istore_n 1, 1) := dk_60 (dk_at dksX1_wasted_0 8 rfl rfl)
theorem dX1_wasted_9 : decode cX1_wasted 9 = .ok (.iload_n 1, 1) := dk_27 (dk_at dksX1_wasted_0 9 rfl rfl)
theorem dX1_wasted_10 : decode cX1_wasted 10 = .ok (.ifCond .ne 11, 3) := dk_154 0 11 (dk_at dksX1_wasted_0 10 rfl rfl)
theorem dX1_wasted_13 : decode cX1_wasted 13 = .ok (.new 343, 3) := dk_187 1 87 (dk_at dksX1_wasted_0 13 rfl rfl)
theorem dX1_wasted_16 : decode cX1_wasted 16 = .ok (.dup, 1) := dk_89 (dk_at dksX1_wasted_0 16 rfl rfl)
theorem dX1_wasted_17 : decode cX1_wasted 17 = .ok (.invokespecial 345, 3) := dk_183 1 89 (dk_at dksX1_wasted_0 17 rfl rfl)
theorem dX1_wasted_20 : decode cX1_wasted 20 = .ok (.athrow, 1) := dk_191 (dk_at dksX1_wasted_0 20 rfl rfl)
theorem dX1_wasted_21 : decode cX1_wasted 21 = .ok (.aload_n 0, 1) := dk_42 (dk_at dksX1_wasted_0 21 rfl rfl)
theorem dX1_wasted_22 : decode cX1_wasted 22 = .ok (.bipush 9, 2) := dk_16 9 (dk_at dksX1_wasted_0 22 rfl rfl)
theorem dX1_wasted_24 : decode cX1_wasted 24 = .ok (.invokevirtual 337, 3) := dk_182 1 81 (dk_at dksX1_wasted_1 0 rfl rfl)
theorem dX1_wasted_27 : decode cX1_wasted 27 = .ok (.i2f, 1) := dk_134 (dk_at dksX1_wasted_1 3 rfl rfl)
theorem dX1_wasted_28 : decode cX1_wasted 28 = .ok (.iload_n 1, 1) := dk_27 (dk_at dksX1_wasted_1 4 rfl rfl)
theorem dX1_wasted_29 : decode cX1_wasted 29 = .ok (.i2f, 1) := dk_134 (dk_at dksX1_wasted_1 5 rfl rfl)
theorem dX1_wasted_30 : decode cX1_wasted 30 = .ok (.fdiv, 1) := dk_110 (dk_at dksX1_wasted_1 6 rfl rfl)
theorem dX1_wasted_31 : decode cX1_wasted 31 = .ok (.freturn, 1) := dk_174 (dk_at dksX1_wasted_1 7 rfl rfl)
abbrev cX1_feed : ByteArray := prog_1_method_40_code
def yX1_feed : MethodName := ⟨RX1, "feed", "(C)I"⟩
def dkwX1_feed_1 : List UInt8 := [27, 182, 1, 93, 87, 42, 180, 0, 43, 182, 1, 77, 172]
abbrev dktX1_feed_1 : List UInt8 := dkwX1_feed_1 ++ []
def dkwX1_feed_0 : List UInt8 := [42, 180, 0, 43, 182, 1, 77, 16, 60, 162, 0, 7, 4, 167, 0, 4, 3, 184, 1, 90, 42, 180, 0, 43]
abbrev dktX1_feed_0 : List UInt8 := dkwX1_feed_0 ++ dktX1_feed_1
theorem dksX1_feed_0 : cX1_feed.data.toList.drop 0 = dktX1_feed_0 := by decide +kernel
theorem dksX1_feed_1 : cX1_feed.data.toList.drop 24 = dktX1_feed_1 := dk_seg dksX1_feed_0 24 rfl rfl
theorem dX1_feed_0 : decode cX1_feed 0 = .ok (.aload_n 0, 1) := dk_42 (dk_at dksX1_feed_0 0 rfl rfl)
theorem dX1_feed_1 : decode cX1_feed 1 = .ok (.getfield 43, 3) := dk_180 0 43 (dk_at dksX1_feed_0 1 rfl rfl)
theorem dX1_feed_4 : decode cX1_feed 4 = .ok (.invokevirtual 333, 3) := dk_182 1 77 (dk_at dksX1_feed_0 4 rfl rfl)
theorem dX1_feed_7 : decode cX1_feed 7 = .ok (.bipush 60, 2) := dk_16 60 (dk_at dksX1_feed_0 7 rfl rfl)
theorem dX1_feed_9 : decode cX1_feed 9 = .ok (.if_icmp .ge 7, 3) := dk_162 0 7 (dk_at dksX1_feed_0 9 rfl rfl)
theorem dX1_feed_12 : decode cX1_feed 12 = .ok (.iconst 1, 1) := dk_4 (dk_at dksX1_feed_0 12 rfl rfl)
theorem dX1_feed_13 : decode cX1_feed 13 = .ok (.goto 4, 3) := dk_167 0 4 (dk_at dksX1_feed_0 13 rfl rfl)
theorem dX1_feed_16 : decode cX1_feed 16 = .ok (.iconst 0, 1) := dk_3 (dk_at dksX1_feed_0 16 rfl rfl)
theorem dX1_feed_17 : decode cX1_feed 17 = .ok (.invokestatic 346, 3) := dk_184 1 90 (dk_at dksX1_feed_0 17 rfl rfl)
theorem dX1_feed_20 : decode cX1_feed 20 = .ok (.aload_n 0, 1) := dk_42 (dk_at dksX1_feed_0 20 rfl rfl)
theorem dX1_feed_21 : decode cX1_feed 21 = .ok (.getfield 43, 3) := dk_180 0 43 (dk_at dksX1_feed_0 21 rfl rfl)
theorem dX1_feed_24 : decode cX1_feed 24 = .ok (.iload_n 1, 1) := dk_27 (dk_at dksX1_feed_1 0 rfl rfl)
theorem dX1_feed_25 : decode cX1_feed 25 = .ok (.invokevirtual 349, 3) := dk_182 1 93 (dk_at dksX1_feed_1 1 rfl rfl)
theorem dX1_feed_28 : decode cX1_feed 28 = .ok (.pop, 1) := dk_87 (dk_at dksX1_feed_1 4 rfl rfl)
theorem dX1_feed_29 : decode cX1_feed 29 = .ok (.aload_n 0, 1) := dk_42 (dk_at dksX1_feed_1 5 rfl rfl)
theorem dX1_feed_30 : decode cX1_feed 30 = .ok (.getfield 43, 3) := dk_180 0 43 (dk_at dksX1_feed_1 6 rfl rfl)
theorem dX1_feed_33 : decode cX1_feed 33 = .ok (.invokevirtual 333, 3) := dk_182 1 77 (dk_at dksX1_feed_1 9 rfl rfl)
theorem dX1_feed_36 : decode cX1_feed 36 = .ok (.ireturn, 1) := dk_172 (dk_at dksX1_feed_1 12 rfl rfl)
abbrev cX1_requireState : ByteArray := prog_1_method_4_code
def yX1_requireState : MethodName := ⟨RX1, "requireState", "(Z)V"⟩
def dkwX1_requireState_0 : List UInt8 := [26, 154, 0, 11, 187, 0, 10, 89, 183, 0, 12, 191, 177]
abbrev dktX1_requireState_0 : List UInt8 := dkwX1_requireState_0 ++ []
theorem dksX1_requireState_0 : cX1_requireState.data.toList.drop 0 = dktX1_requireState_0 := by decide +kernel
theorem dX1_requireState_0 : decode cX1_requireState 0 = .ok (.iload_n 0, 1) := dk_26 (dk_at dksX1_requireState_0 0 rfl rfl)
theorem dX1_requireState_1 : decode cX1_requireState 1 = .ok (.ifCond .ne 11, 3) := dk_154 0 11 (dk_at dksX1_requireState_0 1 rfl rfl)
theorem dX1_requireState_4 : decode cX1_requireState 4 = .ok (.new 10, 3) := dk_187 0 10 (dk_at dksX1_requireState_0 4 rfl rfl)
theorem dX1_requireState_7 : decode cX1_requireState 7 = .ok (.dup, 1) := dk_89 (dk_at dksX1_requireState_0 7 rfl rfl)
theorem dX1_requireState_8 : decode cX1_requireState 8 = .ok (.invokespecial 12, 3) := dk_183 0 12 (dk_at dksX1_requireState_0 8 rfl rfl)
theorem dX1_requireState_11 : decode cX1_requireState 11 = .ok (.athrow, 1) := dk_191 (dk_at dksX1_requireState_0 11 rfl rfl)
theorem dX1_requireState_12 : decode cX1_requireState 12 = .ok (.return_, 1) := dk_177 (dk_at dksX1_requireState_0 12 rfl rfl)
abbrev cX1_read : ByteArray := prog_1_method_42_code
def yX1_read : MethodName := ⟨RX1, "read", "()I"⟩
def dkwX1_read_1 : List UInt8 := [183, 1, 119, 182, 0, 99, 172]
abbrev dktX1_read_1 : List UInt8 := dkwX1_read_1 ++ []
def dkwX1_read_0 : List UInt8 := [42, 182, 1, 114, 76, 43, 198, 0, 7, 4, 167, 0, 4, 3, 184, 0, 110, 42, 187, 1, 117, 89, 43]
abbrev dktX1_read_0 : List UInt8 := dkwX1_read_0 ++ dktX1_read_1
theorem dksX1_read_0 : cX1_read.data.toList.drop 0 = dktX1_read_0 := by decide +kernel
theorem dksX1_read_1 : cX1_read.data.toList.drop 23 = dktX1_read_1 := dk_seg dksX1_read_0 23 rfl rfl
theorem dX1_read_0 : decode cX1_read 0 = .ok (.aload_n 0, 1) := dk_42 (dk_at dksX1_read_0 0 rfl rfl)
theorem dX1_read_1 : decode cX1_read 1 = .ok (.invokevirtual 370, 3) := dk_182 1 114 (dk_at dksX1_read_0 1 rfl rfl)
theorem dX1_read_4 : decode cX1_read 4 = .ok (.astore_n 1, 1) := dk_76 (dk_at dksX1_read_0 4 rfl rfl)
theorem dX1_read_5 : decode cX1_read 5 = .ok (.aload_n 1, 1) := dk_43 (dk_at dksX1_read_0 5 rfl rfl)
theorem dX1_read_6 : decode cX1_read 6 = .ok (.ifnull 7, 3) := dk_198 0 7 (dk_at dksX1_read_0 6 rfl rfl)
theorem dX1_read_9 : decode cX1_read 9 = .ok (.iconst 1, 1) := dk_4 (dk_at dksX1_read_0 9 rfl rfl)
theorem dX1_read_10 : decode cX1_read 10 = .ok (.goto 4, 3) := dk_167 0 4 (dk_at dksX1_read_0 10 rfl rfl)
theorem dX1_read_13 : decode cX1_read 13 = .ok (.iconst 0, 1) := dk_3 (dk_at dksX1_read_0 13 rfl rfl)
theorem dX1_read_14 : decode cX1_read 14 = .ok (.invokestatic 110, 3) := dk_184 0 110 (dk_at dksX1_read_0 14 rfl rfl)
theorem dX1_read_17 : decode cX1_read 17 = .ok (.aload_n 0, 1) := dk_42 (dk_at dksX1_read_0 17 rfl rfl)
theorem dX1_read_18 : decode cX1_read 18 = .ok (.new 373, 3) := dk_187 1 117 (dk_at dksX1_read_0 18 rfl rfl)
theorem dX1_read_21 : decode cX1_read 21 = .ok (.dup, 1) := dk_89 (dk_at dksX1_read_0 21 rfl rfl)
theorem dX1_read_22 : decode cX1_read 22 = .ok (.aload_n 1, 1) := dk_43 (dk_at dksX1_read_0 22 rfl rfl)
theorem dX1_read_23 : decode cX1_read 23 = .ok (.invokespecial 375, 3) := dk_183 1 119 (dk_at dksX1_read_1 0 rfl rfl)
theorem dX1_read_26 : decode cX1_read 26 = .ok (.invokevirtual 99, 3) := dk_182 0 99 (dk_at dksX1_read_1 3 rfl rfl)
theorem dX1_read_29 : decode cX1_read 29 = .ok (.ireturn, 1) := dk_172 (dk_at dksX1_read_1 6 rfl rfl)
abbrev cX1_taken : ByteArray := prog_1_method_41_code
def yX1_taken : MethodName := ⟨RX1, "taken", "()Ljava/util/List;"⟩
def dkwX1_taken_2 : List UInt8 := [3, 182, 1, 105, 45, 191]
abbrev dktX1_taken_2 : List UInt8 := dkwX1_taken_2 ++ []
def dkwX1_taken_1 : List UInt8 := [43, 180, 1, 111, 181, 0, 53, 1, 77, 42, 180, 0, 43, 3, 182, 1, 105, 44, 176, 78, 42, 180, 0, 43]
abbrev dktX1_taken_1 : List UInt8 := dkwX1_taken_1 ++ dktX1_taken_2
def dkwX1_taken_0 : List UInt8 := [187, 1, 96, 89, 42, 183, 1, 98, 182, 1, 101, 76, 42, 180, 0, 43, 3, 182, 1, 105, 43, 176, 76, 42]
abbrev dktX1_taken_0 : List UInt8 := dkwX1_taken_0 ++ dktX1_taken_1
theorem dksX1_taken_0 : cX1_taken.data.toList.drop 0 = dktX1_taken_0 := by decide +kernel
theorem dksX1_taken_1 : cX1_taken.data.toList.drop 24 = dktX1_taken_1 := dk_seg dksX1_taken_0 24 rfl rfl
theorem dksX1_taken_2 : cX1_taken.data.toList.drop 48 = dktX1_taken_2 := dk_seg dksX1_taken_1 24 rfl rfl
theorem dX1_taken_0 : decode cX1_taken 0 = .ok (.new 352, 3) := dk_187 1 96 (dk_at dksX1_taken_0 0 rfl rfl)
theorem dX1_taken_3 : decode cX1_taken 3 = .ok (.dup, 1) := dk_89 (dk_at dksX1_taken_0 3 rfl rfl)
theorem dX1_taken_4 : decode cX1_taken 4 = .ok (.aload_n 0, 1) := dk_42 (dk_at dksX1_taken_0 4 rfl rfl)
theorem dX1_taken_5 : decode cX1_taken 5 = .ok (.invokespecial 354, 3) := dk_183 1 98 (dk_at dksX1_taken_0 5 rfl rfl)
theorem dX1_taken_8 : decode cX1_taken 8 = .ok (.invokevirtual 357, 3) := dk_182 1 101 (dk_at dksX1_taken_0 8 rfl rfl)
theorem dX1_taken_11 : decode cX1_taken 11 = .ok (.astore_n 1, 1) := dk_76 (dk_at dksX1_taken_0 11 rfl rfl)
theorem dX1_taken_12 : decode cX1_taken 12 = .ok (.aload_n 0, 1) := dk_42 (dk_at dksX1_taken_0 12 rfl rfl)
theorem dX1_taken_13 : decode cX1_taken 13 = .ok (.getfield 43, 3) := dk_180 0 43 (dk_at dksX1_taken_0 13 rfl rfl)
theorem dX1_taken_16 : decode cX1_taken 16 = .ok (.iconst 0, 1) := dk_3 (dk_at dksX1_taken_0 16 rfl rfl)
theorem dX1_taken_17 : decode cX1_taken 17 = .ok (.invokevirtual 361, 3) := dk_182 1 105 (dk_at dksX1_taken_0 17 rfl rfl)
theorem dX1_taken_20 : decode cX1_taken 20 = .ok (.aload_n 1, 1) := dk_43 (dk_at dksX1_taken_0 20 rfl rfl)
theorem dX1_taken_21 : decode cX1_taken 21 = .ok (.areturn, 1) := dk_176 (dk_at dksX1_taken_0 21 rfl rfl)
theorem dX1_taken_22 : decode cX1_taken 22 = .ok (.astore_n 1, 1) := dk_76 (dk_at dksX1_taken_0 22 rfl rfl)
theorem dX1_taken_23 : decode cX1_taken 23 = .ok (.aload_n 0, 1) := dk_42 (dk_at dksX1_taken_0 23 rfl rfl)
theorem dX1_taken_24 : decode cX1_taken 24 = .ok (.aload_n 1, 1) := dk_43 (dk_at dksX1_taken_1 0 rfl rfl)
theorem dX1_taken_25 : decode cX1_taken 25 = .ok (.getfield 367, 3) := dk_180 1 111 (dk_at dksX1_taken_1 1 rfl rfl)
theorem dX1_taken_28 : decode cX1_taken 28 = .ok (.putfield 53, 3) := dk_181 0 53 (dk_at dksX1_taken_1 4 rfl rfl)
theorem dX1_taken_31 : decode cX1_taken 31 = .ok (.aconst_null, 1) := dk_1 (dk_at dksX1_taken_1 7 rfl rfl)
theorem dX1_taken_32 : decode cX1_taken 32 = .ok (.astore_n 2, 1) := dk_77 (dk_at dksX1_taken_1 8 rfl rfl)
theorem dX1_taken_33 : decode cX1_taken 33 = .ok (.aload_n 0, 1) := dk_42 (dk_at dksX1_taken_1 9 rfl rfl)
theorem dX1_taken_34 : decode cX1_taken 34 = .ok (.getfield 43, 3) := dk_180 0 43 (dk_at dksX1_taken_1 10 rfl rfl)
theorem dX1_taken_37 : decode cX1_taken 37 = .ok (.iconst 0, 1) := dk_3 (dk_at dksX1_taken_1 13 rfl rfl)
theorem dX1_taken_38 : decode cX1_taken 38 = .ok (.invokevirtual 361, 3) := dk_182 1 105 (dk_at dksX1_taken_1 14 rfl rfl)
theorem dX1_taken_41 : decode cX1_taken 41 = .ok (.aload_n 2, 1) := dk_44 (dk_at dksX1_taken_1 17 rfl rfl)
theorem dX1_taken_42 : decode cX1_taken 42 = .ok (.areturn, 1) := dk_176 (dk_at dksX1_taken_1 18 rfl rfl)
theorem dX1_taken_43 : decode cX1_taken 43 = .ok (.astore_n 3, 1) := dk_78 (dk_at dksX1_taken_1 19 rfl rfl)
theorem dX1_taken_44 : decode cX1_taken 44 = .ok (.aload_n 0, 1) := dk_42 (dk_at dksX1_taken_1 20 rfl rfl)
theorem dX1_taken_45 : decode cX1_taken 45 = .ok (.getfield 43, 3) := dk_180 0 43 (dk_at dksX1_taken_1 21 rfl rfl)
theorem dX1_taken_48 : decode cX1_taken 48 = .ok (.iconst 0, 1) := dk_3 (dk_at dksX1_taken_2 0 rfl rfl)
theorem dX1_taken_49 : decode cX1_taken 49 = .ok (.invokevirtual 361, 3) := dk_182 1 105 (dk_at dksX1_taken_2 1 rfl rfl)
theorem dX1_taken_52 : decode cX1_taken 52 = .ok (.aload_n 3, 1) := dk_45 (dk_at dksX1_taken_2 4 rfl rfl)
theorem dX1_taken_53 : decode cX1_taken 53 = .ok (.athrow, 1) := dk_191 (dk_at dksX1_taken_2 5 rfl rfl)
abbrev cX1_faultPosition : ByteArray := prog_1_method_43_code
def yX1_faultPosition : MethodName := ⟨RX1, "faultPosition", "()I"⟩
def dkwX1_faultPosition_0 : List UInt8 := [42, 180, 0, 53, 2, 159, 0, 7, 4, 167, 0, 4, 3, 184, 0, 234, 42, 180, 0, 53, 172]
abbrev dktX1_faultPosition_0 : List UInt8 := dkwX1_faultPosition_0 ++ []
theorem dksX1_faultPosition_0 : cX1_faultPosition.data.toList.drop 0 = dktX1_faultPosition_0 := by decide +kernel
theorem dX1_faultPosition_0 : decode cX1_faultPosition 0 = .ok (.aload_n 0, 1) := dk_42 (dk_at dksX1_faultPosition_0 0 rfl rfl)
theorem dX1_faultPosition_1 : decode cX1_faultPosition 1 = .ok (.getfield 53, 3) := dk_180 0 53 (dk_at dksX1_faultPosition_0 1 rfl rfl)
theorem dX1_faultPosition_4 : decode cX1_faultPosition 4 = .ok (.iconst (-1), 1) := dk_2 (dk_at dksX1_faultPosition_0 4 rfl rfl)
theorem dX1_faultPosition_5 : decode cX1_faultPosition 5 = .ok (.if_icmp .eq 7, 3) := dk_159 0 7 (dk_at dksX1_faultPosition_0 5 rfl rfl)
theorem dX1_faultPosition_8 : decode cX1_faultPosition 8 = .ok (.iconst 1, 1) := dk_4 (dk_at dksX1_faultPosition_0 8 rfl rfl)
theorem dX1_faultPosition_9 : decode cX1_faultPosition 9 = .ok (.goto 4, 3) := dk_167 0 4 (dk_at dksX1_faultPosition_0 9 rfl rfl)
theorem dX1_faultPosition_12 : decode cX1_faultPosition 12 = .ok (.iconst 0, 1) := dk_3 (dk_at dksX1_faultPosition_0 12 rfl rfl)
theorem dX1_faultPosition_13 : decode cX1_faultPosition 13 = .ok (.invokestatic 234, 3) := dk_184 0 234 (dk_at dksX1_faultPosition_0 13 rfl rfl)
theorem dX1_faultPosition_16 : decode cX1_faultPosition 16 = .ok (.aload_n 0, 1) := dk_42 (dk_at dksX1_faultPosition_0 16 rfl rfl)
theorem dX1_faultPosition_17 : decode cX1_faultPosition 17 = .ok (.getfield 53, 3) := dk_180 0 53 (dk_at dksX1_faultPosition_0 17 rfl rfl)
theorem dX1_faultPosition_20 : decode cX1_faultPosition 20 = .ok (.ireturn, 1) := dk_172 (dk_at dksX1_faultPosition_0 20 rfl rfl)
abbrev cX1_refusal : ByteArray := prog_1_method_44_code
def yX1_refusal : MethodName := ⟨RX1, "refusal", "(IZ)I"⟩
def dkwX1_refusal_2 : List UInt8 := [167, 0, 7, 45, 180, 1, 128, 172]
abbrev dktX1_refusal_2 : List UInt8 := dkwX1_refusal_2 ++ []
def dkwX1_refusal_1 : List UInt8 := [182, 1, 122, 78, 45, 198, 0, 7, 4, 167, 0, 4, 3, 184, 0, 234, 28, 153, 0, 10, 45, 180, 1, 126]
abbrev dktX1_refusal_1 : List UInt8 := dkwX1_refusal_1 ++ dktX1_refusal_2
def dkwX1_refusal_0 : List UInt8 := [42, 180, 0, 85, 198, 0, 11, 27, 155, 0, 7, 4, 167, 0, 4, 3, 184, 0, 234, 42, 180, 0, 85, 27]
abbrev dktX1_refusal_0 : List UInt8 := dkwX1_refusal_0 ++ dktX1_refusal_1
theorem dksX1_refusal_0 : cX1_refusal.data.toList.drop 0 = dktX1_refusal_0 := by decide +kernel
theorem dksX1_refusal_1 : cX1_refusal.data.toList.drop 24 = dktX1_refusal_1 := dk_seg dksX1_refusal_0 24 rfl rfl
theorem dksX1_refusal_2 : cX1_refusal.data.toList.drop 48 = dktX1_refusal_2 := dk_seg dksX1_refusal_1 24 rfl rfl
theorem dX1_refusal_0 : decode cX1_refusal 0 = .ok (.aload_n 0, 1) := dk_42 (dk_at dksX1_refusal_0 0 rfl rfl)
theorem dX1_refusal_1 : decode cX1_refusal 1 = .ok (.getfield 85, 3) := dk_180 0 85 (dk_at dksX1_refusal_0 1 rfl rfl)
theorem dX1_refusal_4 : decode cX1_refusal 4 = .ok (.ifnull 11, 3) := dk_198 0 11 (dk_at dksX1_refusal_0 4 rfl rfl)
theorem dX1_refusal_7 : decode cX1_refusal 7 = .ok (.iload_n 1, 1) := dk_27 (dk_at dksX1_refusal_0 7 rfl rfl)
theorem dX1_refusal_8 : decode cX1_refusal 8 = .ok (.ifCond .lt 7, 3) := dk_155 0 7 (dk_at dksX1_refusal_0 8 rfl rfl)
theorem dX1_refusal_11 : decode cX1_refusal 11 = .ok (.iconst 1, 1) := dk_4 (dk_at dksX1_refusal_0 11 rfl rfl)
theorem dX1_refusal_12 : decode cX1_refusal 12 = .ok (.goto 4, 3) := dk_167 0 4 (dk_at dksX1_refusal_0 12 rfl rfl)
theorem dX1_refusal_15 : decode cX1_refusal 15 = .ok (.iconst 0, 1) := dk_3 (dk_at dksX1_refusal_0 15 rfl rfl)
theorem dX1_refusal_16 : decode cX1_refusal 16 = .ok (.invokestatic 234, 3) := dk_184 0 234 (dk_at dksX1_refusal_0 16 rfl rfl)
theorem dX1_refusal_19 : decode cX1_refusal 19 = .ok (.aload_n 0, 1) := dk_42 (dk_at dksX1_refusal_0 19 rfl rfl)
theorem dX1_refusal_20 : decode cX1_refusal 20 = .ok (.getfield 85, 3) := dk_180 0 85 (dk_at dksX1_refusal_0 20 rfl rfl)
theorem dX1_refusal_23 : decode cX1_refusal 23 = .ok (.iload_n 1, 1) := dk_27 (dk_at dksX1_refusal_0 23 rfl rfl)
theorem dX1_refusal_24 : decode cX1_refusal 24 = .ok (.invokevirtual 378, 3) := dk_182 1 122 (dk_at dksX1_refusal_1 0 rfl rfl)
theorem dX1_refusal_27 : decode cX1_refusal 27 = .ok (.astore_n 3, 1) := dk_78 (dk_at dksX1_refusal_1 3 rfl rfl)
theorem dX1_refusal_28 : decode cX1_refusal 28 = .ok (.aload_n 3, 1) := dk_45 (dk_at dksX1_refusal_1 4 rfl rfl)
theorem dX1_refusal_29 : decode cX1_refusal 29 = .ok (.ifnull 7, 3) := dk_198 0 7 (dk_at dksX1_refusal_1 5 rfl rfl)
theorem dX1_refusal_32 : decode cX1_refusal 32 = .ok (.iconst 1, 1) := dk_4 (dk_at dksX1_refusal_1 8 rfl rfl)
theorem dX1_refusal_33 : decode cX1_refusal 33 = .ok (.goto 4, 3) := dk_167 0 4 (dk_at dksX1_refusal_1 9 rfl rfl)
theorem dX1_refusal_36 : decode cX1_refusal 36 = .ok (.iconst 0, 1) := dk_3 (dk_at dksX1_refusal_1 12 rfl rfl)
theorem dX1_refusal_37 : decode cX1_refusal 37 = .ok (.invokestatic 234, 3) := dk_184 0 234 (dk_at dksX1_refusal_1 13 rfl rfl)
theorem dX1_refusal_40 : decode cX1_refusal 40 = .ok (.iload_n 2, 1) := dk_28 (dk_at dksX1_refusal_1 16 rfl rfl)
theorem dX1_refusal_41 : decode cX1_refusal 41 = .ok (.ifCond .eq 10, 3) := dk_153 0 10 (dk_at dksX1_refusal_1 17 rfl rfl)
theorem dX1_refusal_44 : decode cX1_refusal 44 = .ok (.aload_n 3, 1) := dk_45 (dk_at dksX1_refusal_1 20 rfl rfl)
theorem dX1_refusal_45 : decode cX1_refusal 45 = .ok (.getfield 382, 3) := dk_180 1 126 (dk_at dksX1_refusal_1 21 rfl rfl)
theorem dX1_refusal_48 : decode cX1_refusal 48 = .ok (.goto 7, 3) := dk_167 0 7 (dk_at dksX1_refusal_2 0 rfl rfl)
theorem dX1_refusal_51 : decode cX1_refusal 51 = .ok (.aload_n 3, 1) := dk_45 (dk_at dksX1_refusal_2 3 rfl rfl)
theorem dX1_refusal_52 : decode cX1_refusal 52 = .ok (.getfield 384, 3) := dk_180 1 128 (dk_at dksX1_refusal_2 4 rfl rfl)
theorem dX1_refusal_55 : decode cX1_refusal 55 = .ok (.ireturn, 1) := dk_172 (dk_at dksX1_refusal_2 7 rfl rfl)
abbrev cX1_undo : ByteArray := prog_1_method_45_code
def yX1_undo : MethodName := ⟨RX1, "undo", "()I"⟩
def dkwX1_undo_1 : List UInt8 := [182, 1, 131, 192, 0, 24, 181, 0, 27, 42, 180, 0, 36, 182, 0, 60, 172]
abbrev dktX1_undo_1 : List UInt8 := dkwX1_undo_1 ++ []
def dkwX1_undo_0 : List UInt8 := [42, 180, 0, 36, 182, 1, 130, 154, 0, 7, 4, 167, 0, 4, 3, 184, 1, 90, 42, 42, 180, 0, 36]
abbrev dktX1_undo_0 : List UInt8 := dkwX1_undo_0 ++ dktX1_undo_1
theorem dksX1_undo_0 : cX1_undo.data.toList.drop 0 = dktX1_undo_0 := by decide +kernel
theorem dksX1_undo_1 : cX1_undo.data.toList.drop 23 = dktX1_undo_1 := dk_seg dksX1_undo_0 23 rfl rfl
theorem dX1_undo_0 : decode cX1_undo 0 = .ok (.aload_n 0, 1) := dk_42 (dk_at dksX1_undo_0 0 rfl rfl)
theorem dX1_undo_1 : decode cX1_undo 1 = .ok (.getfield 36, 3) := dk_180 0 36 (dk_at dksX1_undo_0 1 rfl rfl)
theorem dX1_undo_4 : decode cX1_undo 4 = .ok (.invokevirtual 386, 3) := dk_182 1 130 (dk_at dksX1_undo_0 4 rfl rfl)
theorem dX1_undo_7 : decode cX1_undo 7 = .ok (.ifCond .ne 7, 3) := dk_154 0 7 (dk_at dksX1_undo_0 7 rfl rfl)
theorem dX1_undo_10 : decode cX1_undo 10 = .ok (.iconst 1, 1) := dk_4 (dk_at dksX1_undo_0 10 rfl rfl)
theorem dX1_undo_11 : decode cX1_undo 11 = .ok (.goto 4, 3) := dk_167 0 4 (dk_at dksX1_undo_0 11 rfl rfl)
theorem dX1_undo_14 : decode cX1_undo 14 = .ok (.iconst 0, 1) := dk_3 (dk_at dksX1_undo_0 14 rfl rfl)
theorem dX1_undo_15 : decode cX1_undo 15 = .ok (.invokestatic 346, 3) := dk_184 1 90 (dk_at dksX1_undo_0 15 rfl rfl)
theorem dX1_undo_18 : decode cX1_undo 18 = .ok (.aload_n 0, 1) := dk_42 (dk_at dksX1_undo_0 18 rfl rfl)
theorem dX1_undo_19 : decode cX1_undo 19 = .ok (.aload_n 0, 1) := dk_42 (dk_at dksX1_undo_0 19 rfl rfl)
theorem dX1_undo_20 : decode cX1_undo 20 = .ok (.getfield 36, 3) := dk_180 0 36 (dk_at dksX1_undo_0 20 rfl rfl)
theorem dX1_undo_23 : decode cX1_undo 23 = .ok (.invokevirtual 387, 3) := dk_182 1 131 (dk_at dksX1_undo_1 0 rfl rfl)
theorem dX1_undo_26 : decode cX1_undo 26 = .ok (.checkcast 24, 3) := dk_192 0 24 (dk_at dksX1_undo_1 3 rfl rfl)
theorem dX1_undo_29 : decode cX1_undo 29 = .ok (.putfield 27, 3) := dk_181 0 27 (dk_at dksX1_undo_1 6 rfl rfl)
theorem dX1_undo_32 : decode cX1_undo 32 = .ok (.aload_n 0, 1) := dk_42 (dk_at dksX1_undo_1 9 rfl rfl)
theorem dX1_undo_33 : decode cX1_undo 33 = .ok (.getfield 36, 3) := dk_180 0 36 (dk_at dksX1_undo_1 10 rfl rfl)
theorem dX1_undo_36 : decode cX1_undo 36 = .ok (.invokevirtual 60, 3) := dk_182 0 60 (dk_at dksX1_undo_1 13 rfl rfl)
theorem dX1_undo_39 : decode cX1_undo 39 = .ok (.ireturn, 1) := dk_172 (dk_at dksX1_undo_1 16 rfl rfl)
abbrev cX1_restoreSnapshot : ByteArray := prog_1_method_47_code
def yX1_restoreSnapshot : MethodName := ⟨RX1, "restoreSnapshot", "()I"⟩
def dkwX1_restoreSnapshot_2 : List UInt8 := [185, 0, 134, 1, 0, 172]
abbrev dktX1_restoreSnapshot_2 : List UInt8 := dkwX1_restoreSnapshot_2 ++ []
def dkwX1_restoreSnapshot_1 : List UInt8 := [183, 0, 57, 181, 0, 27, 42, 180, 0, 36, 182, 1, 137, 42, 180, 0, 27, 180, 0, 130]
abbrev dktX1_restoreSnapshot_1 : List UInt8 := dkwX1_restoreSnapshot_1 ++ dktX1_restoreSnapshot_2
def dkwX1_restoreSnapshot_0 : List UInt8 := [42, 180, 1, 134, 198, 0, 7, 4, 167, 0, 4, 3, 184, 1, 90, 42, 187, 0, 24, 89, 42, 180, 1, 134]
abbrev dktX1_restoreSnapshot_0 : List UInt8 := dkwX1_restoreSnapshot_0 ++ dktX1_restoreSnapshot_1
theorem dksX1_restoreSnapshot_0 : cX1_restoreSnapshot.data.toList.drop 0 = dktX1_restoreSnapshot_0 := by decide +kernel
theorem dksX1_restoreSnapshot_1 : cX1_restoreSnapshot.data.toList.drop 24 = dktX1_restoreSnapshot_1 := dk_seg dksX1_restoreSnapshot_0 24 rfl rfl
theorem dksX1_restoreSnapshot_2 : cX1_restoreSnapshot.data.toList.drop 44 = dktX1_restoreSnapshot_2 := dk_seg dksX1_restoreSnapshot_1 20 rfl rfl
theorem dX1_restoreSnapshot_0 : decode cX1_restoreSnapshot 0 = .ok (.aload_n 0, 1) := dk_42 (dk_at dksX1_restoreSnapshot_0 0 rfl rfl)
theorem dX1_restoreSnapshot_1 : decode cX1_restoreSnapshot 1 = .ok (.getfield 390, 3) := dk_180 1 134 (dk_at dksX1_restoreSnapshot_0 1 rfl rfl)
theorem dX1_restoreSnapshot_4 : decode cX1_restoreSnapshot 4 = .ok (.ifnull 7, 3) := dk_198 0 7 (dk_at dksX1_restoreSnapshot_0 4 rfl rfl)
theorem dX1_restoreSnapshot_7 : decode cX1_restoreSnapshot 7 = .ok (.iconst 1, 1) := dk_4 (dk_at dksX1_restoreSnapshot_0 7 rfl rfl)
theorem dX1_restoreSnapshot_8 : decode cX1_restoreSnapshot 8 = .ok (.goto 4, 3) := dk_167 0 4 (dk_at dksX1_restoreSnapshot_0 8 rfl rfl)
theorem dX1_restoreSnapshot_11 : decode cX1_restoreSnapshot 11 = .ok (.iconst 0, 1) := dk_3 (dk_at dksX1_restoreSnapshot_0 11 rfl rfl)
theorem dX1_restoreSnapshot_12 : decode cX1_restoreSnapshot 12 = .ok (.invokestatic 346, 3) := dk_184 1 90 (dk_at dksX1_restoreSnapshot_0 12 rfl rfl)
theorem dX1_restoreSnapshot_15 : decode cX1_restoreSnapshot 15 = .ok (.aload_n 0, 1) := dk_42 (dk_at dksX1_restoreSnapshot_0 15 rfl rfl)
theorem dX1_restoreSnapshot_16 : decode cX1_restoreSnapshot 16 = .ok (.new 24, 3) := dk_187 0 24 (dk_at dksX1_restoreSnapshot_0 16 rfl rfl)
theorem dX1_restoreSnapshot_19 : decode cX1_restoreSnapshot 19 = .ok (.dup, 1) := dk_89 (dk_at dksX1_restoreSnapshot_0 19 rfl rfl)
theorem dX1_restoreSnapshot_20 : decode cX1_restoreSnapshot 20 = .ok (.aload_n 0, 1) := dk_42 (dk_at dksX1_restoreSnapshot_0 20 rfl rfl)
theorem dX1_restoreSnapshot_21 : decode cX1_restoreSnapshot 21 = .ok (.getfield 390, 3) := dk_180 1 134 (dk_at dksX1_restoreSnapshot_0 21 rfl rfl)
theorem dX1_restoreSnapshot_24 : decode cX1_restoreSnapshot 24 = .ok (.invokespecial 57, 3) := dk_183 0 57 (dk_at dksX1_restoreSnapshot_1 0 rfl rfl)
theorem dX1_restoreSnapshot_27 : decode cX1_restoreSnapshot 27 = .ok (.putfield 27, 3) := dk_181 0 27 (dk_at dksX1_restoreSnapshot_1 3 rfl rfl)
theorem dX1_restoreSnapshot_30 : decode cX1_restoreSnapshot 30 = .ok (.aload_n 0, 1) := dk_42 (dk_at dksX1_restoreSnapshot_1 6 rfl rfl)
theorem dX1_restoreSnapshot_31 : decode cX1_restoreSnapshot 31 = .ok (.getfield 36, 3) := dk_180 0 36 (dk_at dksX1_restoreSnapshot_1 7 rfl rfl)
theorem dX1_restoreSnapshot_34 : decode cX1_restoreSnapshot 34 = .ok (.invokevirtual 393, 3) := dk_182 1 137 (dk_at dksX1_restoreSnapshot_1 10 rfl rfl)
theorem dX1_restoreSnapshot_37 : decode cX1_restoreSnapshot 37 = .ok (.aload_n 0, 1) := dk_42 (dk_at dksX1_restoreSnapshot_1 13 rfl rfl)
theorem dX1_restoreSnapshot_38 : decode cX1_restoreSnapshot 38 = .ok (.getfield 27, 3) := dk_180 0 27 (dk_at dksX1_restoreSnapshot_1 14 rfl rfl)
theorem dX1_restoreSnapshot_41 : decode cX1_restoreSnapshot 41 = .ok (.getfield 130, 3) := dk_180 0 130 (dk_at dksX1_restoreSnapshot_1 17 rfl rfl)
theorem dX1_restoreSnapshot_44 : decode cX1_restoreSnapshot 44 = .ok (.invokeinterface 134 1, 5) := by decide +kernel
theorem dX1_restoreSnapshot_49 : decode cX1_restoreSnapshot 49 = .ok (.ireturn, 1) := dk_172 (dk_at dksX1_restoreSnapshot_2 5 rfl rfl)
theorem q75 : (Jvm.Cond.initialized "BlockPapers") ∈ lw_all := lw_g (lw_at lw_m1 1 rfl) rfl
theorem q122 : (Jvm.Cond.instantiable "BlockPapers" (7 : Nat)) ∈ lw_all := lw_g (lw_at lw_m1 48 rfl) rfl
theorem q124 : (Jvm.Cond.instanceMethod ({ cls := "BlockPapers", name := "<init>", desc := "()V" } : Jvm.MethodName)) ∈ lw_all := lw_g (lw_at lw_m1 50 rfl) rfl
theorem q125 : (Jvm.Cond.code ({ cls := "BlockPapers", name := "<init>", desc := "()V" } : Jvm.MethodName) prog_1_method_7_code (1 : Nat) (Option.none : Option Jvm.ClassFile.FieldType)) ∈ lw_all := lw_g (lw_at lw_m1 51 rfl) rfl
theorem q126 : (Jvm.Cond.methodLink "BlockPapers" (21 : Nat) ({ cls := "java/lang/Object", name := "<init>", desc := "()V" } : Jvm.MethodName)) ∈ lw_all := lw_g (lw_at lw_m1 52 rfl) rfl
theorem q129 : (Jvm.Cond.classLink "BlockPapers" (24 : Nat) "BlockPapers$Workshop") ∈ lw_all := lw_g (lw_at lw_m1 55 rfl) rfl
theorem q131 : (Jvm.Cond.methodLink "BlockPapers" (26 : Nat) ({ cls := "BlockPapers$Workshop", name := "<init>", desc := "()V" } : Jvm.MethodName)) ∈ lw_all := lw_g (lw_at lw_m1 57 rfl) rfl
theorem q165 : (Jvm.Cond.fieldLinkNest "BlockPapers" (323 : Nat) "BlockPapers$Workshop" "blocks" "Ljava/util/List;" "BlockPapers") ∈ lw_tbl := lw_at lw_m1 91 rfl
theorem q167 : (Jvm.Cond.fieldLinkNest "BlockPapers" (308 : Nat) "BlockPapers$Workshop" "inks" "Ljava/util/List;" "BlockPapers") ∈ lw_tbl := lw_at lw_m1 93 rfl
theorem q170 : (Jvm.Cond.fieldLinkNest "BlockPapers" (130 : Nat) "BlockPapers$Workshop" "rolls" "Ljava/util/List;" "BlockPapers") ∈ lw_tbl := lw_at lw_m1 96 rfl
theorem q173 : (Jvm.Cond.fieldLinkNest "BlockPapers" (265 : Nat) "BlockPapers$Workshop" "rooms" "Ljava/util/List;" "BlockPapers") ∈ lw_tbl := lw_at lw_m1 99 rfl
theorem q183 : (Jvm.Cond.classLink "BlockPapers" (33 : Nat) "java/util/ArrayDeque") ∈ lw_all := lw_g (lw_at lw_m1 109 rfl) rfl
theorem q185 : (Jvm.Cond.methodLink "BlockPapers" (35 : Nat) ({ cls := "java/util/ArrayDeque", name := "<init>", desc := "()V" } : Jvm.MethodName)) ∈ lw_all := lw_g (lw_at lw_m1 111 rfl) rfl
theorem q201 : (Jvm.Cond.classLink "BlockPapers" (40 : Nat) "java/lang/StringBuilder") ∈ lw_all := lw_g (lw_at lw_m1 127 rfl) rfl
theorem q203 : (Jvm.Cond.methodLink "BlockPapers" (42 : Nat) ({ cls := "java/lang/StringBuilder", name := "<init>", desc := "()V" } : Jvm.MethodName)) ∈ lw_all := lw_g (lw_at lw_m1 129 rfl) rfl
theorem q234 : (Jvm.Cond.stringRef "BlockPapers" (47 : Nat) "") ∈ lw_tbl := lw_at lw_m1 160 rfl
theorem q235 : (Jvm.Cond.fieldLink "BlockPapers" (27 : Nat) "BlockPapers" "workshop" "LBlockPapers$Workshop;") ∈ lw_all := lw_g (lw_at lw_m1 161 rfl) rfl
theorem q236 : (Jvm.Cond.fieldLink "BlockPapers" (36 : Nat) "BlockPapers" "past" "Ljava/util/ArrayDeque;") ∈ lw_all := lw_g (lw_at lw_m1 162 rfl) rfl
theorem q238 : (Jvm.Cond.fieldLink "BlockPapers" (43 : Nat) "BlockPapers" "input" "Ljava/lang/StringBuilder;") ∈ lw_all := lw_g (lw_at lw_m1 164 rfl) rfl
theorem q239 : (Jvm.Cond.fieldLink "BlockPapers" (49 : Nat) "BlockPapers" "line" "Ljava/lang/CharSequence;") ∈ lw_all := lw_g (lw_at lw_m1 165 rfl) rfl
theorem q240 : (Jvm.Cond.fieldLink "BlockPapers" (53 : Nat) "BlockPapers" "fault" "I") ∈ lw_all := lw_g (lw_at lw_m1 166 rfl) rfl
theorem q241 : (Jvm.Cond.fieldLink "BlockPapers" (85 : Nat) "BlockPapers" "failure" "LBlockPapers$Failure;") ∈ lw_all := lw_g (lw_at lw_m1 167 rfl) rfl
theorem q242 : (Jvm.Cond.fieldLink "BlockPapers" (390 : Nat) "BlockPapers" "saved" "LBlockPapers$Workshop;") ∈ lw_all := lw_g (lw_at lw_m1 168 rfl) rfl
theorem q243 : (Jvm.Cond.lays "BlockPapers" "BlockPapers" "workshop" "LBlockPapers$Workshop;") ∈ lw_all := lw_g (lw_at lw_m1 169 rfl) rfl
theorem q244 : (Jvm.Cond.soleField "BlockPapers" "workshop") ∈ lw_all := lw_g (lw_at lw_m1 170 rfl) rfl
theorem q245 : (Jvm.Cond.laysFinal "BlockPapers" "BlockPapers" "past" "Ljava/util/ArrayDeque;") ∈ lw_all := lw_g (lw_at lw_m1 171 rfl) rfl
theorem q246 : (Jvm.Cond.soleField "BlockPapers" "past") ∈ lw_all := lw_g (lw_at lw_m1 172 rfl) rfl
theorem q247 : (Jvm.Cond.laysFinal "BlockPapers" "BlockPapers" "input" "Ljava/lang/StringBuilder;") ∈ lw_all := lw_g (lw_at lw_m1 173 rfl) rfl
theorem q248 : (Jvm.Cond.soleField "BlockPapers" "input") ∈ lw_all := lw_g (lw_at lw_m1 174 rfl) rfl
theorem q249 : (Jvm.Cond.lays "BlockPapers" "BlockPapers" "line" "Ljava/lang/CharSequence;") ∈ lw_all := lw_g (lw_at lw_m1 175 rfl) rfl
theorem q250 : (Jvm.Cond.soleField "BlockPapers" "line") ∈ lw_all := lw_g (lw_at lw_m1 176 rfl) rfl
theorem q251 : (Jvm.Cond.lays "BlockPapers" "BlockPapers" "fault" "I") ∈ lw_all := lw_g (lw_at lw_m1 177 rfl) rfl
theorem q252 : (Jvm.Cond.soleField "BlockPapers" "fault") ∈ lw_all := lw_g (lw_at lw_m1 178 rfl) rfl
theorem q253 : (Jvm.Cond.lays "BlockPapers" "BlockPapers" "failure" "LBlockPapers$Failure;") ∈ lw_all := lw_g (lw_at lw_m1 179 rfl) rfl
theorem q254 : (Jvm.Cond.soleField "BlockPapers" "failure") ∈ lw_all := lw_g (lw_at lw_m1 180 rfl) rfl
theorem q255 : (Jvm.Cond.lays "BlockPapers" "BlockPapers" "saved" "LBlockPapers$Workshop;") ∈ lw_all := lw_g (lw_at lw_m1 181 rfl) rfl
theorem q256 : (Jvm.Cond.soleField "BlockPapers" "saved") ∈ lw_all := lw_g (lw_at lw_m1 182 rfl) rfl
theorem q257 : (Jvm.Cond.superclass "BlockPapers" "java/lang/Object") ∈ lw_all := lw_g (lw_at lw_m1 183 rfl) rfl
theorem q259 : (Jvm.Cond.instanceMethod ({ cls := "BlockPapers", name := "printedAgain", desc := "()I" } : Jvm.MethodName)) ∈ lw_all := lw_g (lw_at lw_m1 185 rfl) rfl
theorem q260 : (Jvm.Cond.selects "BlockPapers" ({ cls := "BlockPapers", name := "printedAgain", desc := "()I" } : Jvm.MethodName) ({ cls := "BlockPapers", name := "printedAgain", desc := "()I" } : Jvm.MethodName)) ∈ lw_all := lw_g (lw_at lw_m1 186 rfl) rfl
theorem q261 : (Jvm.Cond.code ({ cls := "BlockPapers", name := "printedAgain", desc := "()I" } : Jvm.MethodName) prog_1_method_37_code (1 : Nat) (Option.some Jvm.ClassFile.FieldType.int)) ∈ lw_all := lw_g (lw_at lw_m1 187 rfl) rfl
theorem q262 : (Jvm.Cond.methodLink "BlockPapers" (337 : Nat) ({ cls := "BlockPapers", name := "number", desc := "(I)I" } : Jvm.MethodName)) ∈ lw_all := lw_g (lw_at lw_m1 188 rfl) rfl
theorem q263 : (Jvm.Cond.instanceMethod ({ cls := "BlockPapers", name := "number", desc := "(I)I" } : Jvm.MethodName)) ∈ lw_all := lw_g (lw_at lw_m1 189 rfl) rfl
theorem q264 : (Jvm.Cond.selects "BlockPapers" ({ cls := "BlockPapers", name := "number", desc := "(I)I" } : Jvm.MethodName) ({ cls := "BlockPapers", name := "number", desc := "(I)I" } : Jvm.MethodName)) ∈ lw_all := lw_g (lw_at lw_m1 190 rfl) rfl
theorem q265 : (Jvm.Cond.code ({ cls := "BlockPapers", name := "number", desc := "(I)I" } : Jvm.MethodName) prog_1_method_36_code (2 : Nat) (Option.some Jvm.ClassFile.FieldType.int)) ∈ lw_all := lw_g (lw_at lw_m1 191 rfl) rfl
theorem q266 : (Jvm.Cond.methodLink "BlockPapers" (106 : Nat) ({ cls := "BlockPapers", name := "inRange", desc := "(III)Z" } : Jvm.MethodName)) ∈ lw_all := lw_g (lw_at lw_m1 192 rfl) rfl
theorem q267 : (Jvm.Cond.static ({ cls := "BlockPapers", name := "inRange", desc := "(III)Z" } : Jvm.MethodName)) ∈ lw_all := lw_g (lw_at lw_m1 193 rfl) rfl
theorem q268 : (Jvm.Cond.code ({ cls := "BlockPapers", name := "inRange", desc := "(III)Z" } : Jvm.MethodName) prog_1_method_1_code (3 : Nat) (Option.some Jvm.ClassFile.FieldType.boolean)) ∈ lw_all := lw_g (lw_at lw_m1 194 rfl) rfl
theorem q269 : (Jvm.Cond.methodLink "BlockPapers" (110 : Nat) ({ cls := "BlockPapers", name := "require", desc := "(Z)V" } : Jvm.MethodName)) ∈ lw_all := lw_g (lw_at lw_m1 195 rfl) rfl
theorem q270 : (Jvm.Cond.static ({ cls := "BlockPapers", name := "require", desc := "(Z)V" } : Jvm.MethodName)) ∈ lw_all := lw_g (lw_at lw_m1 196 rfl) rfl
theorem q271 : (Jvm.Cond.code ({ cls := "BlockPapers", name := "require", desc := "(Z)V" } : Jvm.MethodName) prog_1_method_2_code (1 : Nat) (Option.none : Option Jvm.ClassFile.FieldType)) ∈ lw_all := lw_g (lw_at lw_m1 197 rfl) rfl
theorem q272 : (Jvm.Cond.classLink "BlockPapers" (1 : Nat) "java/lang/IllegalArgumentException") ∈ lw_all := lw_g (lw_at lw_m1 198 rfl) rfl
theorem q320 : (Jvm.Cond.methodLink "BlockPapers" (3 : Nat) ({ cls := "java/lang/IllegalArgumentException", name := "<init>", desc := "()V" } : Jvm.MethodName)) ∈ lw_all := lw_g (lw_at lw_m2 6 rfl) rfl
theorem q343 : (Jvm.Cond.interfaceEntry "BlockPapers" (134 : Nat)) ∈ lw_tbl := lw_at lw_m2 29 rfl
theorem q344 : (Jvm.Cond.methodLink "BlockPapers" (134 : Nat) ({ cls := "java/util/List", name := "size", desc := "()I" } : Jvm.MethodName)) ∈ lw_all := lw_g (lw_at lw_m2 30 rfl) rfl
theorem q353 : (Jvm.Cond.methodLink "BlockPapers" (326 : Nat) ({ cls := "BlockPapers", name := "back", desc := "()I" } : Jvm.MethodName)) ∈ lw_all := lw_g (lw_at lw_m2 39 rfl) rfl
theorem q354 : (Jvm.Cond.privateMethod ({ cls := "BlockPapers", name := "back", desc := "()I" } : Jvm.MethodName)) ∈ lw_tbl := lw_at lw_m2 40 rfl
theorem q355 : (Jvm.Cond.instanceMethod ({ cls := "BlockPapers", name := "back", desc := "()I" } : Jvm.MethodName)) ∈ lw_all := lw_g (lw_at lw_m2 41 rfl) rfl
theorem q356 : (Jvm.Cond.code ({ cls := "BlockPapers", name := "back", desc := "()I" } : Jvm.MethodName) prog_1_method_35_code (4 : Nat) (Option.some Jvm.ClassFile.FieldType.int)) ∈ lw_all := lw_g (lw_at lw_m2 42 rfl) rfl
theorem q357 : (Jvm.Cond.interfaceEntry "BlockPapers" (311 : Nat)) ∈ lw_tbl := lw_at lw_m2 43 rfl
theorem q358 : (Jvm.Cond.methodLink "BlockPapers" (311 : Nat) ({ cls := "java/util/List", name := "iterator", desc := "()Ljava/util/Iterator;" } : Jvm.MethodName)) ∈ lw_all := lw_g (lw_at lw_m2 44 rfl) rfl
theorem q385 : (Jvm.Cond.interfaceEntry "BlockPapers" (315 : Nat)) ∈ lw_tbl := lw_at lw_m2 71 rfl
theorem q386 : (Jvm.Cond.methodLink "BlockPapers" (315 : Nat) ({ cls := "java/util/Iterator", name := "hasNext", desc := "()Z" } : Jvm.MethodName)) ∈ lw_all := lw_g (lw_at lw_m2 72 rfl) rfl
theorem q423 : (Jvm.Cond.interfaceEntry "BlockPapers" (320 : Nat)) ∈ lw_tbl := lw_at lw_m2 109 rfl
theorem q424 : (Jvm.Cond.methodLink "BlockPapers" (320 : Nat) ({ cls := "java/util/Iterator", name := "next", desc := "()Ljava/lang/Object;" } : Jvm.MethodName)) ∈ lw_all := lw_g (lw_at lw_m2 110 rfl) rfl
theorem q438 : (Jvm.Cond.static ({ cls := "BlockPapers", name := "requireElement", desc := "(Z)V" } : Jvm.MethodName)) ∈ lw_all := lw_g (lw_at lw_m2 124 rfl) rfl
theorem q439 : (Jvm.Cond.code ({ cls := "BlockPapers", name := "requireElement", desc := "(Z)V" } : Jvm.MethodName) prog_1_method_5_code (1 : Nat) (Option.none : Option Jvm.ClassFile.FieldType)) ∈ lw_all := lw_g (lw_at lw_m2 125 rfl) rfl
theorem q440 : (Jvm.Cond.classLink "BlockPapers" (13 : Nat) "java/util/NoSuchElementException") ∈ lw_all := lw_g (lw_at lw_m2 126 rfl) rfl
theorem q449 : (Jvm.Cond.methodLink "BlockPapers" (15 : Nat) ({ cls := "java/util/NoSuchElementException", name := "<init>", desc := "()V" } : Jvm.MethodName)) ∈ lw_all := lw_g (lw_at lw_m2 135 rfl) rfl
theorem q467 : (Jvm.Cond.classLink "BlockPapers" (141 : Nat) "BlockPapers$Roll") ∈ lw_all := lw_g (lw_at lw_m2 153 rfl) rfl
theorem q468 : (Jvm.Cond.methodLink "BlockPapers" (194 : Nat) ({ cls := "BlockPapers$Workshop", name := "hangOf", desc := "(I)I" } : Jvm.MethodName)) ∈ lw_all := lw_g (lw_at lw_m2 154 rfl) rfl
theorem q508 : (Jvm.Cond.methodLink "BlockPapers" (328 : Nat) ({ cls := "BlockPapers$Workshop", name := "ofRolls", desc := "(I)I" } : Jvm.MethodName)) ∈ lw_all := lw_g (lw_at lw_m2 194 rfl) rfl
theorem q521 : (Jvm.Cond.methodLink "BlockPapers" (331 : Nat) ({ cls := "BlockPapers", name := "grams", desc := "()I" } : Jvm.MethodName)) ∈ lw_all := lw_g (lw_at lw_m2 207 rfl) rfl
theorem q522 : (Jvm.Cond.privateMethod ({ cls := "BlockPapers", name := "grams", desc := "()I" } : Jvm.MethodName)) ∈ lw_tbl := lw_at lw_m2 208 rfl
theorem q523 : (Jvm.Cond.instanceMethod ({ cls := "BlockPapers", name := "grams", desc := "()I" } : Jvm.MethodName)) ∈ lw_all := lw_g (lw_at lw_m2 209 rfl) rfl
theorem q524 : (Jvm.Cond.code ({ cls := "BlockPapers", name := "grams", desc := "()I" } : Jvm.MethodName) prog_1_method_34_code (4 : Nat) (Option.some Jvm.ClassFile.FieldType.int)) ∈ lw_all := lw_g (lw_at lw_m2 210 rfl) rfl
theorem q525 : (Jvm.Cond.classLink "BlockPapers" (162 : Nat) "BlockPapers$Ink") ∈ lw_all := lw_g (lw_at lw_m2 211 rfl) rfl
theorem q526 : (Jvm.Cond.methodLink "BlockPapers" (60 : Nat) ({ cls := "java/util/ArrayDeque", name := "size", desc := "()I" } : Jvm.MethodName)) ∈ lw_all := lw_g (lw_at lw_m2 212 rfl) rfl
theorem q533 : (Jvm.Cond.methodLink "BlockPapers" (333 : Nat) ({ cls := "java/lang/StringBuilder", name := "length", desc := "()I" } : Jvm.MethodName)) ∈ lw_all := lw_g (lw_at lw_m2 219 rfl) rfl
theorem q540 : (Jvm.Cond.methodLink "BlockPapers" (334 : Nat) ({ cls := "BlockPapers$Workshop", name := "ofRooms", desc := "(I)I" } : Jvm.MethodName)) ∈ lw_all := lw_g (lw_at lw_m2 226 rfl) rfl
theorem q552 : (Jvm.Cond.instanceMethod ({ cls := "BlockPapers", name := "saveSnapshot", desc := "()I" } : Jvm.MethodName)) ∈ lw_all := lw_g (lw_at lw_m2 238 rfl) rfl
theorem q553 : (Jvm.Cond.selects "BlockPapers" ({ cls := "BlockPapers", name := "saveSnapshot", desc := "()I" } : Jvm.MethodName) ({ cls := "BlockPapers", name := "saveSnapshot", desc := "()I" } : Jvm.MethodName)) ∈ lw_all := lw_g (lw_at lw_m2 239 rfl) rfl
theorem q554 : (Jvm.Cond.code ({ cls := "BlockPapers", name := "saveSnapshot", desc := "()I" } : Jvm.MethodName) prog_1_method_46_code (1 : Nat) (Option.some Jvm.ClassFile.FieldType.int)) ∈ lw_all := lw_g (lw_at lw_m3 0 rfl) rfl
theorem q555 : (Jvm.Cond.methodLink "BlockPapers" (72 : Nat) ({ cls := "BlockPapers", name := "draft", desc := "()LBlockPapers$Workshop;" } : Jvm.MethodName)) ∈ lw_all := lw_g (lw_at lw_m3 1 rfl) rfl
theorem q556 : (Jvm.Cond.privateMethod ({ cls := "BlockPapers", name := "draft", desc := "()LBlockPapers$Workshop;" } : Jvm.MethodName)) ∈ lw_tbl := lw_at lw_m3 2 rfl
theorem q557 : (Jvm.Cond.instanceMethod ({ cls := "BlockPapers", name := "draft", desc := "()LBlockPapers$Workshop;" } : Jvm.MethodName)) ∈ lw_all := lw_g (lw_at lw_m3 3 rfl) rfl
theorem q558 : (Jvm.Cond.code ({ cls := "BlockPapers", name := "draft", desc := "()LBlockPapers$Workshop;" } : Jvm.MethodName) prog_1_method_8_code (1 : Nat) (Option.some (Jvm.ClassFile.FieldType.object "BlockPapers$Workshop"))) ∈ lw_all := lw_g (lw_at lw_m3 4 rfl) rfl
theorem q559 : (Jvm.Cond.methodLink "BlockPapers" (57 : Nat) ({ cls := "BlockPapers$Workshop", name := "<init>", desc := "(LBlockPapers$Workshop;)V" } : Jvm.MethodName)) ∈ lw_all := lw_g (lw_at lw_m3 5 rfl) rfl
theorem q821 : (Jvm.Cond.selects "BlockPapers" ({ cls := "java/lang/Object", name := "getClass", desc := "()Ljava/lang/Class;" } : Jvm.MethodName) ({ cls := "java/lang/Object", name := "getClass", desc := "()Ljava/lang/Class;" } : Jvm.MethodName)) ∈ lw_all := lw_g (lw_at lw_m4 27 rfl) rfl
theorem q875 : (Jvm.Cond.fieldLinkNest "BlockPapers" (209 : Nat) "BlockPapers$Room" "height" "I" "BlockPapers") ∈ lw_tbl := lw_at lw_m4 81 rfl
theorem q878 : (Jvm.Cond.fieldLinkNest "BlockPapers" (214 : Nat) "BlockPapers$Room" "needed" "I" "BlockPapers") ∈ lw_tbl := lw_at lw_m4 84 rfl
theorem q883 : (Jvm.Cond.fieldLinkNest "BlockPapers" (217 : Nat) "BlockPapers$Room" "drops" "Ljava/util/List;" "BlockPapers") ∈ lw_tbl := lw_at lw_m4 89 rfl
theorem q885 : (Jvm.Cond.fieldLinkNest "BlockPapers" (220 : Nat) "BlockPapers$Room" "waste" "I" "BlockPapers") ∈ lw_tbl := lw_at lw_m4 91 rfl
theorem q888 : (Jvm.Cond.fieldLinkNest "BlockPapers" (223 : Nat) "BlockPapers$Room" "stripped" "I" "BlockPapers") ∈ lw_tbl := lw_at lw_m4 94 rfl
theorem q926 : (Jvm.Cond.instanceMethod ({ cls := "BlockPapers", name := "block", desc := "(IZ)I" } : Jvm.MethodName)) ∈ lw_all := lw_g (lw_at lw_m4 132 rfl) rfl
theorem q927 : (Jvm.Cond.selects "BlockPapers" ({ cls := "BlockPapers", name := "block", desc := "(IZ)I" } : Jvm.MethodName) ({ cls := "BlockPapers", name := "block", desc := "(IZ)I" } : Jvm.MethodName)) ∈ lw_all := lw_g (lw_at lw_m4 133 rfl) rfl
theorem q928 : (Jvm.Cond.code ({ cls := "BlockPapers", name := "block", desc := "(IZ)I" } : Jvm.MethodName) prog_1_method_11_code (3 : Nat) (Option.some Jvm.ClassFile.FieldType.int)) ∈ lw_all := lw_g (lw_at lw_m4 134 rfl) rfl
theorem q929 : (Jvm.Cond.classLink "BlockPapers" (92 : Nat) "BlockPapers$Named") ∈ lw_all := lw_g (lw_at lw_m4 135 rfl) rfl
theorem q931 : (Jvm.Cond.stringRef "BlockPapers" (94 : Nat) "block") ∈ lw_tbl := lw_at lw_m4 137 rfl
theorem q932 : (Jvm.Cond.methodLink "BlockPapers" (96 : Nat) ({ cls := "BlockPapers$Named", name := "<init>", desc := "(Ljava/lang/String;II)V" } : Jvm.MethodName)) ∈ lw_all := lw_g (lw_at lw_m4 138 rfl) rfl
theorem q952 : (Jvm.Cond.methodLink "BlockPapers" (99 : Nat) ({ cls := "BlockPapers", name := "change", desc := "(LBlockPapers$Deed;)I" } : Jvm.MethodName)) ∈ lw_all := lw_g (lw_at lw_m4 158 rfl) rfl
theorem q953 : (Jvm.Cond.privateMethod ({ cls := "BlockPapers", name := "change", desc := "(LBlockPapers$Deed;)I" } : Jvm.MethodName)) ∈ lw_tbl := lw_at lw_m4 159 rfl
theorem q954 : (Jvm.Cond.instanceMethod ({ cls := "BlockPapers", name := "change", desc := "(LBlockPapers$Deed;)I" } : Jvm.MethodName)) ∈ lw_all := lw_g (lw_at lw_m4 160 rfl) rfl
theorem q955 : (Jvm.Cond.codeWith ({ cls := "BlockPapers", name := "change", desc := "(LBlockPapers$Deed;)I" } : Jvm.MethodName) prog_1_method_10_code (4 : Nat) (Option.some Jvm.ClassFile.FieldType.int) [((5 : Nat), (19 : Nat), (20 : Nat), (16 : Nat))]) ∈ lw_all := lw_g (lw_at lw_m4 161 rfl) rfl
theorem q956 : (Jvm.Cond.classLink "BlockPapers" (16 : Nat) "BlockPapers$Failure") ∈ lw_all := lw_g (lw_at lw_m4 162 rfl) rfl
theorem q957 : (Jvm.Cond.interfaceEntry "BlockPapers" (76 : Nat)) ∈ lw_tbl := lw_at lw_m4 163 rfl
theorem q958 : (Jvm.Cond.methodLink "BlockPapers" (76 : Nat) ({ cls := "BlockPapers$Deed", name := "done", desc := "(LBlockPapers$Workshop;)I" } : Jvm.MethodName)) ∈ lw_all := lw_g (lw_at lw_m4 164 rfl) rfl
theorem q1091 : (Jvm.Cond.static ({ cls := "BlockPapers", name := "allow", desc := "(ZII)V" } : Jvm.MethodName)) ∈ lw_all := lw_g (lw_at lw_m5 57 rfl) rfl
theorem q1092 : (Jvm.Cond.code ({ cls := "BlockPapers", name := "allow", desc := "(ZII)V" } : Jvm.MethodName) prog_1_method_6_code (3 : Nat) (Option.none : Option Jvm.ClassFile.FieldType)) ∈ lw_all := lw_g (lw_at lw_m5 58 rfl) rfl
theorem q1101 : (Jvm.Cond.methodLink "BlockPapers" (18 : Nat) ({ cls := "BlockPapers$Failure", name := "<init>", desc := "(II)V" } : Jvm.MethodName)) ∈ lw_all := lw_g (lw_at lw_m5 67 rfl) rfl
theorem q1111 : (Jvm.Cond.fieldLinkNest "BlockPapers" (384 : Nat) "BlockPapers$Failure" "reason" "I" "BlockPapers") ∈ lw_tbl := lw_at lw_m5 77 rfl
theorem q1113 : (Jvm.Cond.fieldLinkNest "BlockPapers" (382 : Nat) "BlockPapers$Failure" "detail" "I" "BlockPapers") ∈ lw_tbl := lw_at lw_m5 79 rfl
theorem q1130 : (Jvm.Cond.fieldLinkNest "BlockPapers" (114 : Nat) "BlockPapers$Block" "repeat" "I" "BlockPapers") ∈ lw_tbl := lw_at lw_m5 96 rfl
theorem q1132 : (Jvm.Cond.fieldLinkNest "BlockPapers" (119 : Nat) "BlockPapers$Block" "isHalfDrop" "Z" "BlockPapers") ∈ lw_tbl := lw_at lw_m5 98 rfl
theorem q1135 : (Jvm.Cond.fieldLinkNest "BlockPapers" (123 : Nat) "BlockPapers$Block" "wear" "I" "BlockPapers") ∈ lw_tbl := lw_at lw_m5 101 rfl
theorem q1152 : (Jvm.Cond.static ({ cls := "BlockPapers", name := "requireIndex", desc := "(Z)V" } : Jvm.MethodName)) ∈ lw_all := lw_g (lw_at lw_m5 118 rfl) rfl
theorem q1153 : (Jvm.Cond.code ({ cls := "BlockPapers", name := "requireIndex", desc := "(Z)V" } : Jvm.MethodName) prog_1_method_3_code (1 : Nat) (Option.none : Option Jvm.ClassFile.FieldType)) ∈ lw_all := lw_g (lw_at lw_m5 119 rfl) rfl
theorem q1154 : (Jvm.Cond.classLink "BlockPapers" (7 : Nat) "java/lang/IndexOutOfBoundsException") ∈ lw_all := lw_g (lw_at lw_m5 120 rfl) rfl
theorem q1163 : (Jvm.Cond.methodLink "BlockPapers" (9 : Nat) ({ cls := "java/lang/IndexOutOfBoundsException", name := "<init>", desc := "()V" } : Jvm.MethodName)) ∈ lw_all := lw_g (lw_at lw_m5 129 rfl) rfl
theorem q1195 : (Jvm.Cond.fieldLinkNest "BlockPapers" (161 : Nat) "BlockPapers$Ink" "colour" "I" "BlockPapers") ∈ lw_tbl := lw_at lw_m5 161 rfl
theorem q1198 : (Jvm.Cond.fieldLinkNest "BlockPapers" (166 : Nat) "BlockPapers$Ink" "shade" "I" "BlockPapers") ∈ lw_tbl := lw_at lw_m5 164 rfl
theorem q1201 : (Jvm.Cond.fieldLinkNest "BlockPapers" (169 : Nat) "BlockPapers$Ink" "grams" "I" "BlockPapers") ∈ lw_tbl := lw_at lw_m5 167 rfl
theorem q1241 : (Jvm.Cond.fieldLinkNest "BlockPapers" (143 : Nat) "BlockPapers$Roll" "block" "I" "BlockPapers") ∈ lw_tbl := lw_at lw_m5 207 rfl
theorem q1244 : (Jvm.Cond.fieldLinkNest "BlockPapers" (145 : Nat) "BlockPapers$Roll" "batch" "I" "BlockPapers") ∈ lw_tbl := lw_at lw_m5 210 rfl
theorem q1247 : (Jvm.Cond.fieldLinkNest "BlockPapers" (184 : Nat) "BlockPapers$Roll" "colour" "I" "BlockPapers") ∈ lw_tbl := lw_at lw_m5 213 rfl
theorem q1250 : (Jvm.Cond.fieldLinkNest "BlockPapers" (183 : Nat) "BlockPapers$Roll" "shade" "I" "BlockPapers") ∈ lw_tbl := lw_at lw_m5 216 rfl
theorem q1253 : (Jvm.Cond.fieldLinkNest "BlockPapers" (180 : Nat) "BlockPapers$Roll" "length" "I" "BlockPapers") ∈ lw_tbl := lw_at lw_m5 219 rfl
theorem q1257 : (Jvm.Cond.fieldLinkNest "BlockPapers" (185 : Nat) "BlockPapers$Roll" "used" "I" "BlockPapers") ∈ lw_tbl := lw_at lw_m5 223 rfl
theorem q1260 : (Jvm.Cond.fieldLinkNest "BlockPapers" (191 : Nat) "BlockPapers$Roll" "isBack" "Z" "BlockPapers") ∈ lw_tbl := lw_at lw_m5 226 rfl
theorem q1399 : (Jvm.Cond.fieldLinkNest "BlockPapers" (239 : Nat) "BlockPapers$Drop" "roll" "I" "BlockPapers") ∈ lw_tbl := lw_at lw_m6 125 rfl
theorem q1402 : (Jvm.Cond.fieldLinkNest "BlockPapers" (241 : Nat) "BlockPapers$Drop" "begin" "I" "BlockPapers") ∈ lw_tbl := lw_at lw_m6 128 rfl
theorem q1405 : (Jvm.Cond.fieldLinkNest "BlockPapers" (243 : Nat) "BlockPapers$Drop" "shade" "I" "BlockPapers") ∈ lw_tbl := lw_at lw_m6 131 rfl
theorem q1407 : (Jvm.Cond.fieldLinkNest "BlockPapers" (244 : Nat) "BlockPapers$Drop" "waste" "I" "BlockPapers") ∈ lw_tbl := lw_at lw_m6 133 rfl
theorem q1484 : (Jvm.Cond.methodLink "BlockPapers" (82 : Nat) ({ cls := "BlockPapers", name := "replace", desc := "(LBlockPapers$Workshop;)V" } : Jvm.MethodName)) ∈ lw_all := lw_g (lw_at lw_m6 210 rfl) rfl
theorem q1485 : (Jvm.Cond.privateMethod ({ cls := "BlockPapers", name := "replace", desc := "(LBlockPapers$Workshop;)V" } : Jvm.MethodName)) ∈ lw_tbl := lw_at lw_m6 211 rfl
theorem q1486 : (Jvm.Cond.instanceMethod ({ cls := "BlockPapers", name := "replace", desc := "(LBlockPapers$Workshop;)V" } : Jvm.MethodName)) ∈ lw_all := lw_g (lw_at lw_m6 212 rfl) rfl
theorem q1487 : (Jvm.Cond.code ({ cls := "BlockPapers", name := "replace", desc := "(LBlockPapers$Workshop;)V" } : Jvm.MethodName) prog_1_method_9_code (3 : Nat) (Option.none : Option Jvm.ClassFile.FieldType)) ∈ lw_all := lw_g (lw_at lw_m6 213 rfl) rfl
theorem q1488 : (Jvm.Cond.methodLink "BlockPapers" (64 : Nat) ({ cls := "java/util/ArrayDeque", name := "removeLast", desc := "()Ljava/lang/Object;" } : Jvm.MethodName)) ∈ lw_all := lw_g (lw_at lw_m6 214 rfl) rfl
theorem q1504 : (Jvm.Cond.methodLink "BlockPapers" (68 : Nat) ({ cls := "java/util/ArrayDeque", name := "push", desc := "(Ljava/lang/Object;)V" } : Jvm.MethodName)) ∈ lw_all := lw_g (lw_at lw_m6 230 rfl) rfl
theorem q1539 : (Jvm.Cond.classLink "BlockPapers" (89 : Nat) "java/lang/UnsupportedOperationException") ∈ lw_all := lw_g (lw_at lw_m7 25 rfl) rfl
theorem q1548 : (Jvm.Cond.methodLink "BlockPapers" (91 : Nat) ({ cls := "java/lang/UnsupportedOperationException", name := "<init>", desc := "()V" } : Jvm.MethodName)) ∈ lw_all := lw_g (lw_at lw_m7 34 rfl) rfl
theorem q1559 : (Jvm.Cond.instanceMethod ({ cls := "BlockPapers", name := "blockOf", desc := "(II)I" } : Jvm.MethodName)) ∈ lw_all := lw_g (lw_at lw_m7 45 rfl) rfl
theorem q1560 : (Jvm.Cond.selects "BlockPapers" ({ cls := "BlockPapers", name := "blockOf", desc := "(II)I" } : Jvm.MethodName) ({ cls := "BlockPapers", name := "blockOf", desc := "(II)I" } : Jvm.MethodName)) ∈ lw_all := lw_g (lw_at lw_m7 46 rfl) rfl
theorem q1561 : (Jvm.Cond.code ({ cls := "BlockPapers", name := "blockOf", desc := "(II)I" } : Jvm.MethodName) prog_1_method_12_code (4 : Nat) (Option.some Jvm.ClassFile.FieldType.int)) ∈ lw_all := lw_g (lw_at lw_m7 47 rfl) rfl
theorem q1562 : (Jvm.Cond.methodLink "BlockPapers" (103 : Nat) ({ cls := "BlockPapers$Workshop", name := "block", desc := "(I)LBlockPapers$Block;" } : Jvm.MethodName)) ∈ lw_all := lw_g (lw_at lw_m7 48 rfl) rfl
theorem q1563 : (Jvm.Cond.methodLink "BlockPapers" (126 : Nat) ({ cls := "BlockPapers", name := "printed", desc := "(IZ)I" } : Jvm.MethodName)) ∈ lw_all := lw_g (lw_at lw_m7 49 rfl) rfl
theorem q1564 : (Jvm.Cond.privateMethod ({ cls := "BlockPapers", name := "printed", desc := "(IZ)I" } : Jvm.MethodName)) ∈ lw_tbl := lw_at lw_m7 50 rfl
theorem q1565 : (Jvm.Cond.instanceMethod ({ cls := "BlockPapers", name := "printed", desc := "(IZ)I" } : Jvm.MethodName)) ∈ lw_all := lw_g (lw_at lw_m7 51 rfl) rfl
theorem q1566 : (Jvm.Cond.code ({ cls := "BlockPapers", name := "printed", desc := "(IZ)I" } : Jvm.MethodName) prog_1_method_13_code (6 : Nat) (Option.some Jvm.ClassFile.FieldType.int)) ∈ lw_all := lw_g (lw_at lw_m7 52 rfl) rfl
theorem q1567 : (Jvm.Cond.interfaceEntry "BlockPapers" (137 : Nat)) ∈ lw_tbl := lw_at lw_m7 53 rfl
theorem q1568 : (Jvm.Cond.methodLink "BlockPapers" (137 : Nat) ({ cls := "java/util/List", name := "get", desc := "(I)Ljava/lang/Object;" } : Jvm.MethodName)) ∈ lw_all := lw_g (lw_at lw_m7 54 rfl) rfl
theorem q1573 : (Jvm.Cond.instanceMethod ({ cls := "BlockPapers", name := "carve", desc := "(I)I" } : Jvm.MethodName)) ∈ lw_all := lw_g (lw_at lw_m7 59 rfl) rfl
theorem q1574 : (Jvm.Cond.selects "BlockPapers" ({ cls := "BlockPapers", name := "carve", desc := "(I)I" } : Jvm.MethodName) ({ cls := "BlockPapers", name := "carve", desc := "(I)I" } : Jvm.MethodName)) ∈ lw_all := lw_g (lw_at lw_m7 60 rfl) rfl
theorem q1575 : (Jvm.Cond.code ({ cls := "BlockPapers", name := "carve", desc := "(I)I" } : Jvm.MethodName) prog_1_method_14_code (2 : Nat) (Option.some Jvm.ClassFile.FieldType.int)) ∈ lw_all := lw_g (lw_at lw_m7 61 rfl) rfl
theorem q1576 : (Jvm.Cond.stringRef "BlockPapers" (148 : Nat) "carve") ∈ lw_tbl := lw_at lw_m7 62 rfl
theorem q1577 : (Jvm.Cond.methodLink "BlockPapers" (150 : Nat) ({ cls := "BlockPapers$Named", name := "<init>", desc := "(Ljava/lang/String;I)V" } : Jvm.MethodName)) ∈ lw_all := lw_g (lw_at lw_m7 63 rfl) rfl
theorem q1584 : (Jvm.Cond.instanceMethod ({ cls := "BlockPapers", name := "ink", desc := "(III)I" } : Jvm.MethodName)) ∈ lw_all := lw_g (lw_at lw_m7 70 rfl) rfl
theorem q1585 : (Jvm.Cond.selects "BlockPapers" ({ cls := "BlockPapers", name := "ink", desc := "(III)I" } : Jvm.MethodName) ({ cls := "BlockPapers", name := "ink", desc := "(III)I" } : Jvm.MethodName)) ∈ lw_all := lw_g (lw_at lw_m7 71 rfl) rfl
theorem q1586 : (Jvm.Cond.code ({ cls := "BlockPapers", name := "ink", desc := "(III)I" } : Jvm.MethodName) prog_1_method_15_code (4 : Nat) (Option.some Jvm.ClassFile.FieldType.int)) ∈ lw_all := lw_g (lw_at lw_m7 72 rfl) rfl
theorem q1587 : (Jvm.Cond.stringRef "BlockPapers" (153 : Nat) "ink") ∈ lw_tbl := lw_at lw_m7 73 rfl
theorem q1588 : (Jvm.Cond.methodLink "BlockPapers" (155 : Nat) ({ cls := "BlockPapers$Named", name := "<init>", desc := "(Ljava/lang/String;III)V" } : Jvm.MethodName)) ∈ lw_all := lw_g (lw_at lw_m7 74 rfl) rfl
theorem q1593 : (Jvm.Cond.instanceMethod ({ cls := "BlockPapers", name := "inkOf", desc := "(II)I" } : Jvm.MethodName)) ∈ lw_all := lw_g (lw_at lw_m7 79 rfl) rfl
theorem q1594 : (Jvm.Cond.selects "BlockPapers" ({ cls := "BlockPapers", name := "inkOf", desc := "(II)I" } : Jvm.MethodName) ({ cls := "BlockPapers", name := "inkOf", desc := "(II)I" } : Jvm.MethodName)) ∈ lw_all := lw_g (lw_at lw_m7 80 rfl) rfl
theorem q1595 : (Jvm.Cond.code ({ cls := "BlockPapers", name := "inkOf", desc := "(II)I" } : Jvm.MethodName) prog_1_method_16_code (4 : Nat) (Option.some Jvm.ClassFile.FieldType.int)) ∈ lw_all := lw_g (lw_at lw_m7 81 rfl) rfl
theorem q1596 : (Jvm.Cond.methodLink "BlockPapers" (158 : Nat) ({ cls := "BlockPapers$Workshop", name := "ink", desc := "(I)LBlockPapers$Ink;" } : Jvm.MethodName)) ∈ lw_all := lw_g (lw_at lw_m7 82 rfl) rfl
theorem q1601 : (Jvm.Cond.instanceMethod ({ cls := "BlockPapers", name := "mix", desc := "(III)I" } : Jvm.MethodName)) ∈ lw_all := lw_g (lw_at lw_m7 87 rfl) rfl
theorem q1602 : (Jvm.Cond.selects "BlockPapers" ({ cls := "BlockPapers", name := "mix", desc := "(III)I" } : Jvm.MethodName) ({ cls := "BlockPapers", name := "mix", desc := "(III)I" } : Jvm.MethodName)) ∈ lw_all := lw_g (lw_at lw_m7 88 rfl) rfl
theorem q1603 : (Jvm.Cond.code ({ cls := "BlockPapers", name := "mix", desc := "(III)I" } : Jvm.MethodName) prog_1_method_17_code (4 : Nat) (Option.some Jvm.ClassFile.FieldType.int)) ∈ lw_all := lw_g (lw_at lw_m7 89 rfl) rfl
theorem q1604 : (Jvm.Cond.stringRef "BlockPapers" (172 : Nat) "mix") ∈ lw_tbl := lw_at lw_m7 90 rfl
theorem q1609 : (Jvm.Cond.instanceMethod ({ cls := "BlockPapers", name := "print", desc := "(III)I" } : Jvm.MethodName)) ∈ lw_all := lw_g (lw_at lw_m7 95 rfl) rfl
theorem q1610 : (Jvm.Cond.selects "BlockPapers" ({ cls := "BlockPapers", name := "print", desc := "(III)I" } : Jvm.MethodName) ({ cls := "BlockPapers", name := "print", desc := "(III)I" } : Jvm.MethodName)) ∈ lw_all := lw_g (lw_at lw_m7 96 rfl) rfl
theorem q1611 : (Jvm.Cond.code ({ cls := "BlockPapers", name := "print", desc := "(III)I" } : Jvm.MethodName) prog_1_method_18_code (4 : Nat) (Option.some Jvm.ClassFile.FieldType.int)) ∈ lw_all := lw_g (lw_at lw_m7 97 rfl) rfl
theorem q1612 : (Jvm.Cond.stringRef "BlockPapers" (174 : Nat) "print") ∈ lw_tbl := lw_at lw_m7 98 rfl
theorem q1617 : (Jvm.Cond.instanceMethod ({ cls := "BlockPapers", name := "rollOf", desc := "(II)I" } : Jvm.MethodName)) ∈ lw_all := lw_g (lw_at lw_m7 103 rfl) rfl
theorem q1618 : (Jvm.Cond.selects "BlockPapers" ({ cls := "BlockPapers", name := "rollOf", desc := "(II)I" } : Jvm.MethodName) ({ cls := "BlockPapers", name := "rollOf", desc := "(II)I" } : Jvm.MethodName)) ∈ lw_all := lw_g (lw_at lw_m7 104 rfl) rfl
theorem q1619 : (Jvm.Cond.code ({ cls := "BlockPapers", name := "rollOf", desc := "(II)I" } : Jvm.MethodName) prog_1_method_19_code (4 : Nat) (Option.some Jvm.ClassFile.FieldType.int)) ∈ lw_all := lw_g (lw_at lw_m7 105 rfl) rfl
theorem q1620 : (Jvm.Cond.methodLink "BlockPapers" (176 : Nat) ({ cls := "BlockPapers$Workshop", name := "roll", desc := "(I)LBlockPapers$Roll;" } : Jvm.MethodName)) ∈ lw_all := lw_g (lw_at lw_m7 106 rfl) rfl
theorem q1621 : (Jvm.Cond.methodLink "BlockPapers" (188 : Nat) ({ cls := "BlockPapers$Roll", name := "left", desc := "()I" } : Jvm.MethodName)) ∈ lw_all := lw_g (lw_at lw_m7 107 rfl) rfl
theorem q1626 : (Jvm.Cond.instanceMethod ({ cls := "BlockPapers", name := "giveBack", desc := "(I)I" } : Jvm.MethodName)) ∈ lw_all := lw_g (lw_at lw_m7 112 rfl) rfl
theorem q1627 : (Jvm.Cond.selects "BlockPapers" ({ cls := "BlockPapers", name := "giveBack", desc := "(I)I" } : Jvm.MethodName) ({ cls := "BlockPapers", name := "giveBack", desc := "(I)I" } : Jvm.MethodName)) ∈ lw_all := lw_g (lw_at lw_m7 113 rfl) rfl
theorem q1628 : (Jvm.Cond.code ({ cls := "BlockPapers", name := "giveBack", desc := "(I)I" } : Jvm.MethodName) prog_1_method_20_code (2 : Nat) (Option.some Jvm.ClassFile.FieldType.int)) ∈ lw_all := lw_g (lw_at lw_m7 114 rfl) rfl
theorem q1629 : (Jvm.Cond.stringRef "BlockPapers" (198 : Nat) "back") ∈ lw_tbl := lw_at lw_m7 115 rfl
theorem q1634 : (Jvm.Cond.instanceMethod ({ cls := "BlockPapers", name := "room", desc := "(II)I" } : Jvm.MethodName)) ∈ lw_all := lw_g (lw_at lw_m7 120 rfl) rfl
theorem q1635 : (Jvm.Cond.selects "BlockPapers" ({ cls := "BlockPapers", name := "room", desc := "(II)I" } : Jvm.MethodName) ({ cls := "BlockPapers", name := "room", desc := "(II)I" } : Jvm.MethodName)) ∈ lw_all := lw_g (lw_at lw_m7 121 rfl) rfl
theorem q1636 : (Jvm.Cond.code ({ cls := "BlockPapers", name := "room", desc := "(II)I" } : Jvm.MethodName) prog_1_method_21_code (3 : Nat) (Option.some Jvm.ClassFile.FieldType.int)) ∈ lw_all := lw_g (lw_at lw_m7 122 rfl) rfl
theorem q1637 : (Jvm.Cond.stringRef "BlockPapers" (200 : Nat) "room") ∈ lw_tbl := lw_at lw_m7 123 rfl
theorem q1642 : (Jvm.Cond.instanceMethod ({ cls := "BlockPapers", name := "roomOf", desc := "(II)I" } : Jvm.MethodName)) ∈ lw_all := lw_g (lw_at lw_m7 128 rfl) rfl
theorem q1643 : (Jvm.Cond.selects "BlockPapers" ({ cls := "BlockPapers", name := "roomOf", desc := "(II)I" } : Jvm.MethodName) ({ cls := "BlockPapers", name := "roomOf", desc := "(II)I" } : Jvm.MethodName)) ∈ lw_all := lw_g (lw_at lw_m7 129 rfl) rfl
theorem q1644 : (Jvm.Cond.code ({ cls := "BlockPapers", name := "roomOf", desc := "(II)I" } : Jvm.MethodName) prog_1_method_22_code (5 : Nat) (Option.some Jvm.ClassFile.FieldType.int)) ∈ lw_all := lw_g (lw_at lw_m7 130 rfl) rfl
theorem q1645 : (Jvm.Cond.methodLink "BlockPapers" (202 : Nat) ({ cls := "BlockPapers$Workshop", name := "room", desc := "(I)LBlockPapers$Room;" } : Jvm.MethodName)) ∈ lw_all := lw_g (lw_at lw_m7 131 rfl) rfl
theorem q1646 : (Jvm.Cond.methodLink "BlockPapers" (205 : Nat) ({ cls := "BlockPapers$Workshop", name := "first", desc := "(LBlockPapers$Room;)LBlockPapers$Roll;" } : Jvm.MethodName)) ∈ lw_all := lw_g (lw_at lw_m7 132 rfl) rfl
theorem q1647 : (Jvm.Cond.methodLink "BlockPapers" (226 : Nat) ({ cls := "BlockPapers$Room", name := "isFull", desc := "()Z" } : Jvm.MethodName)) ∈ lw_all := lw_g (lw_at lw_m7 133 rfl) rfl
theorem q1648 : (Jvm.Cond.methodLink "BlockPapers" (230 : Nat) ({ cls := "BlockPapers$Workshop", name := "begin", desc := "(LBlockPapers$Room;I)I" } : Jvm.MethodName)) ∈ lw_all := lw_g (lw_at lw_m7 134 rfl) rfl
theorem q1654 : (Jvm.Cond.instanceMethod ({ cls := "BlockPapers", name := "dropOf", desc := "(III)I" } : Jvm.MethodName)) ∈ lw_all := lw_g (lw_at lw_m7 140 rfl) rfl
theorem q1655 : (Jvm.Cond.selects "BlockPapers" ({ cls := "BlockPapers", name := "dropOf", desc := "(III)I" } : Jvm.MethodName) ({ cls := "BlockPapers", name := "dropOf", desc := "(III)I" } : Jvm.MethodName)) ∈ lw_all := lw_g (lw_at lw_m7 141 rfl) rfl
theorem q1656 : (Jvm.Cond.code ({ cls := "BlockPapers", name := "dropOf", desc := "(III)I" } : Jvm.MethodName) prog_1_method_23_code (6 : Nat) (Option.some Jvm.ClassFile.FieldType.int)) ∈ lw_all := lw_g (lw_at lw_m7 142 rfl) rfl
theorem q1657 : (Jvm.Cond.methodLink "BlockPapers" (234 : Nat) ({ cls := "BlockPapers", name := "requireElement", desc := "(Z)V" } : Jvm.MethodName)) ∈ lw_all := lw_g (lw_at lw_m7 143 rfl) rfl
theorem q1658 : (Jvm.Cond.classLink "BlockPapers" (237 : Nat) "BlockPapers$Drop") ∈ lw_all := lw_g (lw_at lw_m7 144 rfl) rfl
theorem q1663 : (Jvm.Cond.instanceMethod ({ cls := "BlockPapers", name := "hang", desc := "(II)I" } : Jvm.MethodName)) ∈ lw_all := lw_g (lw_at lw_m7 149 rfl) rfl
theorem q1664 : (Jvm.Cond.selects "BlockPapers" ({ cls := "BlockPapers", name := "hang", desc := "(II)I" } : Jvm.MethodName) ({ cls := "BlockPapers", name := "hang", desc := "(II)I" } : Jvm.MethodName)) ∈ lw_all := lw_g (lw_at lw_m7 150 rfl) rfl
theorem q1665 : (Jvm.Cond.code ({ cls := "BlockPapers", name := "hang", desc := "(II)I" } : Jvm.MethodName) prog_1_method_24_code (3 : Nat) (Option.some Jvm.ClassFile.FieldType.int)) ∈ lw_all := lw_g (lw_at lw_m7 151 rfl) rfl
theorem q1666 : (Jvm.Cond.stringRef "BlockPapers" (245 : Nat) "hang") ∈ lw_tbl := lw_at lw_m7 152 rfl
theorem q1671 : (Jvm.Cond.instanceMethod ({ cls := "BlockPapers", name := "why", desc := "(IIZ)I" } : Jvm.MethodName)) ∈ lw_all := lw_g (lw_at lw_m7 157 rfl) rfl
theorem q1672 : (Jvm.Cond.selects "BlockPapers" ({ cls := "BlockPapers", name := "why", desc := "(IIZ)I" } : Jvm.MethodName) ({ cls := "BlockPapers", name := "why", desc := "(IIZ)I" } : Jvm.MethodName)) ∈ lw_all := lw_g (lw_at lw_m7 158 rfl) rfl
theorem q1673 : (Jvm.Cond.code ({ cls := "BlockPapers", name := "why", desc := "(IIZ)I" } : Jvm.MethodName) prog_1_method_25_code (6 : Nat) (Option.some Jvm.ClassFile.FieldType.int)) ∈ lw_all := lw_g (lw_at lw_m7 159 rfl) rfl
theorem q1674 : (Jvm.Cond.methodLink "BlockPapers" (247 : Nat) ({ cls := "BlockPapers$Workshop", name := "reason", desc := "(LBlockPapers$Room;LBlockPapers$Roll;)I" } : Jvm.MethodName)) ∈ lw_all := lw_g (lw_at lw_m7 160 rfl) rfl
theorem q1675 : (Jvm.Cond.methodLink "BlockPapers" (251 : Nat) ({ cls := "BlockPapers$Workshop", name := "detail", desc := "(LBlockPapers$Room;II)I" } : Jvm.MethodName)) ∈ lw_all := lw_g (lw_at lw_m7 161 rfl) rfl
theorem q1680 : (Jvm.Cond.instanceMethod ({ cls := "BlockPapers", name := "strip", desc := "(I)I" } : Jvm.MethodName)) ∈ lw_all := lw_g (lw_at lw_m7 166 rfl) rfl
theorem q1681 : (Jvm.Cond.selects "BlockPapers" ({ cls := "BlockPapers", name := "strip", desc := "(I)I" } : Jvm.MethodName) ({ cls := "BlockPapers", name := "strip", desc := "(I)I" } : Jvm.MethodName)) ∈ lw_all := lw_g (lw_at lw_m7 167 rfl) rfl
theorem q1682 : (Jvm.Cond.code ({ cls := "BlockPapers", name := "strip", desc := "(I)I" } : Jvm.MethodName) prog_1_method_26_code (2 : Nat) (Option.some Jvm.ClassFile.FieldType.int)) ∈ lw_all := lw_g (lw_at lw_m7 168 rfl) rfl
theorem q1683 : (Jvm.Cond.stringRef "BlockPapers" (255 : Nat) "strip") ∈ lw_tbl := lw_at lw_m7 169 rfl
theorem q1688 : (Jvm.Cond.instanceMethod ({ cls := "BlockPapers", name := "isMatched", desc := "(I)Z" } : Jvm.MethodName)) ∈ lw_all := lw_g (lw_at lw_m7 174 rfl) rfl
theorem q1689 : (Jvm.Cond.selects "BlockPapers" ({ cls := "BlockPapers", name := "isMatched", desc := "(I)Z" } : Jvm.MethodName) ({ cls := "BlockPapers", name := "isMatched", desc := "(I)Z" } : Jvm.MethodName)) ∈ lw_all := lw_g (lw_at lw_m7 175 rfl) rfl
theorem q1690 : (Jvm.Cond.code ({ cls := "BlockPapers", name := "isMatched", desc := "(I)Z" } : Jvm.MethodName) prog_1_method_27_code (5 : Nat) (Option.some Jvm.ClassFile.FieldType.boolean)) ∈ lw_all := lw_g (lw_at lw_m7 176 rfl) rfl
theorem q1695 : (Jvm.Cond.instanceMethod ({ cls := "BlockPapers", name := "bestRoll", desc := "(I)I" } : Jvm.MethodName)) ∈ lw_all := lw_g (lw_at lw_m7 181 rfl) rfl
theorem q1696 : (Jvm.Cond.selects "BlockPapers" ({ cls := "BlockPapers", name := "bestRoll", desc := "(I)I" } : Jvm.MethodName) ({ cls := "BlockPapers", name := "bestRoll", desc := "(I)I" } : Jvm.MethodName)) ∈ lw_all := lw_g (lw_at lw_m7 182 rfl) rfl
theorem q1697 : (Jvm.Cond.code ({ cls := "BlockPapers", name := "bestRoll", desc := "(I)I" } : Jvm.MethodName) prog_1_method_28_code (3 : Nat) (Option.some Jvm.ClassFile.FieldType.int)) ∈ lw_all := lw_g (lw_at lw_m7 183 rfl) rfl
theorem q1698 : (Jvm.Cond.methodLink "BlockPapers" (257 : Nat) ({ cls := "BlockPapers$Workshop", name := "best", desc := "(LBlockPapers$Room;)I" } : Jvm.MethodName)) ∈ lw_all := lw_g (lw_at lw_m7 184 rfl) rfl
theorem q1703 : (Jvm.Cond.instanceMethod ({ cls := "BlockPapers", name := "finish", desc := "(I)I" } : Jvm.MethodName)) ∈ lw_all := lw_g (lw_at lw_m7 189 rfl) rfl
theorem q1704 : (Jvm.Cond.selects "BlockPapers" ({ cls := "BlockPapers", name := "finish", desc := "(I)I" } : Jvm.MethodName) ({ cls := "BlockPapers", name := "finish", desc := "(I)I" } : Jvm.MethodName)) ∈ lw_all := lw_g (lw_at lw_m7 190 rfl) rfl
theorem q1705 : (Jvm.Cond.code ({ cls := "BlockPapers", name := "finish", desc := "(I)I" } : Jvm.MethodName) prog_1_method_29_code (2 : Nat) (Option.some Jvm.ClassFile.FieldType.int)) ∈ lw_all := lw_g (lw_at lw_m7 191 rfl) rfl
theorem q1706 : (Jvm.Cond.stringRef "BlockPapers" (261 : Nat) "finish") ∈ lw_tbl := lw_at lw_m7 192 rfl
theorem q1711 : (Jvm.Cond.instanceMethod ({ cls := "BlockPapers", name := "dropsFrom", desc := "(II)I" } : Jvm.MethodName)) ∈ lw_all := lw_g (lw_at lw_m7 197 rfl) rfl
theorem q1712 : (Jvm.Cond.selects "BlockPapers" ({ cls := "BlockPapers", name := "dropsFrom", desc := "(II)I" } : Jvm.MethodName) ({ cls := "BlockPapers", name := "dropsFrom", desc := "(II)I" } : Jvm.MethodName)) ∈ lw_all := lw_g (lw_at lw_m7 198 rfl) rfl
theorem q1713 : (Jvm.Cond.code ({ cls := "BlockPapers", name := "dropsFrom", desc := "(II)I" } : Jvm.MethodName) prog_1_method_30_code (3 : Nat) (Option.some Jvm.ClassFile.FieldType.int)) ∈ lw_all := lw_g (lw_at lw_m7 199 rfl) rfl
theorem q1714 : (Jvm.Cond.methodLink "BlockPapers" (263 : Nat) ({ cls := "BlockPapers$Workshop", name := "drops", desc := "(LBlockPapers$Room;LBlockPapers$Roll;)I" } : Jvm.MethodName)) ∈ lw_all := lw_g (lw_at lw_m7 200 rfl) rfl
theorem q1722 : (Jvm.Cond.instanceMethod ({ cls := "BlockPapers", name := "dropsAgain", desc := "(II)I" } : Jvm.MethodName)) ∈ lw_all := lw_g (lw_at lw_m7 208 rfl) rfl
theorem q1723 : (Jvm.Cond.selects "BlockPapers" ({ cls := "BlockPapers", name := "dropsAgain", desc := "(II)I" } : Jvm.MethodName) ({ cls := "BlockPapers", name := "dropsAgain", desc := "(II)I" } : Jvm.MethodName)) ∈ lw_all := lw_g (lw_at lw_m7 209 rfl) rfl
theorem q1724 : (Jvm.Cond.code ({ cls := "BlockPapers", name := "dropsAgain", desc := "(II)I" } : Jvm.MethodName) prog_1_method_31_code (8 : Nat) (Option.some Jvm.ClassFile.FieldType.int)) ∈ lw_all := lw_g (lw_at lw_m7 210 rfl) rfl
theorem q1725 : (Jvm.Cond.classLink "BlockPapers" (210 : Nat) "BlockPapers$Room") ∈ lw_all := lw_g (lw_at lw_m7 211 rfl) rfl
theorem q1726 : (Jvm.Cond.methodLinkNest "BlockPapers" (268 : Nat) ({ cls := "BlockPapers$Workshop", name := "hang", desc := "(LBlockPapers$Room;I)I" } : Jvm.MethodName) "BlockPapers") ∈ lw_tbl := lw_at lw_m7 212 rfl
theorem q1731 : (Jvm.Cond.instanceMethod ({ cls := "BlockPapers", name := "line", desc := "(I)I" } : Jvm.MethodName)) ∈ lw_all := lw_g (lw_at lw_m7 217 rfl) rfl
theorem q1732 : (Jvm.Cond.selects "BlockPapers" ({ cls := "BlockPapers", name := "line", desc := "(I)I" } : Jvm.MethodName) ({ cls := "BlockPapers", name := "line", desc := "(I)I" } : Jvm.MethodName)) ∈ lw_all := lw_g (lw_at lw_m7 218 rfl) rfl
theorem q1733 : (Jvm.Cond.code ({ cls := "BlockPapers", name := "line", desc := "(I)I" } : Jvm.MethodName) prog_1_method_32_code (4 : Nat) (Option.some Jvm.ClassFile.FieldType.int)) ∈ lw_all := lw_g (lw_at lw_m7 219 rfl) rfl
theorem q1734 : (Jvm.Cond.methodLink "BlockPapers" (270 : Nat) ({ cls := "java/lang/StringBuilder", name := "append", desc := "(I)Ljava/lang/StringBuilder;" } : Jvm.MethodName)) ∈ lw_all := lw_g (lw_at lw_m7 220 rfl) rfl
theorem q1735 : (Jvm.Cond.stringRef "BlockPapers" (274 : Nat) ": ") ∈ lw_tbl := lw_at lw_m7 221 rfl
theorem q1736 : (Jvm.Cond.methodLink "BlockPapers" (276 : Nat) ({ cls := "java/lang/StringBuilder", name := "append", desc := "(Ljava/lang/String;)Ljava/lang/StringBuilder;" } : Jvm.MethodName)) ∈ lw_all := lw_g (lw_at lw_m7 222 rfl) rfl
theorem q1737 : (Jvm.Cond.stringRef "BlockPapers" (279 : Nat) " of ") ∈ lw_tbl := lw_at lw_m7 223 rfl
theorem q1738 : (Jvm.Cond.stringRef "BlockPapers" (281 : Nat) ", shade ") ∈ lw_tbl := lw_at lw_m7 224 rfl
theorem q1739 : (Jvm.Cond.methodLink "BlockPapers" (283 : Nat) ({ cls := "java/lang/StringBuilder", name := "toString", desc := "()Ljava/lang/String;" } : Jvm.MethodName)) ∈ lw_all := lw_g (lw_at lw_m7 225 rfl) rfl
theorem q1740 : (Jvm.Cond.methodLink "BlockPapers" (287 : Nat) ({ cls := "java/lang/StringBuilder", name := "<init>", desc := "(Ljava/lang/String;)V" } : Jvm.MethodName)) ∈ lw_all := lw_g (lw_at lw_m7 226 rfl) rfl
theorem q1751 : (Jvm.Cond.methodLink "BlockPapers" (290 : Nat) ({ cls := "BlockPapers$Roll", name := "sign", desc := "()Ljava/lang/CharSequence;" } : Jvm.MethodName)) ∈ lw_all := lw_g (lw_at lw_m7 237 rfl) rfl
theorem q1758 : (Jvm.Cond.methodLink "BlockPapers" (294 : Nat) ({ cls := "java/lang/StringBuilder", name := "append", desc := "(Ljava/lang/CharSequence;)Ljava/lang/StringBuilder;" } : Jvm.MethodName)) ∈ lw_all := lw_g (lw_at lw_m8 4 rfl) rfl
theorem q1876 : (Jvm.Cond.interfaceEntry "BlockPapers" (297 : Nat)) ∈ lw_tbl := lw_at lw_m8 122 rfl
theorem q1877 : (Jvm.Cond.methodLink "BlockPapers" (297 : Nat) ({ cls := "java/lang/CharSequence", name := "length", desc := "()I" } : Jvm.MethodName)) ∈ lw_all := lw_g (lw_at lw_m8 123 rfl) rfl
theorem q1882 : (Jvm.Cond.instanceMethod ({ cls := "BlockPapers", name := "character", desc := "(I)C" } : Jvm.MethodName)) ∈ lw_all := lw_g (lw_at lw_m8 128 rfl) rfl
theorem q1883 : (Jvm.Cond.selects "BlockPapers" ({ cls := "BlockPapers", name := "character", desc := "(I)C" } : Jvm.MethodName) ({ cls := "BlockPapers", name := "character", desc := "(I)C" } : Jvm.MethodName)) ∈ lw_all := lw_g (lw_at lw_m8 129 rfl) rfl
theorem q1884 : (Jvm.Cond.code ({ cls := "BlockPapers", name := "character", desc := "(I)C" } : Jvm.MethodName) prog_1_method_33_code (2 : Nat) (Option.some Jvm.ClassFile.FieldType.char)) ∈ lw_all := lw_g (lw_at lw_m8 130 rfl) rfl
theorem q1885 : (Jvm.Cond.methodLink "BlockPapers" (301 : Nat) ({ cls := "BlockPapers", name := "requireIndex", desc := "(Z)V" } : Jvm.MethodName)) ∈ lw_all := lw_g (lw_at lw_m8 131 rfl) rfl
theorem q1886 : (Jvm.Cond.interfaceEntry "BlockPapers" (304 : Nat)) ∈ lw_tbl := lw_at lw_m8 132 rfl
theorem q1887 : (Jvm.Cond.methodLink "BlockPapers" (304 : Nat) ({ cls := "java/lang/CharSequence", name := "charAt", desc := "(I)C" } : Jvm.MethodName)) ∈ lw_all := lw_g (lw_at lw_m8 133 rfl) rfl
theorem q1910 : (Jvm.Cond.instanceMethod ({ cls := "BlockPapers", name := "meanShade", desc := "()D" } : Jvm.MethodName)) ∈ lw_all := lw_g (lw_at lw_m8 156 rfl) rfl
theorem q1911 : (Jvm.Cond.selects "BlockPapers" ({ cls := "BlockPapers", name := "meanShade", desc := "()D" } : Jvm.MethodName) ({ cls := "BlockPapers", name := "meanShade", desc := "()D" } : Jvm.MethodName)) ∈ lw_all := lw_g (lw_at lw_m8 157 rfl) rfl
theorem q1912 : (Jvm.Cond.code ({ cls := "BlockPapers", name := "meanShade", desc := "()D" } : Jvm.MethodName) prog_1_method_38_code (4 : Nat) (Option.some Jvm.ClassFile.FieldType.double)) ∈ lw_all := lw_g (lw_at lw_m8 158 rfl) rfl
theorem q1913 : (Jvm.Cond.interfaceEntry "BlockPapers" (340 : Nat)) ∈ lw_tbl := lw_at lw_m8 159 rfl
theorem q1914 : (Jvm.Cond.methodLink "BlockPapers" (340 : Nat) ({ cls := "java/util/List", name := "isEmpty", desc := "()Z" } : Jvm.MethodName)) ∈ lw_all := lw_g (lw_at lw_m8 160 rfl) rfl
theorem q1915 : (Jvm.Cond.classLink "BlockPapers" (343 : Nat) "java/lang/ArithmeticException") ∈ lw_all := lw_g (lw_at lw_m8 161 rfl) rfl
theorem q1916 : (Jvm.Cond.methodLink "BlockPapers" (345 : Nat) ({ cls := "java/lang/ArithmeticException", name := "<init>", desc := "()V" } : Jvm.MethodName)) ∈ lw_all := lw_g (lw_at lw_m8 162 rfl) rfl
theorem q1924 : (Jvm.Cond.instanceMethod ({ cls := "BlockPapers", name := "wasted", desc := "()F" } : Jvm.MethodName)) ∈ lw_all := lw_g (lw_at lw_m8 170 rfl) rfl
theorem q1925 : (Jvm.Cond.selects "BlockPapers" ({ cls := "BlockPapers", name := "wasted", desc := "()F" } : Jvm.MethodName) ({ cls := "BlockPapers", name := "wasted", desc := "()F" } : Jvm.MethodName)) ∈ lw_all := lw_g (lw_at lw_m8 171 rfl) rfl
theorem q1926 : (Jvm.Cond.code ({ cls := "BlockPapers", name := "wasted", desc := "()F" } : Jvm.MethodName) prog_1_method_39_code (2 : Nat) (Option.some Jvm.ClassFile.FieldType.float)) ∈ lw_all := lw_g (lw_at lw_m8 172 rfl) rfl
theorem q1932 : (Jvm.Cond.instanceMethod ({ cls := "BlockPapers", name := "feed", desc := "(C)I" } : Jvm.MethodName)) ∈ lw_all := lw_g (lw_at lw_m8 178 rfl) rfl
theorem q1933 : (Jvm.Cond.selects "BlockPapers" ({ cls := "BlockPapers", name := "feed", desc := "(C)I" } : Jvm.MethodName) ({ cls := "BlockPapers", name := "feed", desc := "(C)I" } : Jvm.MethodName)) ∈ lw_all := lw_g (lw_at lw_m8 179 rfl) rfl
theorem q1934 : (Jvm.Cond.code ({ cls := "BlockPapers", name := "feed", desc := "(C)I" } : Jvm.MethodName) prog_1_method_40_code (2 : Nat) (Option.some Jvm.ClassFile.FieldType.int)) ∈ lw_all := lw_g (lw_at lw_m8 180 rfl) rfl
theorem q1935 : (Jvm.Cond.methodLink "BlockPapers" (346 : Nat) ({ cls := "BlockPapers", name := "requireState", desc := "(Z)V" } : Jvm.MethodName)) ∈ lw_all := lw_g (lw_at lw_m8 181 rfl) rfl
theorem q1936 : (Jvm.Cond.static ({ cls := "BlockPapers", name := "requireState", desc := "(Z)V" } : Jvm.MethodName)) ∈ lw_all := lw_g (lw_at lw_m8 182 rfl) rfl
theorem q1937 : (Jvm.Cond.code ({ cls := "BlockPapers", name := "requireState", desc := "(Z)V" } : Jvm.MethodName) prog_1_method_4_code (1 : Nat) (Option.none : Option Jvm.ClassFile.FieldType)) ∈ lw_all := lw_g (lw_at lw_m8 183 rfl) rfl
theorem q1938 : (Jvm.Cond.classLink "BlockPapers" (10 : Nat) "java/lang/IllegalStateException") ∈ lw_all := lw_g (lw_at lw_m8 184 rfl) rfl
theorem q1939 : (Jvm.Cond.methodLink "BlockPapers" (12 : Nat) ({ cls := "java/lang/IllegalStateException", name := "<init>", desc := "()V" } : Jvm.MethodName)) ∈ lw_all := lw_g (lw_at lw_m8 185 rfl) rfl
theorem q1943 : (Jvm.Cond.methodLink "BlockPapers" (349 : Nat) ({ cls := "java/lang/StringBuilder", name := "append", desc := "(C)Ljava/lang/StringBuilder;" } : Jvm.MethodName)) ∈ lw_all := lw_g (lw_at lw_m8 189 rfl) rfl
theorem q1954 : (Jvm.Cond.instanceMethod ({ cls := "BlockPapers", name := "read", desc := "()I" } : Jvm.MethodName)) ∈ lw_all := lw_g (lw_at lw_m8 200 rfl) rfl
theorem q1955 : (Jvm.Cond.selects "BlockPapers" ({ cls := "BlockPapers", name := "read", desc := "()I" } : Jvm.MethodName) ({ cls := "BlockPapers", name := "read", desc := "()I" } : Jvm.MethodName)) ∈ lw_all := lw_g (lw_at lw_m8 201 rfl) rfl
theorem q1956 : (Jvm.Cond.code ({ cls := "BlockPapers", name := "read", desc := "()I" } : Jvm.MethodName) prog_1_method_42_code (2 : Nat) (Option.some Jvm.ClassFile.FieldType.int)) ∈ lw_all := lw_g (lw_at lw_m8 202 rfl) rfl
theorem q1957 : (Jvm.Cond.methodLink "BlockPapers" (370 : Nat) ({ cls := "BlockPapers", name := "taken", desc := "()Ljava/util/List;" } : Jvm.MethodName)) ∈ lw_all := lw_g (lw_at lw_m8 203 rfl) rfl
theorem q1958 : (Jvm.Cond.privateMethod ({ cls := "BlockPapers", name := "taken", desc := "()Ljava/util/List;" } : Jvm.MethodName)) ∈ lw_tbl := lw_at lw_m8 204 rfl
theorem q1959 : (Jvm.Cond.instanceMethod ({ cls := "BlockPapers", name := "taken", desc := "()Ljava/util/List;" } : Jvm.MethodName)) ∈ lw_all := lw_g (lw_at lw_m8 205 rfl) rfl
theorem q1960 : (Jvm.Cond.codeWith ({ cls := "BlockPapers", name := "taken", desc := "()Ljava/util/List;" } : Jvm.MethodName) prog_1_method_41_code (4 : Nat) (Option.some (Jvm.ClassFile.FieldType.object "java/util/List")) [((0 : Nat), (12 : Nat), (22 : Nat), (365 : Nat)), ((0 : Nat), (12 : Nat), (43 : Nat), (0 : Nat)), ((22 : Nat), (33 : Nat), (43 : Nat), (0 : Nat))]) ∈ lw_all := lw_g (lw_at lw_m8 206 rfl) rfl
theorem q1961 : (Jvm.Cond.classLink "BlockPapers" (365 : Nat) "BlockPapers$FaultException") ∈ lw_all := lw_g (lw_at lw_m8 207 rfl) rfl
theorem q1962 : (Jvm.Cond.classLink "BlockPapers" (352 : Nat) "BlockPapers$Parser") ∈ lw_all := lw_g (lw_at lw_m8 208 rfl) rfl
theorem q1964 : (Jvm.Cond.methodLinkNest "BlockPapers" (354 : Nat) ({ cls := "BlockPapers$Parser", name := "<init>", desc := "(LBlockPapers;)V" } : Jvm.MethodName) "BlockPapers") ∈ lw_tbl := lw_at lw_m8 210 rfl
theorem q1975 : (Jvm.Cond.methodLink "BlockPapers" (357 : Nat) ({ cls := "BlockPapers$Parser", name := "text", desc := "()Ljava/util/List;" } : Jvm.MethodName)) ∈ lw_all := lw_g (lw_at lw_m8 221 rfl) rfl
theorem q2055 : (Jvm.Cond.fieldLinkNest "BlockPapers" (367 : Nat) "BlockPapers$FaultException" "position" "I" "BlockPapers") ∈ lw_tbl := lw_at lw_m9 61 rfl
theorem q2108 : (Jvm.Cond.methodLink "BlockPapers" (361 : Nat) ({ cls := "java/lang/StringBuilder", name := "setLength", desc := "(I)V" } : Jvm.MethodName)) ∈ lw_all := lw_g (lw_at lw_m9 114 rfl) rfl
theorem q2160 : (Jvm.Cond.classLink "BlockPapers" (373 : Nat) "BlockPapers$All") ∈ lw_all := lw_g (lw_at lw_m9 166 rfl) rfl
theorem q2162 : (Jvm.Cond.methodLink "BlockPapers" (375 : Nat) ({ cls := "BlockPapers$All", name := "<init>", desc := "(Ljava/util/List;)V" } : Jvm.MethodName)) ∈ lw_all := lw_g (lw_at lw_m9 168 rfl) rfl
theorem q2174 : (Jvm.Cond.instanceMethod ({ cls := "BlockPapers", name := "faultPosition", desc := "()I" } : Jvm.MethodName)) ∈ lw_all := lw_g (lw_at lw_m9 180 rfl) rfl
theorem q2175 : (Jvm.Cond.selects "BlockPapers" ({ cls := "BlockPapers", name := "faultPosition", desc := "()I" } : Jvm.MethodName) ({ cls := "BlockPapers", name := "faultPosition", desc := "()I" } : Jvm.MethodName)) ∈ lw_all := lw_g (lw_at lw_m9 181 rfl) rfl
theorem q2176 : (Jvm.Cond.code ({ cls := "BlockPapers", name := "faultPosition", desc := "()I" } : Jvm.MethodName) prog_1_method_43_code (1 : Nat) (Option.some Jvm.ClassFile.FieldType.int)) ∈ lw_all := lw_g (lw_at lw_m9 182 rfl) rfl
theorem q2181 : (Jvm.Cond.instanceMethod ({ cls := "BlockPapers", name := "refusal", desc := "(IZ)I" } : Jvm.MethodName)) ∈ lw_all := lw_g (lw_at lw_m9 187 rfl) rfl
theorem q2182 : (Jvm.Cond.selects "BlockPapers" ({ cls := "BlockPapers", name := "refusal", desc := "(IZ)I" } : Jvm.MethodName) ({ cls := "BlockPapers", name := "refusal", desc := "(IZ)I" } : Jvm.MethodName)) ∈ lw_all := lw_g (lw_at lw_m9 188 rfl) rfl
theorem q2183 : (Jvm.Cond.code ({ cls := "BlockPapers", name := "refusal", desc := "(IZ)I" } : Jvm.MethodName) prog_1_method_44_code (4 : Nat) (Option.some Jvm.ClassFile.FieldType.int)) ∈ lw_all := lw_g (lw_at lw_m9 189 rfl) rfl
theorem q2184 : (Jvm.Cond.methodLink "BlockPapers" (378 : Nat) ({ cls := "BlockPapers$Failure", name := "behind", desc := "(I)LBlockPapers$Failure;" } : Jvm.MethodName)) ∈ lw_all := lw_g (lw_at lw_m9 190 rfl) rfl
theorem q2200 : (Jvm.Cond.instanceMethod ({ cls := "BlockPapers", name := "undo", desc := "()I" } : Jvm.MethodName)) ∈ lw_all := lw_g (lw_at lw_m9 206 rfl) rfl
theorem q2201 : (Jvm.Cond.selects "BlockPapers" ({ cls := "BlockPapers", name := "undo", desc := "()I" } : Jvm.MethodName) ({ cls := "BlockPapers", name := "undo", desc := "()I" } : Jvm.MethodName)) ∈ lw_all := lw_g (lw_at lw_m9 207 rfl) rfl
theorem q2202 : (Jvm.Cond.code ({ cls := "BlockPapers", name := "undo", desc := "()I" } : Jvm.MethodName) prog_1_method_45_code (1 : Nat) (Option.some Jvm.ClassFile.FieldType.int)) ∈ lw_all := lw_g (lw_at lw_m9 208 rfl) rfl
theorem q2203 : (Jvm.Cond.methodLink "BlockPapers" (386 : Nat) ({ cls := "java/util/ArrayDeque", name := "isEmpty", desc := "()Z" } : Jvm.MethodName)) ∈ lw_all := lw_g (lw_at lw_m9 209 rfl) rfl
theorem q2207 : (Jvm.Cond.methodLink "BlockPapers" (387 : Nat) ({ cls := "java/util/ArrayDeque", name := "pop", desc := "()Ljava/lang/Object;" } : Jvm.MethodName)) ∈ lw_all := lw_g (lw_at lw_m9 213 rfl) rfl
theorem q2226 : (Jvm.Cond.instanceMethod ({ cls := "BlockPapers", name := "restoreSnapshot", desc := "()I" } : Jvm.MethodName)) ∈ lw_all := lw_g (lw_at lw_m9 232 rfl) rfl
theorem q2227 : (Jvm.Cond.selects "BlockPapers" ({ cls := "BlockPapers", name := "restoreSnapshot", desc := "()I" } : Jvm.MethodName) ({ cls := "BlockPapers", name := "restoreSnapshot", desc := "()I" } : Jvm.MethodName)) ∈ lw_all := lw_g (lw_at lw_m9 233 rfl) rfl
theorem q2228 : (Jvm.Cond.code ({ cls := "BlockPapers", name := "restoreSnapshot", desc := "()I" } : Jvm.MethodName) prog_1_method_47_code (1 : Nat) (Option.some Jvm.ClassFile.FieldType.int)) ∈ lw_all := lw_g (lw_at lw_m9 234 rfl) rfl
theorem q2229 : (Jvm.Cond.methodLink "BlockPapers" (393 : Nat) ({ cls := "java/util/ArrayDeque", name := "clear", desc := "()V" } : Jvm.MethodName)) ∈ lw_all := lw_g (lw_at lw_m9 235 rfl) rfl
theorem q2701 : (Jvm.Cond.castable "BlockPapers" "java/lang/Object") ∈ lw_tbl := lw_at lw_m11 227 rfl
theorem in_X1 : ∀ w ∈ wsX10, w ∈ lw_all := lw_in wsX10 [243, 245, 247, 249, 251, 253, 255] (by decide +kernel) (by decide +kernel)
/-! BlockPapers$Workshop -/
set_option maxRecDepth 100000
def RX2 : String := "BlockPapers$Workshop"
def TX2 : u_T := fun k => match k with
  | 0 => ("BlockPapers$Workshop", "blocks", "Ljava/util/List;", true)
  | 1 => ("BlockPapers$Workshop", "inks", "Ljava/util/List;", true)
  | 2 => ("BlockPapers$Workshop", "rolls", "Ljava/util/List;", true)
  | _ => ("BlockPapers$Workshop", "rooms", "Ljava/util/List;", true)
def tyX2 : Nat → FieldType := fun k => match k with
  | 0 => .object "java/util/List"
  | 1 => .object "java/util/List"
  | 2 => .object "java/util/List"
  | _ => .object "java/util/List"
abbrev wsX20 : List Cond := u_ws RX2 TX2 4
theorem nmX2 : ∀ a, a < 4 → ∀ b, b < 4 → a ≠ b → (TX2 a).2.1 ≠ (TX2 b).2.1 := by decide +kernel
theorem tyX2_ok : ∀ k, k < 4 → parseFieldDescriptor (TX2 k).2.2.1 = some (tyX2 k) := by decide +kernel
abbrev cX2_init : ByteArray := prog_14_method_1_code
def yX2_init : MethodName := ⟨RX2, "<init>", "()V"⟩
def dkwX2_init_2 : List UInt8 := [181, 0, 24, 177]
abbrev dktX2_init_2 : List UInt8 := dkwX2_init_2 ++ []
def dkwX2_init_1 : List UInt8 := [181, 0, 18, 42, 187, 0, 9, 89, 183, 0, 11, 181, 0, 21, 42, 187, 0, 9, 89, 183, 0, 11]
abbrev dktX2_init_1 : List UInt8 := dkwX2_init_1 ++ dktX2_init_2
def dkwX2_init_0 : List UInt8 := [42, 183, 0, 3, 42, 187, 0, 9, 89, 183, 0, 11, 181, 0, 12, 42, 187, 0, 9, 89, 183, 0, 11]
abbrev dktX2_init_0 : List UInt8 := dkwX2_init_0 ++ dktX2_init_1
theorem dksX2_init_0 : cX2_init.data.toList.drop 0 = dktX2_init_0 := by decide +kernel
theorem dksX2_init_1 : cX2_init.data.toList.drop 23 = dktX2_init_1 := dk_seg dksX2_init_0 23 rfl rfl
theorem dksX2_init_2 : cX2_init.data.toList.drop 45 = dktX2_init_2 := dk_seg dksX2_init_1 22 rfl rfl
theorem dX2_init_0 : decode cX2_init 0 = .ok (.aload_n 0, 1) := dk_42 (dk_at dksX2_init_0 0 rfl rfl)
theorem dX2_init_1 : decode cX2_init 1 = .ok (.invokespecial 3, 3) := dk_183 0 3 (dk_at dksX2_init_0 1 rfl rfl)
theorem dX2_init_4 : decode cX2_init 4 = .ok (.aload_n 0, 1) := dk_42 (dk_at dksX2_init_0 4 rfl rfl)
theorem dX2_init_5 : decode cX2_init 5 = .ok (.new 9, 3) := dk_187 0 9 (dk_at dksX2_init_0 5 rfl rfl)
theorem dX2_init_8 : decode cX2_init 8 = .ok (.dup, 1) := dk_89 (dk_at dksX2_init_0 8 rfl rfl)
theorem dX2_init_9 : decode cX2_init 9 = .ok (.invokespecial 11, 3) := dk_183 0 11 (dk_at dksX2_init_0 9 rfl rfl)
theorem dX2_init_12 : decode cX2_init 12 = .ok (.putfield 12, 3) := dk_181 0 12 (dk_at dksX2_init_0 12 rfl rfl)
theorem dX2_init_15 : decode cX2_init 15 = .ok (.aload_n 0, 1) := dk_42 (dk_at dksX2_init_0 15 rfl rfl)
theorem dX2_init_16 : decode cX2_init 16 = .ok (.new 9, 3) := dk_187 0 9 (dk_at dksX2_init_0 16 rfl rfl)
theorem dX2_init_19 : decode cX2_init 19 = .ok (.dup, 1) := dk_89 (dk_at dksX2_init_0 19 rfl rfl)
theorem dX2_init_20 : decode cX2_init 20 = .ok (.invokespecial 11, 3) := dk_183 0 11 (dk_at dksX2_init_0 20 rfl rfl)
theorem dX2_init_23 : decode cX2_init 23 = .ok (.putfield 18, 3) := dk_181 0 18 (dk_at dksX2_init_1 0 rfl rfl)
theorem dX2_init_26 : decode cX2_init 26 = .ok (.aload_n 0, 1) := dk_42 (dk_at dksX2_init_1 3 rfl rfl)
theorem dX2_init_27 : decode cX2_init 27 = .ok (.new 9, 3) := dk_187 0 9 (dk_at dksX2_init_1 4 rfl rfl)
theorem dX2_init_30 : decode cX2_init 30 = .ok (.dup, 1) := dk_89 (dk_at dksX2_init_1 7 rfl rfl)
theorem dX2_init_31 : decode cX2_init 31 = .ok (.invokespecial 11, 3) := dk_183 0 11 (dk_at dksX2_init_1 8 rfl rfl)
theorem dX2_init_34 : decode cX2_init 34 = .ok (.putfield 21, 3) := dk_181 0 21 (dk_at dksX2_init_1 11 rfl rfl)
theorem dX2_init_37 : decode cX2_init 37 = .ok (.aload_n 0, 1) := dk_42 (dk_at dksX2_init_1 14 rfl rfl)
theorem dX2_init_38 : decode cX2_init 38 = .ok (.new 9, 3) := dk_187 0 9 (dk_at dksX2_init_1 15 rfl rfl)
theorem dX2_init_41 : decode cX2_init 41 = .ok (.dup, 1) := dk_89 (dk_at dksX2_init_1 18 rfl rfl)
theorem dX2_init_42 : decode cX2_init 42 = .ok (.invokespecial 11, 3) := dk_183 0 11 (dk_at dksX2_init_1 19 rfl rfl)
theorem dX2_init_45 : decode cX2_init 45 = .ok (.putfield 24, 3) := dk_181 0 24 (dk_at dksX2_init_2 0 rfl rfl)
theorem dX2_init_48 : decode cX2_init 48 = .ok (.return_, 1) := dk_177 (dk_at dksX2_init_2 3 rfl rfl)
abbrev cX2_hangOf : ByteArray := prog_14_method_7_code
def yX2_hangOf : MethodName := ⟨RX2, "hangOf", "(I)I"⟩
def dkwX2_hangOf_2 : List UInt8 := [160, 0, 7, 4, 167, 0, 4, 3, 96, 61, 167, 255, 214, 28, 172]
abbrev dktX2_hangOf_2 : List UInt8 := dkwX2_hangOf_2 ++ []
def dkwX2_hangOf_1 : List UInt8 := [185, 0, 80, 1, 0, 192, 0, 84, 58, 4, 28, 27, 2, 159, 0, 12, 25, 4, 180, 0, 86, 27]
abbrev dktX2_hangOf_1 : List UInt8 := dkwX2_hangOf_1 ++ dktX2_hangOf_2
def dkwX2_hangOf_0 : List UInt8 := [3, 61, 187, 0, 65, 89, 42, 183, 0, 67, 182, 0, 70, 78, 45, 185, 0, 74, 1, 0, 153, 0, 39, 45]
abbrev dktX2_hangOf_0 : List UInt8 := dkwX2_hangOf_0 ++ dktX2_hangOf_1
theorem dksX2_hangOf_0 : cX2_hangOf.data.toList.drop 0 = dktX2_hangOf_0 := by decide +kernel
theorem dksX2_hangOf_1 : cX2_hangOf.data.toList.drop 24 = dktX2_hangOf_1 := dk_seg dksX2_hangOf_0 24 rfl rfl
theorem dksX2_hangOf_2 : cX2_hangOf.data.toList.drop 46 = dktX2_hangOf_2 := dk_seg dksX2_hangOf_1 22 rfl rfl
theorem dX2_hangOf_0 : decode cX2_hangOf 0 = .ok (.iconst 0, 1) := dk_3 (dk_at dksX2_hangOf_0 0 rfl rfl)
theorem dX2_hangOf_1 : decode cX2_hangOf 1 = .ok (.istore_n 2, 1) := dk_61 (dk_at dksX2_hangOf_0 1 rfl rfl)
theorem dX2_hangOf_2 : decode cX2_hangOf 2 = .ok (.new 65, 3) := dk_187 0 65 (dk_at dksX2_hangOf_0 2 rfl rfl)
theorem dX2_hangOf_5 : decode cX2_hangOf 5 = .ok (.dup, 1) := dk_89 (dk_at dksX2_hangOf_0 5 rfl rfl)
theorem dX2_hangOf_6 : decode cX2_hangOf 6 = .ok (.aload_n 0, 1) := dk_42 (dk_at dksX2_hangOf_0 6 rfl rfl)
theorem dX2_hangOf_7 : decode cX2_hangOf 7 = .ok (.invokespecial 67, 3) := dk_183 0 67 (dk_at dksX2_hangOf_0 7 rfl rfl)
theorem dX2_hangOf_10 : decode cX2_hangOf 10 = .ok (.invokevirtual 70, 3) := dk_182 0 70 (dk_at dksX2_hangOf_0 10 rfl rfl)
theorem dX2_hangOf_13 : decode cX2_hangOf 13 = .ok (.astore_n 3, 1) := dk_78 (dk_at dksX2_hangOf_0 13 rfl rfl)
theorem dX2_hangOf_14 : decode cX2_hangOf 14 = .ok (.aload_n 3, 1) := dk_45 (dk_at dksX2_hangOf_0 14 rfl rfl)
theorem dX2_hangOf_15 : decode cX2_hangOf 15 = .ok (.invokeinterface 74 1, 5) := by decide +kernel
theorem dX2_hangOf_20 : decode cX2_hangOf 20 = .ok (.ifCond .eq 39, 3) := dk_153 0 39 (dk_at dksX2_hangOf_0 20 rfl rfl)
theorem dX2_hangOf_23 : decode cX2_hangOf 23 = .ok (.aload_n 3, 1) := dk_45 (dk_at dksX2_hangOf_0 23 rfl rfl)
theorem dX2_hangOf_24 : decode cX2_hangOf 24 = .ok (.invokeinterface 80 1, 5) := by decide +kernel
theorem dX2_hangOf_29 : decode cX2_hangOf 29 = .ok (.checkcast 84, 3) := dk_192 0 84 (dk_at dksX2_hangOf_1 5 rfl rfl)
theorem dX2_hangOf_32 : decode cX2_hangOf 32 = .ok (.astore 4, 2) := dk_58 4 (dk_at dksX2_hangOf_1 8 rfl rfl)
theorem dX2_hangOf_34 : decode cX2_hangOf 34 = .ok (.iload_n 2, 1) := dk_28 (dk_at dksX2_hangOf_1 10 rfl rfl)
theorem dX2_hangOf_35 : decode cX2_hangOf 35 = .ok (.iload_n 1, 1) := dk_27 (dk_at dksX2_hangOf_1 11 rfl rfl)
theorem dX2_hangOf_36 : decode cX2_hangOf 36 = .ok (.iconst (-1), 1) := dk_2 (dk_at dksX2_hangOf_1 12 rfl rfl)
theorem dX2_hangOf_37 : decode cX2_hangOf 37 = .ok (.if_icmp .eq 12, 3) := dk_159 0 12 (dk_at dksX2_hangOf_1 13 rfl rfl)
theorem dX2_hangOf_40 : decode cX2_hangOf 40 = .ok (.aload 4, 2) := dk_25 4 (dk_at dksX2_hangOf_1 16 rfl rfl)
theorem dX2_hangOf_42 : decode cX2_hangOf 42 = .ok (.getfield 86, 3) := dk_180 0 86 (dk_at dksX2_hangOf_1 18 rfl rfl)
theorem dX2_hangOf_45 : decode cX2_hangOf 45 = .ok (.iload_n 1, 1) := dk_27 (dk_at dksX2_hangOf_1 21 rfl rfl)
theorem dX2_hangOf_46 : decode cX2_hangOf 46 = .ok (.if_icmp .ne 7, 3) := dk_160 0 7 (dk_at dksX2_hangOf_2 0 rfl rfl)
theorem dX2_hangOf_49 : decode cX2_hangOf 49 = .ok (.iconst 1, 1) := dk_4 (dk_at dksX2_hangOf_2 3 rfl rfl)
theorem dX2_hangOf_50 : decode cX2_hangOf 50 = .ok (.goto 4, 3) := dk_167 0 4 (dk_at dksX2_hangOf_2 4 rfl rfl)
theorem dX2_hangOf_53 : decode cX2_hangOf 53 = .ok (.iconst 0, 1) := dk_3 (dk_at dksX2_hangOf_2 7 rfl rfl)
theorem dX2_hangOf_54 : decode cX2_hangOf 54 = .ok (.iadd, 1) := dk_96 (dk_at dksX2_hangOf_2 8 rfl rfl)
theorem dX2_hangOf_55 : decode cX2_hangOf 55 = .ok (.istore_n 2, 1) := dk_61 (dk_at dksX2_hangOf_2 9 rfl rfl)
theorem dX2_hangOf_56 : decode cX2_hangOf 56 = .ok (.goto (-42), 3) := dk_167 255 214 (dk_at dksX2_hangOf_2 10 rfl rfl)
theorem dX2_hangOf_59 : decode cX2_hangOf 59 = .ok (.iload_n 2, 1) := dk_28 (dk_at dksX2_hangOf_2 13 rfl rfl)
theorem dX2_hangOf_60 : decode cX2_hangOf 60 = .ok (.ireturn, 1) := dk_172 (dk_at dksX2_hangOf_2 14 rfl rfl)
abbrev cX2_ofRolls : ByteArray := prog_14_method_29_code
def yX2_ofRolls : MethodName := ⟨RX2, "ofRolls", "(I)I"⟩
def dkwX2_ofRolls_4 : List UInt8 := [180, 0, 151, 96, 61, 132, 3, 1, 167, 255, 163, 28, 172]
abbrev dktX2_ofRolls_4 : List UInt8 := dkwX2_ofRolls_4 ++ []
def dkwX2_ofRolls_3 : List UInt8 := [25, 4, 180, 0, 147, 153, 0, 11, 25, 4, 180, 0, 169, 167, 0, 12, 3, 167, 0, 8, 25, 4]
abbrev dktX2_ofRolls_3 : List UInt8 := dkwX2_ofRolls_3 ++ dktX2_ofRolls_4
def dkwX2_ofRolls_2 : List UInt8 := [167, 0, 48, 27, 16, 11, 160, 0, 11, 25, 4, 182, 0, 209, 167, 0, 34, 27, 16, 12, 160, 0, 23]
abbrev dktX2_ofRolls_2 : List UInt8 := dkwX2_ofRolls_2 ++ dktX2_ofRolls_3
def dkwX2_ofRolls_1 : List UInt8 := [185, 0, 40, 2, 0, 192, 0, 63, 58, 4, 28, 27, 16, 7, 160, 0, 11, 25, 4, 180, 0, 169]
abbrev dktX2_ofRolls_1 : List UInt8 := dkwX2_ofRolls_1 ++ dktX2_ofRolls_2
def dkwX2_ofRolls_0 : List UInt8 := [3, 61, 3, 62, 29, 42, 180, 0, 21, 185, 0, 34, 1, 0, 162, 0, 86, 42, 180, 0, 21, 29]
abbrev dktX2_ofRolls_0 : List UInt8 := dkwX2_ofRolls_0 ++ dktX2_ofRolls_1
theorem dksX2_ofRolls_0 : cX2_ofRolls.data.toList.drop 0 = dktX2_ofRolls_0 := by decide +kernel
theorem dksX2_ofRolls_1 : cX2_ofRolls.data.toList.drop 22 = dktX2_ofRolls_1 := dk_seg dksX2_ofRolls_0 22 rfl rfl
theorem dksX2_ofRolls_2 : cX2_ofRolls.data.toList.drop 44 = dktX2_ofRolls_2 := dk_seg dksX2_ofRolls_1 22 rfl rfl
theorem dksX2_ofRolls_3 : cX2_ofRolls.data.toList.drop 67 = dktX2_ofRolls_3 := dk_seg dksX2_ofRolls_2 23 rfl rfl
theorem dksX2_ofRolls_4 : cX2_ofRolls.data.toList.drop 89 = dktX2_ofRolls_4 := dk_seg dksX2_ofRolls_3 22 rfl rfl
theorem dX2_ofRolls_0 : decode cX2_ofRolls 0 = .ok (.iconst 0, 1) := dk_3 (dk_at dksX2_ofRolls_0 0 rfl rfl)
theorem dX2_ofRolls_1 : decode cX2_ofRolls 1 = .ok (.istore_n 2, 1) := dk_61 (dk_at dksX2_ofRolls_0 1 rfl rfl)
theorem dX2_ofRolls_2 : decode cX2_ofRolls 2 = .ok (.iconst 0, 1) := dk_3 (dk_at dksX2_ofRolls_0 2 rfl rfl)
theorem dX2_ofRolls_3 : decode cX2_ofRolls 3 = .ok (.istore_n 3, 1) := dk_62 (dk_at dksX2_ofRolls_0 3 rfl rfl)
theorem dX2_ofRolls_4 : decode cX2_ofRolls 4 = .ok (.iload_n 3, 1) := dk_29 (dk_at dksX2_ofRolls_0 4 rfl rfl)
theorem dX2_ofRolls_5 : decode cX2_ofRolls 5 = .ok (.aload_n 0, 1) := dk_42 (dk_at dksX2_ofRolls_0 5 rfl rfl)
theorem dX2_ofRolls_6 : decode cX2_ofRolls 6 = .ok (.getfield 21, 3) := dk_180 0 21 (dk_at dksX2_ofRolls_0 6 rfl rfl)
theorem dX2_ofRolls_9 : decode cX2_ofRolls 9 = .ok (.invokeinterface 34 1, 5) := by decide +kernel
theorem dX2_ofRolls_14 : decode cX2_ofRolls 14 = .ok (.if_icmp .ge 86, 3) := dk_162 0 86 (dk_at dksX2_ofRolls_0 14 rfl rfl)
theorem dX2_ofRolls_17 : decode cX2_ofRolls 17 = .ok (.aload_n 0, 1) := dk_42 (dk_at dksX2_ofRolls_0 17 rfl rfl)
theorem dX2_ofRolls_18 : decode cX2_ofRolls 18 = .ok (.getfield 21, 3) := dk_180 0 21 (dk_at dksX2_ofRolls_0 18 rfl rfl)
theorem dX2_ofRolls_21 : decode cX2_ofRolls 21 = .ok (.iload_n 3, 1) := dk_29 (dk_at dksX2_ofRolls_0 21 rfl rfl)
theorem dX2_ofRolls_22 : decode cX2_ofRolls 22 = .ok (.invokeinterface 40 2, 5) := by decide +kernel
theorem dX2_ofRolls_27 : decode cX2_ofRolls 27 = .ok (.checkcast 63, 3) := dk_192 0 63 (dk_at dksX2_ofRolls_1 5 rfl rfl)
theorem dX2_ofRolls_30 : decode cX2_ofRolls 30 = .ok (.astore 4, 2) := dk_58 4 (dk_at dksX2_ofRolls_1 8 rfl rfl)
theorem dX2_ofRolls_32 : decode cX2_ofRolls 32 = .ok (.iload_n 2, 1) := dk_28 (dk_at dksX2_ofRolls_1 10 rfl rfl)
theorem dX2_ofRolls_33 : decode cX2_ofRolls 33 = .ok (.iload_n 1, 1) := dk_27 (dk_at dksX2_ofRolls_1 11 rfl rfl)
theorem dX2_ofRolls_34 : decode cX2_ofRolls 34 = .ok (.bipush 7, 2) := dk_16 7 (dk_at dksX2_ofRolls_1 12 rfl rfl)
theorem dX2_ofRolls_36 : decode cX2_ofRolls 36 = .ok (.if_icmp .ne 11, 3) := dk_160 0 11 (dk_at dksX2_ofRolls_1 14 rfl rfl)
theorem dX2_ofRolls_39 : decode cX2_ofRolls 39 = .ok (.aload 4, 2) := dk_25 4 (dk_at dksX2_ofRolls_1 17 rfl rfl)
theorem dX2_ofRolls_41 : decode cX2_ofRolls 41 = .ok (.getfield 169, 3) := dk_180 0 169 (dk_at dksX2_ofRolls_1 19 rfl rfl)
theorem dX2_ofRolls_44 : decode cX2_ofRolls 44 = .ok (.goto 48, 3) := dk_167 0 48 (dk_at dksX2_ofRolls_2 0 rfl rfl)
theorem dX2_ofRolls_47 : decode cX2_ofRolls 47 = .ok (.iload_n 1, 1) := dk_27 (dk_at dksX2_ofRolls_2 3 rfl rfl)
theorem dX2_ofRolls_48 : decode cX2_ofRolls 48 = .ok (.bipush 11, 2) := dk_16 11 (dk_at dksX2_ofRolls_2 4 rfl rfl)
theorem dX2_ofRolls_50 : decode cX2_ofRolls 50 = .ok (.if_icmp .ne 11, 3) := dk_160 0 11 (dk_at dksX2_ofRolls_2 6 rfl rfl)
theorem dX2_ofRolls_53 : decode cX2_ofRolls 53 = .ok (.aload 4, 2) := dk_25 4 (dk_at dksX2_ofRolls_2 9 rfl rfl)
theorem dX2_ofRolls_55 : decode cX2_ofRolls 55 = .ok (.invokevirtual 209, 3) := dk_182 0 209 (dk_at dksX2_ofRolls_2 11 rfl rfl)
theorem dX2_ofRolls_58 : decode cX2_ofRolls 58 = .ok (.goto 34, 3) := dk_167 0 34 (dk_at dksX2_ofRolls_2 14 rfl rfl)
theorem dX2_ofRolls_61 : decode cX2_ofRolls 61 = .ok (.iload_n 1, 1) := dk_27 (dk_at dksX2_ofRolls_2 17 rfl rfl)
theorem dX2_ofRolls_62 : decode cX2_ofRolls 62 = .ok (.bipush 12, 2) := dk_16 12 (dk_at dksX2_ofRolls_2 18 rfl rfl)
theorem dX2_ofRolls_64 : decode cX2_ofRolls 64 = .ok (.if_icmp .ne 23, 3) := dk_160 0 23 (dk_at dksX2_ofRolls_2 20 rfl rfl)
theorem dX2_ofRolls_67 : decode cX2_ofRolls 67 = .ok (.aload 4, 2) := dk_25 4 (dk_at dksX2_ofRolls_3 0 rfl rfl)
theorem dX2_ofRolls_69 : decode cX2_ofRolls 69 = .ok (.getfield 147, 3) := dk_180 0 147 (dk_at dksX2_ofRolls_3 2 rfl rfl)
theorem dX2_ofRolls_72 : decode cX2_ofRolls 72 = .ok (.ifCond .eq 11, 3) := dk_153 0 11 (dk_at dksX2_ofRolls_3 5 rfl rfl)
theorem dX2_ofRolls_75 : decode cX2_ofRolls 75 = .ok (.aload 4, 2) := dk_25 4 (dk_at dksX2_ofRolls_3 8 rfl rfl)
theorem dX2_ofRolls_77 : decode cX2_ofRolls 77 = .ok (.getfield 169, 3) := dk_180 0 169 (dk_at dksX2_ofRolls_3 10 rfl rfl)
theorem dX2_ofRolls_80 : decode cX2_ofRolls 80 = .ok (.goto 12, 3) := dk_167 0 12 (dk_at dksX2_ofRolls_3 13 rfl rfl)
theorem dX2_ofRolls_83 : decode cX2_ofRolls 83 = .ok (.iconst 0, 1) := dk_3 (dk_at dksX2_ofRolls_3 16 rfl rfl)
theorem dX2_ofRolls_84 : decode cX2_ofRolls 84 = .ok (.goto 8, 3) := dk_167 0 8 (dk_at dksX2_ofRolls_3 17 rfl rfl)
theorem dX2_ofRolls_87 : decode cX2_ofRolls 87 = .ok (.aload 4, 2) := dk_25 4 (dk_at dksX2_ofRolls_3 20 rfl rfl)
theorem dX2_ofRolls_89 : decode cX2_ofRolls 89 = .ok (.getfield 151, 3) := dk_180 0 151 (dk_at dksX2_ofRolls_4 0 rfl rfl)
theorem dX2_ofRolls_92 : decode cX2_ofRolls 92 = .ok (.iadd, 1) := dk_96 (dk_at dksX2_ofRolls_4 3 rfl rfl)
theorem dX2_ofRolls_93 : decode cX2_ofRolls 93 = .ok (.istore_n 2, 1) := dk_61 (dk_at dksX2_ofRolls_4 4 rfl rfl)
theorem dX2_ofRolls_94 : decode cX2_ofRolls 94 = .ok (.iinc 3 1, 3) := dk_132 3 1 (dk_at dksX2_ofRolls_4 5 rfl rfl)
theorem dX2_ofRolls_97 : decode cX2_ofRolls 97 = .ok (.goto (-93), 3) := dk_167 255 163 (dk_at dksX2_ofRolls_4 8 rfl rfl)
theorem dX2_ofRolls_100 : decode cX2_ofRolls 100 = .ok (.iload_n 2, 1) := dk_28 (dk_at dksX2_ofRolls_4 11 rfl rfl)
theorem dX2_ofRolls_101 : decode cX2_ofRolls 101 = .ok (.ireturn, 1) := dk_172 (dk_at dksX2_ofRolls_4 12 rfl rfl)
abbrev cX2_ofRooms : ByteArray := prog_14_method_30_code
def yX2_ofRooms : MethodName := ⟨RX2, "ofRooms", "(I)I"⟩
def dkwX2_ofRooms_4 : List UInt8 := [25, 4, 182, 0, 217, 153, 0, 7, 4, 167, 0, 4, 3, 96, 61, 132, 3, 1, 167, 255, 150, 28, 172]
abbrev dktX2_ofRooms_4 : List UInt8 := dkwX2_ofRooms_4 ++ []
def dkwX2_ofRooms_3 : List UInt8 := [167, 0, 36, 27, 16, 10, 160, 0, 17, 25, 4, 180, 0, 206, 25, 4, 180, 0, 255, 104, 167, 0, 16]
abbrev dktX2_ofRooms_3 : List UInt8 := dkwX2_ofRooms_3 ++ dktX2_ofRooms_4
def dkwX2_ofRooms_2 : List UInt8 := [180, 0, 175, 185, 0, 34, 1, 0, 104, 167, 0, 50, 27, 16, 9, 160, 0, 11, 25, 4, 180, 0, 233]
abbrev dktX2_ofRooms_2 : List UInt8 := dkwX2_ofRooms_2 ++ dktX2_ofRooms_3
def dkwX2_ofRooms_1 : List UInt8 := [185, 0, 40, 2, 0, 192, 0, 38, 58, 4, 28, 27, 16, 8, 160, 0, 22, 25, 4, 180, 0, 206, 25, 4]
abbrev dktX2_ofRooms_1 : List UInt8 := dkwX2_ofRooms_1 ++ dktX2_ofRooms_2
def dkwX2_ofRooms_0 : List UInt8 := [3, 61, 3, 62, 29, 42, 180, 0, 24, 185, 0, 34, 1, 0, 162, 0, 99, 42, 180, 0, 24, 29]
abbrev dktX2_ofRooms_0 : List UInt8 := dkwX2_ofRooms_0 ++ dktX2_ofRooms_1
theorem dksX2_ofRooms_0 : cX2_ofRooms.data.toList.drop 0 = dktX2_ofRooms_0 := by decide +kernel
theorem dksX2_ofRooms_1 : cX2_ofRooms.data.toList.drop 22 = dktX2_ofRooms_1 := dk_seg dksX2_ofRooms_0 22 rfl rfl
theorem dksX2_ofRooms_2 : cX2_ofRooms.data.toList.drop 46 = dktX2_ofRooms_2 := dk_seg dksX2_ofRooms_1 24 rfl rfl
theorem dksX2_ofRooms_3 : cX2_ofRooms.data.toList.drop 69 = dktX2_ofRooms_3 := dk_seg dksX2_ofRooms_2 23 rfl rfl
theorem dksX2_ofRooms_4 : cX2_ofRooms.data.toList.drop 92 = dktX2_ofRooms_4 := dk_seg dksX2_ofRooms_3 23 rfl rfl
theorem dX2_ofRooms_0 : decode cX2_ofRooms 0 = .ok (.iconst 0, 1) := dk_3 (dk_at dksX2_ofRooms_0 0 rfl rfl)
theorem dX2_ofRooms_1 : decode cX2_ofRooms 1 = .ok (.istore_n 2, 1) := dk_61 (dk_at dksX2_ofRooms_0 1 rfl rfl)
theorem dX2_ofRooms_2 : decode cX2_ofRooms 2 = .ok (.iconst 0, 1) := dk_3 (dk_at dksX2_ofRooms_0 2 rfl rfl)
theorem dX2_ofRooms_3 : decode cX2_ofRooms 3 = .ok (.istore_n 3, 1) := dk_62 (dk_at dksX2_ofRooms_0 3 rfl rfl)
theorem dX2_ofRooms_4 : decode cX2_ofRooms 4 = .ok (.iload_n 3, 1) := dk_29 (dk_at dksX2_ofRooms_0 4 rfl rfl)
theorem dX2_ofRooms_5 : decode cX2_ofRooms 5 = .ok (.aload_n 0, 1) := dk_42 (dk_at dksX2_ofRooms_0 5 rfl rfl)
theorem dX2_ofRooms_6 : decode cX2_ofRooms 6 = .ok (.getfield 24, 3) := dk_180 0 24 (dk_at dksX2_ofRooms_0 6 rfl rfl)
theorem dX2_ofRooms_9 : decode cX2_ofRooms 9 = .ok (.invokeinterface 34 1, 5) := by decide +kernel
theorem dX2_ofRooms_14 : decode cX2_ofRooms 14 = .ok (.if_icmp .ge 99, 3) := dk_162 0 99 (dk_at dksX2_ofRooms_0 14 rfl rfl)
theorem dX2_ofRooms_17 : decode cX2_ofRooms 17 = .ok (.aload_n 0, 1) := dk_42 (dk_at dksX2_ofRooms_0 17 rfl rfl)
theorem dX2_ofRooms_18 : decode cX2_ofRooms 18 = .ok (.getfield 24, 3) := dk_180 0 24 (dk_at dksX2_ofRooms_0 18 rfl rfl)
theorem dX2_ofRooms_21 : decode cX2_ofRooms 21 = .ok (.iload_n 3, 1) := dk_29 (dk_at dksX2_ofRooms_0 21 rfl rfl)
theorem dX2_ofRooms_22 : decode cX2_ofRooms 22 = .ok (.invokeinterface 40 2, 5) := by decide +kernel
theorem dX2_ofRooms_27 : decode cX2_ofRooms 27 = .ok (.checkcast 38, 3) := dk_192 0 38 (dk_at dksX2_ofRooms_1 5 rfl rfl)
theorem dX2_ofRooms_30 : decode cX2_ofRooms 30 = .ok (.astore 4, 2) := dk_58 4 (dk_at dksX2_ofRooms_1 8 rfl rfl)
theorem dX2_ofRooms_32 : decode cX2_ofRooms 32 = .ok (.iload_n 2, 1) := dk_28 (dk_at dksX2_ofRooms_1 10 rfl rfl)
theorem dX2_ofRooms_33 : decode cX2_ofRooms 33 = .ok (.iload_n 1, 1) := dk_27 (dk_at dksX2_ofRooms_1 11 rfl rfl)
theorem dX2_ofRooms_34 : decode cX2_ofRooms 34 = .ok (.bipush 8, 2) := dk_16 8 (dk_at dksX2_ofRooms_1 12 rfl rfl)
theorem dX2_ofRooms_36 : decode cX2_ofRooms 36 = .ok (.if_icmp .ne 22, 3) := dk_160 0 22 (dk_at dksX2_ofRooms_1 14 rfl rfl)
theorem dX2_ofRooms_39 : decode cX2_ofRooms 39 = .ok (.aload 4, 2) := dk_25 4 (dk_at dksX2_ofRooms_1 17 rfl rfl)
theorem dX2_ofRooms_41 : decode cX2_ofRooms 41 = .ok (.getfield 206, 3) := dk_180 0 206 (dk_at dksX2_ofRooms_1 19 rfl rfl)
theorem dX2_ofRooms_44 : decode cX2_ofRooms 44 = .ok (.aload 4, 2) := dk_25 4 (dk_at dksX2_ofRooms_1 22 rfl rfl)
theorem dX2_ofRooms_46 : decode cX2_ofRooms 46 = .ok (.getfield 175, 3) := dk_180 0 175 (dk_at dksX2_ofRooms_2 0 rfl rfl)
theorem dX2_ofRooms_49 : decode cX2_ofRooms 49 = .ok (.invokeinterface 34 1, 5) := by decide +kernel
theorem dX2_ofRooms_54 : decode cX2_ofRooms 54 = .ok (.imul, 1) := dk_104 (dk_at dksX2_ofRooms_2 8 rfl rfl)
theorem dX2_ofRooms_55 : decode cX2_ofRooms 55 = .ok (.goto 50, 3) := dk_167 0 50 (dk_at dksX2_ofRooms_2 9 rfl rfl)
theorem dX2_ofRooms_58 : decode cX2_ofRooms 58 = .ok (.iload_n 1, 1) := dk_27 (dk_at dksX2_ofRooms_2 12 rfl rfl)
theorem dX2_ofRooms_59 : decode cX2_ofRooms 59 = .ok (.bipush 9, 2) := dk_16 9 (dk_at dksX2_ofRooms_2 13 rfl rfl)
theorem dX2_ofRooms_61 : decode cX2_ofRooms 61 = .ok (.if_icmp .ne 11, 3) := dk_160 0 11 (dk_at dksX2_ofRooms_2 15 rfl rfl)
theorem dX2_ofRooms_64 : decode cX2_ofRooms 64 = .ok (.aload 4, 2) := dk_25 4 (dk_at dksX2_ofRooms_2 18 rfl rfl)
theorem dX2_ofRooms_66 : decode cX2_ofRooms 66 = .ok (.getfield 233, 3) := dk_180 0 233 (dk_at dksX2_ofRooms_2 20 rfl rfl)
theorem dX2_ofRooms_69 : decode cX2_ofRooms 69 = .ok (.goto 36, 3) := dk_167 0 36 (dk_at dksX2_ofRooms_3 0 rfl rfl)
theorem dX2_ofRooms_72 : decode cX2_ofRooms 72 = .ok (.iload_n 1, 1) := dk_27 (dk_at dksX2_ofRooms_3 3 rfl rfl)
theorem dX2_ofRooms_73 : decode cX2_ofRooms 73 = .ok (.bipush 10, 2) := dk_16 10 (dk_at dksX2_ofRooms_3 4 rfl rfl)
theorem dX2_ofRooms_75 : decode cX2_ofRooms 75 = .ok (.if_icmp .ne 17, 3) := dk_160 0 17 (dk_at dksX2_ofRooms_3 6 rfl rfl)
theorem dX2_ofRooms_78 : decode cX2_ofRooms 78 = .ok (.aload 4, 2) := dk_25 4 (dk_at dksX2_ofRooms_3 9 rfl rfl)
theorem dX2_ofRooms_80 : decode cX2_ofRooms 80 = .ok (.getfield 206, 3) := dk_180 0 206 (dk_at dksX2_ofRooms_3 11 rfl rfl)
theorem dX2_ofRooms_83 : decode cX2_ofRooms 83 = .ok (.aload 4, 2) := dk_25 4 (dk_at dksX2_ofRooms_3 14 rfl rfl)
theorem dX2_ofRooms_85 : decode cX2_ofRooms 85 = .ok (.getfield 255, 3) := dk_180 0 255 (dk_at dksX2_ofRooms_3 16 rfl rfl)
theorem dX2_ofRooms_88 : decode cX2_ofRooms 88 = .ok (.imul, 1) := dk_104 (dk_at dksX2_ofRooms_3 19 rfl rfl)
theorem dX2_ofRooms_89 : decode cX2_ofRooms 89 = .ok (.goto 16, 3) := dk_167 0 16 (dk_at dksX2_ofRooms_3 20 rfl rfl)
theorem dX2_ofRooms_92 : decode cX2_ofRooms 92 = .ok (.aload 4, 2) := dk_25 4 (dk_at dksX2_ofRooms_4 0 rfl rfl)
theorem dX2_ofRooms_94 : decode cX2_ofRooms 94 = .ok (.invokevirtual 217, 3) := dk_182 0 217 (dk_at dksX2_ofRooms_4 2 rfl rfl)
theorem dX2_ofRooms_97 : decode cX2_ofRooms 97 = .ok (.ifCond .eq 7, 3) := dk_153 0 7 (dk_at dksX2_ofRooms_4 5 rfl rfl)
theorem dX2_ofRooms_100 : decode cX2_ofRooms 100 = .ok (.iconst 1, 1) := dk_4 (dk_at dksX2_ofRooms_4 8 rfl rfl)
theorem dX2_ofRooms_101 : decode cX2_ofRooms 101 = .ok (.goto 4, 3) := dk_167 0 4 (dk_at dksX2_ofRooms_4 9 rfl rfl)
theorem dX2_ofRooms_104 : decode cX2_ofRooms 104 = .ok (.iconst 0, 1) := dk_3 (dk_at dksX2_ofRooms_4 12 rfl rfl)
theorem dX2_ofRooms_105 : decode cX2_ofRooms 105 = .ok (.iadd, 1) := dk_96 (dk_at dksX2_ofRooms_4 13 rfl rfl)
theorem dX2_ofRooms_106 : decode cX2_ofRooms 106 = .ok (.istore_n 2, 1) := dk_61 (dk_at dksX2_ofRooms_4 14 rfl rfl)
theorem dX2_ofRooms_107 : decode cX2_ofRooms 107 = .ok (.iinc 3 1, 3) := dk_132 3 1 (dk_at dksX2_ofRooms_4 15 rfl rfl)
theorem dX2_ofRooms_110 : decode cX2_ofRooms 110 = .ok (.goto (-106), 3) := dk_167 255 150 (dk_at dksX2_ofRooms_4 18 rfl rfl)
theorem dX2_ofRooms_113 : decode cX2_ofRooms 113 = .ok (.iload_n 2, 1) := dk_28 (dk_at dksX2_ofRooms_4 21 rfl rfl)
theorem dX2_ofRooms_114 : decode cX2_ofRooms 114 = .ok (.ireturn, 1) := dk_172 (dk_at dksX2_ofRooms_4 22 rfl rfl)
abbrev cX2_init_2 : ByteArray := prog_14_method_2_code
def yX2_init_2 : MethodName := ⟨RX2, "<init>", "(LBlockPapers$Workshop;)V"⟩
def dkwX2_init_2_4 : List UInt8 := [167, 255, 210, 177]
abbrev dktX2_init_2_4 : List UInt8 := dkwX2_init_2_4 ++ []
def dkwX2_init_2_3 : List UInt8 := [180, 0, 24, 28, 185, 0, 40, 2, 0, 192, 0, 38, 183, 0, 44, 185, 0, 47, 2, 0, 87, 132, 2, 1]
abbrev dktX2_init_2_3 : List UInt8 := dkwX2_init_2_3 ++ dktX2_init_2_4
def dkwX2_init_2_2 : List UInt8 := [61, 28, 43, 180, 0, 24, 185, 0, 34, 1, 0, 162, 0, 39, 42, 180, 0, 24, 187, 0, 38, 89, 43]
abbrev dktX2_init_2_2 : List UInt8 := dkwX2_init_2_2 ++ dktX2_init_2_3
def dkwX2_init_2_1 : List UInt8 := [180, 0, 18, 185, 0, 28, 2, 0, 87, 42, 180, 0, 21, 43, 180, 0, 21, 185, 0, 28, 2, 0, 87, 3]
abbrev dktX2_init_2_1 : List UInt8 := dkwX2_init_2_1 ++ dktX2_init_2_2
def dkwX2_init_2_0 : List UInt8 := [42, 183, 0, 27, 42, 180, 0, 12, 43, 180, 0, 12, 185, 0, 28, 2, 0, 87, 42, 180, 0, 18, 43]
abbrev dktX2_init_2_0 : List UInt8 := dkwX2_init_2_0 ++ dktX2_init_2_1
theorem dksX2_init_2_0 : cX2_init_2.data.toList.drop 0 = dktX2_init_2_0 := by decide +kernel
theorem dksX2_init_2_1 : cX2_init_2.data.toList.drop 23 = dktX2_init_2_1 := dk_seg dksX2_init_2_0 23 rfl rfl
theorem dksX2_init_2_2 : cX2_init_2.data.toList.drop 47 = dktX2_init_2_2 := dk_seg dksX2_init_2_1 24 rfl rfl
theorem dksX2_init_2_3 : cX2_init_2.data.toList.drop 70 = dktX2_init_2_3 := dk_seg dksX2_init_2_2 23 rfl rfl
theorem dksX2_init_2_4 : cX2_init_2.data.toList.drop 94 = dktX2_init_2_4 := dk_seg dksX2_init_2_3 24 rfl rfl
theorem dX2_init_2_0 : decode cX2_init_2 0 = .ok (.aload_n 0, 1) := dk_42 (dk_at dksX2_init_2_0 0 rfl rfl)
theorem dX2_init_2_1 : decode cX2_init_2 1 = .ok (.invokespecial 27, 3) := dk_183 0 27 (dk_at dksX2_init_2_0 1 rfl rfl)
theorem dX2_init_2_4 : decode cX2_init_2 4 = .ok (.aload_n 0, 1) := dk_42 (dk_at dksX2_init_2_0 4 rfl rfl)
theorem dX2_init_2_5 : decode cX2_init_2 5 = .ok (.getfield 12, 3) := dk_180 0 12 (dk_at dksX2_init_2_0 5 rfl rfl)
theorem dX2_init_2_8 : decode cX2_init_2 8 = .ok (.aload_n 1, 1) := dk_43 (dk_at dksX2_init_2_0 8 rfl rfl)
theorem dX2_init_2_9 : decode cX2_init_2 9 = .ok (.getfield 12, 3) := dk_180 0 12 (dk_at dksX2_init_2_0 9 rfl rfl)
theorem dX2_init_2_12 : decode cX2_init_2 12 = .ok (.invokeinterface 28 2, 5) := by decide +kernel
theorem dX2_init_2_17 : decode cX2_init_2 17 = .ok (.pop, 1) := dk_87 (dk_at dksX2_init_2_0 17 rfl rfl)
theorem dX2_init_2_18 : decode cX2_init_2 18 = .ok (.aload_n 0, 1) := dk_42 (dk_at dksX2_init_2_0 18 rfl rfl)
theorem dX2_init_2_19 : decode cX2_init_2 19 = .ok (.getfield 18, 3) := dk_180 0 18 (dk_at dksX2_init_2_0 19 rfl rfl)
theorem dX2_init_2_22 : decode cX2_init_2 22 = .ok (.aload_n 1, 1) := dk_43 (dk_at dksX2_init_2_0 22 rfl rfl)
theorem dX2_init_2_23 : decode cX2_init_2 23 = .ok (.getfield 18, 3) := dk_180 0 18 (dk_at dksX2_init_2_1 0 rfl rfl)
theorem dX2_init_2_26 : decode cX2_init_2 26 = .ok (.invokeinterface 28 2, 5) := by decide +kernel
theorem dX2_init_2_31 : decode cX2_init_2 31 = .ok (.pop, 1) := dk_87 (dk_at dksX2_init_2_1 8 rfl rfl)
theorem dX2_init_2_32 : decode cX2_init_2 32 = .ok (.aload_n 0, 1) := dk_42 (dk_at dksX2_init_2_1 9 rfl rfl)
theorem dX2_init_2_33 : decode cX2_init_2 33 = .ok (.getfield 21, 3) := dk_180 0 21 (dk_at dksX2_init_2_1 10 rfl rfl)
theorem dX2_init_2_36 : decode cX2_init_2 36 = .ok (.aload_n 1, 1) := dk_43 (dk_at dksX2_init_2_1 13 rfl rfl)
theorem dX2_init_2_37 : decode cX2_init_2 37 = .ok (.getfield 21, 3) := dk_180 0 21 (dk_at dksX2_init_2_1 14 rfl rfl)
theorem dX2_init_2_40 : decode cX2_init_2 40 = .ok (.invokeinterface 28 2, 5) := by decide +kernel
theorem dX2_init_2_45 : decode cX2_init_2 45 = .ok (.pop, 1) := dk_87 (dk_at dksX2_init_2_1 22 rfl rfl)
theorem dX2_init_2_46 : decode cX2_init_2 46 = .ok (.iconst 0, 1) := dk_3 (dk_at dksX2_init_2_1 23 rfl rfl)
theorem dX2_init_2_47 : decode cX2_init_2 47 = .ok (.istore_n 2, 1) := dk_61 (dk_at dksX2_init_2_2 0 rfl rfl)
theorem dX2_init_2_48 : decode cX2_init_2 48 = .ok (.iload_n 2, 1) := dk_28 (dk_at dksX2_init_2_2 1 rfl rfl)
theorem dX2_init_2_49 : decode cX2_init_2 49 = .ok (.aload_n 1, 1) := dk_43 (dk_at dksX2_init_2_2 2 rfl rfl)
theorem dX2_init_2_50 : decode cX2_init_2 50 = .ok (.getfield 24, 3) := dk_180 0 24 (dk_at dksX2_init_2_2 3 rfl rfl)
theorem dX2_init_2_53 : decode cX2_init_2 53 = .ok (.invokeinterface 34 1, 5) := by decide +kernel
theorem dX2_init_2_58 : decode cX2_init_2 58 = .ok (.if_icmp .ge 39, 3) := dk_162 0 39 (dk_at dksX2_init_2_2 11 rfl rfl)
theorem dX2_init_2_61 : decode cX2_init_2 61 = .ok (.aload_n 0, 1) := dk_42 (dk_at dksX2_init_2_2 14 rfl rfl)
theorem dX2_init_2_62 : decode cX2_init_2 62 = .ok (.getfield 24, 3) := dk_180 0 24 (dk_at dksX2_init_2_2 15 rfl rfl)
theorem dX2_init_2_65 : decode cX2_init_2 65 = .ok (.new 38, 3) := dk_187 0 38 (dk_at dksX2_init_2_2 18 rfl rfl)
theorem dX2_init_2_68 : decode cX2_init_2 68 = .ok (.dup, 1) := dk_89 (dk_at dksX2_init_2_2 21 rfl rfl)
theorem dX2_init_2_69 : decode cX2_init_2 69 = .ok (.aload_n 1, 1) := dk_43 (dk_at dksX2_init_2_2 22 rfl rfl)
theorem dX2_init_2_70 : decode cX2_init_2 70 = .ok (.getfield 24, 3) := dk_180 0 24 (dk_at dksX2_init_2_3 0 rfl rfl)
theorem dX2_init_2_73 : decode cX2_init_2 73 = .ok (.iload_n 2, 1) := dk_28 (dk_at dksX2_init_2_3 3 rfl rfl)
theorem dX2_init_2_74 : decode cX2_init_2 74 = .ok (.invokeinterface 40 2, 5) := by decide +kernel
theorem dX2_init_2_79 : decode cX2_init_2 79 = .ok (.checkcast 38, 3) := dk_192 0 38 (dk_at dksX2_init_2_3 9 rfl rfl)
theorem dX2_init_2_82 : decode cX2_init_2 82 = .ok (.invokespecial 44, 3) := dk_183 0 44 (dk_at dksX2_init_2_3 12 rfl rfl)
theorem dX2_init_2_85 : decode cX2_init_2 85 = .ok (.invokeinterface 47 2, 5) := by decide +kernel
theorem dX2_init_2_90 : decode cX2_init_2 90 = .ok (.pop, 1) := dk_87 (dk_at dksX2_init_2_3 20 rfl rfl)
theorem dX2_init_2_91 : decode cX2_init_2 91 = .ok (.iinc 2 1, 3) := dk_132 2 1 (dk_at dksX2_init_2_3 21 rfl rfl)
theorem dX2_init_2_94 : decode cX2_init_2 94 = .ok (.goto (-46), 3) := dk_167 255 210 (dk_at dksX2_init_2_4 0 rfl rfl)
theorem dX2_init_2_97 : decode cX2_init_2 97 = .ok (.return_, 1) := dk_177 (dk_at dksX2_init_2_4 3 rfl rfl)
abbrev cX2_addBlock : ByteArray := prog_14_method_8_code
def yX2_addBlock : MethodName := ⟨RX2, "addBlock", "(IZ)I"⟩
def dkwX2_addBlock_2 : List UInt8 := [183, 0, 97, 185, 0, 47, 2, 0, 87, 42, 180, 0, 12, 185, 0, 34, 1, 0, 4, 100, 172]
abbrev dktX2_addBlock_2 : List UInt8 := dkwX2_addBlock_2 ++ []
def dkwX2_addBlock_1 : List UInt8 := [162, 0, 7, 4, 167, 0, 4, 3, 4, 16, 6, 184, 0, 93, 42, 180, 0, 12, 187, 0, 59, 89, 27, 28]
abbrev dktX2_addBlock_1 : List UInt8 := dkwX2_addBlock_1 ++ dktX2_addBlock_2
def dkwX2_addBlock_0 : List UInt8 := [27, 16, 10, 16, 90, 184, 0, 51, 184, 0, 90, 42, 180, 0, 12, 185, 0, 34, 1, 0, 16, 6]
abbrev dktX2_addBlock_0 : List UInt8 := dkwX2_addBlock_0 ++ dktX2_addBlock_1
theorem dksX2_addBlock_0 : cX2_addBlock.data.toList.drop 0 = dktX2_addBlock_0 := by decide +kernel
theorem dksX2_addBlock_1 : cX2_addBlock.data.toList.drop 22 = dktX2_addBlock_1 := dk_seg dksX2_addBlock_0 22 rfl rfl
theorem dksX2_addBlock_2 : cX2_addBlock.data.toList.drop 46 = dktX2_addBlock_2 := dk_seg dksX2_addBlock_1 24 rfl rfl
theorem dX2_addBlock_0 : decode cX2_addBlock 0 = .ok (.iload_n 1, 1) := dk_27 (dk_at dksX2_addBlock_0 0 rfl rfl)
theorem dX2_addBlock_1 : decode cX2_addBlock 1 = .ok (.bipush 10, 2) := dk_16 10 (dk_at dksX2_addBlock_0 1 rfl rfl)
theorem dX2_addBlock_3 : decode cX2_addBlock 3 = .ok (.bipush 90, 2) := dk_16 90 (dk_at dksX2_addBlock_0 3 rfl rfl)
theorem dX2_addBlock_5 : decode cX2_addBlock 5 = .ok (.invokestatic 51, 3) := dk_184 0 51 (dk_at dksX2_addBlock_0 5 rfl rfl)
theorem dX2_addBlock_8 : decode cX2_addBlock 8 = .ok (.invokestatic 90, 3) := dk_184 0 90 (dk_at dksX2_addBlock_0 8 rfl rfl)
theorem dX2_addBlock_11 : decode cX2_addBlock 11 = .ok (.aload_n 0, 1) := dk_42 (dk_at dksX2_addBlock_0 11 rfl rfl)
theorem dX2_addBlock_12 : decode cX2_addBlock 12 = .ok (.getfield 12, 3) := dk_180 0 12 (dk_at dksX2_addBlock_0 12 rfl rfl)
theorem dX2_addBlock_15 : decode cX2_addBlock 15 = .ok (.invokeinterface 34 1, 5) := by decide +kernel
theorem dX2_addBlock_20 : decode cX2_addBlock 20 = .ok (.bipush 6, 2) := dk_16 6 (dk_at dksX2_addBlock_0 20 rfl rfl)
theorem dX2_addBlock_22 : decode cX2_addBlock 22 = .ok (.if_icmp .ge 7, 3) := dk_162 0 7 (dk_at dksX2_addBlock_1 0 rfl rfl)
theorem dX2_addBlock_25 : decode cX2_addBlock 25 = .ok (.iconst 1, 1) := dk_4 (dk_at dksX2_addBlock_1 3 rfl rfl)
theorem dX2_addBlock_26 : decode cX2_addBlock 26 = .ok (.goto 4, 3) := dk_167 0 4 (dk_at dksX2_addBlock_1 4 rfl rfl)
theorem dX2_addBlock_29 : decode cX2_addBlock 29 = .ok (.iconst 0, 1) := dk_3 (dk_at dksX2_addBlock_1 7 rfl rfl)
theorem dX2_addBlock_30 : decode cX2_addBlock 30 = .ok (.iconst 1, 1) := dk_4 (dk_at dksX2_addBlock_1 8 rfl rfl)
theorem dX2_addBlock_31 : decode cX2_addBlock 31 = .ok (.bipush 6, 2) := dk_16 6 (dk_at dksX2_addBlock_1 9 rfl rfl)
theorem dX2_addBlock_33 : decode cX2_addBlock 33 = .ok (.invokestatic 93, 3) := dk_184 0 93 (dk_at dksX2_addBlock_1 11 rfl rfl)
theorem dX2_addBlock_36 : decode cX2_addBlock 36 = .ok (.aload_n 0, 1) := dk_42 (dk_at dksX2_addBlock_1 14 rfl rfl)
theorem dX2_addBlock_37 : decode cX2_addBlock 37 = .ok (.getfield 12, 3) := dk_180 0 12 (dk_at dksX2_addBlock_1 15 rfl rfl)
theorem dX2_addBlock_40 : decode cX2_addBlock 40 = .ok (.new 59, 3) := dk_187 0 59 (dk_at dksX2_addBlock_1 18 rfl rfl)
theorem dX2_addBlock_43 : decode cX2_addBlock 43 = .ok (.dup, 1) := dk_89 (dk_at dksX2_addBlock_1 21 rfl rfl)
theorem dX2_addBlock_44 : decode cX2_addBlock 44 = .ok (.iload_n 1, 1) := dk_27 (dk_at dksX2_addBlock_1 22 rfl rfl)
theorem dX2_addBlock_45 : decode cX2_addBlock 45 = .ok (.iload_n 2, 1) := dk_28 (dk_at dksX2_addBlock_1 23 rfl rfl)
theorem dX2_addBlock_46 : decode cX2_addBlock 46 = .ok (.invokespecial 97, 3) := dk_183 0 97 (dk_at dksX2_addBlock_2 0 rfl rfl)
theorem dX2_addBlock_49 : decode cX2_addBlock 49 = .ok (.invokeinterface 47 2, 5) := by decide +kernel
theorem dX2_addBlock_54 : decode cX2_addBlock 54 = .ok (.pop, 1) := dk_87 (dk_at dksX2_addBlock_2 8 rfl rfl)
theorem dX2_addBlock_55 : decode cX2_addBlock 55 = .ok (.aload_n 0, 1) := dk_42 (dk_at dksX2_addBlock_2 9 rfl rfl)
theorem dX2_addBlock_56 : decode cX2_addBlock 56 = .ok (.getfield 12, 3) := dk_180 0 12 (dk_at dksX2_addBlock_2 10 rfl rfl)
theorem dX2_addBlock_59 : decode cX2_addBlock 59 = .ok (.invokeinterface 34 1, 5) := by decide +kernel
theorem dX2_addBlock_64 : decode cX2_addBlock 64 = .ok (.iconst 1, 1) := dk_4 (dk_at dksX2_addBlock_2 18 rfl rfl)
theorem dX2_addBlock_65 : decode cX2_addBlock 65 = .ok (.isub, 1) := dk_100 (dk_at dksX2_addBlock_2 19 rfl rfl)
theorem dX2_addBlock_66 : decode cX2_addBlock 66 = .ok (.ireturn, 1) := dk_172 (dk_at dksX2_addBlock_2 20 rfl rfl)
abbrev cX2_carve : ByteArray := prog_14_method_9_code
def yX2_carve : MethodName := ⟨RX2, "carve", "(I)I"⟩
def dkwX2_carve_1 : List UInt8 := [45, 180, 0, 112, 172]
abbrev dktX2_carve_1 : List UInt8 := dkwX2_carve_1 ++ []
def dkwX2_carve_0 : List UInt8 := [42, 27, 182, 0, 100, 77, 42, 180, 0, 12, 27, 44, 182, 0, 104, 185, 0, 108, 3, 0, 192, 0, 59, 78]
abbrev dktX2_carve_0 : List UInt8 := dkwX2_carve_0 ++ dktX2_carve_1
theorem dksX2_carve_0 : cX2_carve.data.toList.drop 0 = dktX2_carve_0 := by decide +kernel
theorem dksX2_carve_1 : cX2_carve.data.toList.drop 24 = dktX2_carve_1 := dk_seg dksX2_carve_0 24 rfl rfl
theorem dX2_carve_0 : decode cX2_carve 0 = .ok (.aload_n 0, 1) := dk_42 (dk_at dksX2_carve_0 0 rfl rfl)
theorem dX2_carve_1 : decode cX2_carve 1 = .ok (.iload_n 1, 1) := dk_27 (dk_at dksX2_carve_0 1 rfl rfl)
theorem dX2_carve_2 : decode cX2_carve 2 = .ok (.invokevirtual 100, 3) := dk_182 0 100 (dk_at dksX2_carve_0 2 rfl rfl)
theorem dX2_carve_5 : decode cX2_carve 5 = .ok (.astore_n 2, 1) := dk_77 (dk_at dksX2_carve_0 5 rfl rfl)
theorem dX2_carve_6 : decode cX2_carve 6 = .ok (.aload_n 0, 1) := dk_42 (dk_at dksX2_carve_0 6 rfl rfl)
theorem dX2_carve_7 : decode cX2_carve 7 = .ok (.getfield 12, 3) := dk_180 0 12 (dk_at dksX2_carve_0 7 rfl rfl)
theorem dX2_carve_10 : decode cX2_carve 10 = .ok (.iload_n 1, 1) := dk_27 (dk_at dksX2_carve_0 10 rfl rfl)
theorem dX2_carve_11 : decode cX2_carve 11 = .ok (.aload_n 2, 1) := dk_44 (dk_at dksX2_carve_0 11 rfl rfl)
theorem dX2_carve_12 : decode cX2_carve 12 = .ok (.invokevirtual 104, 3) := dk_182 0 104 (dk_at dksX2_carve_0 12 rfl rfl)
theorem dX2_carve_15 : decode cX2_carve 15 = .ok (.invokeinterface 108 3, 5) := by decide +kernel
theorem dX2_carve_20 : decode cX2_carve 20 = .ok (.checkcast 59, 3) := dk_192 0 59 (dk_at dksX2_carve_0 20 rfl rfl)
theorem dX2_carve_23 : decode cX2_carve 23 = .ok (.astore_n 3, 1) := dk_78 (dk_at dksX2_carve_0 23 rfl rfl)
theorem dX2_carve_24 : decode cX2_carve 24 = .ok (.aload_n 3, 1) := dk_45 (dk_at dksX2_carve_1 0 rfl rfl)
theorem dX2_carve_25 : decode cX2_carve 25 = .ok (.getfield 112, 3) := dk_180 0 112 (dk_at dksX2_carve_1 1 rfl rfl)
theorem dX2_carve_28 : decode cX2_carve 28 = .ok (.ireturn, 1) := dk_172 (dk_at dksX2_carve_1 4 rfl rfl)
abbrev cX2_block : ByteArray := prog_14_method_3_code
def yX2_block : MethodName := ⟨RX2, "block", "(I)LBlockPapers$Block;"⟩
def dkwX2_block_1 : List UInt8 := [185, 0, 40, 2, 0, 192, 0, 59, 176]
abbrev dktX2_block_1 : List UInt8 := dkwX2_block_1 ++ []
def dkwX2_block_0 : List UInt8 := [27, 3, 42, 180, 0, 12, 185, 0, 34, 1, 0, 4, 100, 184, 0, 51, 184, 0, 55, 42, 180, 0, 12, 27]
abbrev dktX2_block_0 : List UInt8 := dkwX2_block_0 ++ dktX2_block_1
theorem dksX2_block_0 : cX2_block.data.toList.drop 0 = dktX2_block_0 := by decide +kernel
theorem dksX2_block_1 : cX2_block.data.toList.drop 24 = dktX2_block_1 := dk_seg dksX2_block_0 24 rfl rfl
theorem dX2_block_0 : decode cX2_block 0 = .ok (.iload_n 1, 1) := dk_27 (dk_at dksX2_block_0 0 rfl rfl)
theorem dX2_block_1 : decode cX2_block 1 = .ok (.iconst 0, 1) := dk_3 (dk_at dksX2_block_0 1 rfl rfl)
theorem dX2_block_2 : decode cX2_block 2 = .ok (.aload_n 0, 1) := dk_42 (dk_at dksX2_block_0 2 rfl rfl)
theorem dX2_block_3 : decode cX2_block 3 = .ok (.getfield 12, 3) := dk_180 0 12 (dk_at dksX2_block_0 3 rfl rfl)
theorem dX2_block_6 : decode cX2_block 6 = .ok (.invokeinterface 34 1, 5) := by decide +kernel
theorem dX2_block_11 : decode cX2_block 11 = .ok (.iconst 1, 1) := dk_4 (dk_at dksX2_block_0 11 rfl rfl)
theorem dX2_block_12 : decode cX2_block 12 = .ok (.isub, 1) := dk_100 (dk_at dksX2_block_0 12 rfl rfl)
theorem dX2_block_13 : decode cX2_block 13 = .ok (.invokestatic 51, 3) := dk_184 0 51 (dk_at dksX2_block_0 13 rfl rfl)
theorem dX2_block_16 : decode cX2_block 16 = .ok (.invokestatic 55, 3) := dk_184 0 55 (dk_at dksX2_block_0 16 rfl rfl)
theorem dX2_block_19 : decode cX2_block 19 = .ok (.aload_n 0, 1) := dk_42 (dk_at dksX2_block_0 19 rfl rfl)
theorem dX2_block_20 : decode cX2_block 20 = .ok (.getfield 12, 3) := dk_180 0 12 (dk_at dksX2_block_0 20 rfl rfl)
theorem dX2_block_23 : decode cX2_block 23 = .ok (.iload_n 1, 1) := dk_27 (dk_at dksX2_block_0 23 rfl rfl)
theorem dX2_block_24 : decode cX2_block 24 = .ok (.invokeinterface 40 2, 5) := by decide +kernel
theorem dX2_block_29 : decode cX2_block 29 = .ok (.checkcast 59, 3) := dk_192 0 59 (dk_at dksX2_block_1 5 rfl rfl)
theorem dX2_block_32 : decode cX2_block 32 = .ok (.areturn, 1) := dk_176 (dk_at dksX2_block_1 8 rfl rfl)
abbrev cX2_addInk : ByteArray := prog_14_method_10_code
def yX2_addInk : MethodName := ⟨RX2, "addInk", "(III)I"⟩
def dkwX2_addInk_3 : List UInt8 := [27, 28, 29, 183, 0, 115, 185, 0, 47, 2, 0, 87, 42, 180, 0, 18, 185, 0, 34, 1, 0, 4, 100, 172]
abbrev dktX2_addInk_3 : List UInt8 := dkwX2_addInk_3 ++ []
def dkwX2_addInk_2 : List UInt8 := [16, 12, 162, 0, 7, 4, 167, 0, 4, 3, 4, 16, 12, 184, 0, 93, 42, 180, 0, 18, 187, 0, 61, 89]
abbrev dktX2_addInk_2 : List UInt8 := dkwX2_addInk_2 ++ dktX2_addInk_3
def dkwX2_addInk_1 : List UInt8 := [184, 0, 51, 153, 0, 7, 4, 167, 0, 4, 3, 184, 0, 90, 42, 180, 0, 18, 185, 0, 34, 1, 0]
abbrev dktX2_addInk_1 : List UInt8 := dkwX2_addInk_1 ++ dktX2_addInk_2
def dkwX2_addInk_0 : List UInt8 := [27, 3, 8, 184, 0, 51, 153, 0, 28, 28, 3, 16, 9, 184, 0, 51, 153, 0, 18, 29, 4, 17, 3, 231]
abbrev dktX2_addInk_0 : List UInt8 := dkwX2_addInk_0 ++ dktX2_addInk_1
theorem dksX2_addInk_0 : cX2_addInk.data.toList.drop 0 = dktX2_addInk_0 := by decide +kernel
theorem dksX2_addInk_1 : cX2_addInk.data.toList.drop 24 = dktX2_addInk_1 := dk_seg dksX2_addInk_0 24 rfl rfl
theorem dksX2_addInk_2 : cX2_addInk.data.toList.drop 47 = dktX2_addInk_2 := dk_seg dksX2_addInk_1 23 rfl rfl
theorem dksX2_addInk_3 : cX2_addInk.data.toList.drop 71 = dktX2_addInk_3 := dk_seg dksX2_addInk_2 24 rfl rfl
theorem dX2_addInk_0 : decode cX2_addInk 0 = .ok (.iload_n 1, 1) := dk_27 (dk_at dksX2_addInk_0 0 rfl rfl)
theorem dX2_addInk_1 : decode cX2_addInk 1 = .ok (.iconst 0, 1) := dk_3 (dk_at dksX2_addInk_0 1 rfl rfl)
theorem dX2_addInk_2 : decode cX2_addInk 2 = .ok (.iconst 5, 1) := dk_8 (dk_at dksX2_addInk_0 2 rfl rfl)
theorem dX2_addInk_3 : decode cX2_addInk 3 = .ok (.invokestatic 51, 3) := dk_184 0 51 (dk_at dksX2_addInk_0 3 rfl rfl)
theorem dX2_addInk_6 : decode cX2_addInk 6 = .ok (.ifCond .eq 28, 3) := dk_153 0 28 (dk_at dksX2_addInk_0 6 rfl rfl)
theorem dX2_addInk_9 : decode cX2_addInk 9 = .ok (.iload_n 2, 1) := dk_28 (dk_at dksX2_addInk_0 9 rfl rfl)
theorem dX2_addInk_10 : decode cX2_addInk 10 = .ok (.iconst 0, 1) := dk_3 (dk_at dksX2_addInk_0 10 rfl rfl)
theorem dX2_addInk_11 : decode cX2_addInk 11 = .ok (.bipush 9, 2) := dk_16 9 (dk_at dksX2_addInk_0 11 rfl rfl)
theorem dX2_addInk_13 : decode cX2_addInk 13 = .ok (.invokestatic 51, 3) := dk_184 0 51 (dk_at dksX2_addInk_0 13 rfl rfl)
theorem dX2_addInk_16 : decode cX2_addInk 16 = .ok (.ifCond .eq 18, 3) := dk_153 0 18 (dk_at dksX2_addInk_0 16 rfl rfl)
theorem dX2_addInk_19 : decode cX2_addInk 19 = .ok (.iload_n 3, 1) := dk_29 (dk_at dksX2_addInk_0 19 rfl rfl)
theorem dX2_addInk_20 : decode cX2_addInk 20 = .ok (.iconst 1, 1) := dk_4 (dk_at dksX2_addInk_0 20 rfl rfl)
theorem dX2_addInk_21 : decode cX2_addInk 21 = .ok (.sipush 999, 3) := dk_17 3 231 (dk_at dksX2_addInk_0 21 rfl rfl)
theorem dX2_addInk_24 : decode cX2_addInk 24 = .ok (.invokestatic 51, 3) := dk_184 0 51 (dk_at dksX2_addInk_1 0 rfl rfl)
theorem dX2_addInk_27 : decode cX2_addInk 27 = .ok (.ifCond .eq 7, 3) := dk_153 0 7 (dk_at dksX2_addInk_1 3 rfl rfl)
theorem dX2_addInk_30 : decode cX2_addInk 30 = .ok (.iconst 1, 1) := dk_4 (dk_at dksX2_addInk_1 6 rfl rfl)
theorem dX2_addInk_31 : decode cX2_addInk 31 = .ok (.goto 4, 3) := dk_167 0 4 (dk_at dksX2_addInk_1 7 rfl rfl)
theorem dX2_addInk_34 : decode cX2_addInk 34 = .ok (.iconst 0, 1) := dk_3 (dk_at dksX2_addInk_1 10 rfl rfl)
theorem dX2_addInk_35 : decode cX2_addInk 35 = .ok (.invokestatic 90, 3) := dk_184 0 90 (dk_at dksX2_addInk_1 11 rfl rfl)
theorem dX2_addInk_38 : decode cX2_addInk 38 = .ok (.aload_n 0, 1) := dk_42 (dk_at dksX2_addInk_1 14 rfl rfl)
theorem dX2_addInk_39 : decode cX2_addInk 39 = .ok (.getfield 18, 3) := dk_180 0 18 (dk_at dksX2_addInk_1 15 rfl rfl)
theorem dX2_addInk_42 : decode cX2_addInk 42 = .ok (.invokeinterface 34 1, 5) := by decide +kernel
theorem dX2_addInk_47 : decode cX2_addInk 47 = .ok (.bipush 12, 2) := dk_16 12 (dk_at dksX2_addInk_2 0 rfl rfl)
theorem dX2_addInk_49 : decode cX2_addInk 49 = .ok (.if_icmp .ge 7, 3) := dk_162 0 7 (dk_at dksX2_addInk_2 2 rfl rfl)
theorem dX2_addInk_52 : decode cX2_addInk 52 = .ok (.iconst 1, 1) := dk_4 (dk_at dksX2_addInk_2 5 rfl rfl)
theorem dX2_addInk_53 : decode cX2_addInk 53 = .ok (.goto 4, 3) := dk_167 0 4 (dk_at dksX2_addInk_2 6 rfl rfl)
theorem dX2_addInk_56 : decode cX2_addInk 56 = .ok (.iconst 0, 1) := dk_3 (dk_at dksX2_addInk_2 9 rfl rfl)
theorem dX2_addInk_57 : decode cX2_addInk 57 = .ok (.iconst 1, 1) := dk_4 (dk_at dksX2_addInk_2 10 rfl rfl)
theorem dX2_addInk_58 : decode cX2_addInk 58 = .ok (.bipush 12, 2) := dk_16 12 (dk_at dksX2_addInk_2 11 rfl rfl)
theorem dX2_addInk_60 : decode cX2_addInk 60 = .ok (.invokestatic 93, 3) := dk_184 0 93 (dk_at dksX2_addInk_2 13 rfl rfl)
theorem dX2_addInk_63 : decode cX2_addInk 63 = .ok (.aload_n 0, 1) := dk_42 (dk_at dksX2_addInk_2 16 rfl rfl)
theorem dX2_addInk_64 : decode cX2_addInk 64 = .ok (.getfield 18, 3) := dk_180 0 18 (dk_at dksX2_addInk_2 17 rfl rfl)
theorem dX2_addInk_67 : decode cX2_addInk 67 = .ok (.new 61, 3) := dk_187 0 61 (dk_at dksX2_addInk_2 20 rfl rfl)
theorem dX2_addInk_70 : decode cX2_addInk 70 = .ok (.dup, 1) := dk_89 (dk_at dksX2_addInk_2 23 rfl rfl)
theorem dX2_addInk_71 : decode cX2_addInk 71 = .ok (.iload_n 1, 1) := dk_27 (dk_at dksX2_addInk_3 0 rfl rfl)
theorem dX2_addInk_72 : decode cX2_addInk 72 = .ok (.iload_n 2, 1) := dk_28 (dk_at dksX2_addInk_3 1 rfl rfl)
theorem dX2_addInk_73 : decode cX2_addInk 73 = .ok (.iload_n 3, 1) := dk_29 (dk_at dksX2_addInk_3 2 rfl rfl)
theorem dX2_addInk_74 : decode cX2_addInk 74 = .ok (.invokespecial 115, 3) := dk_183 0 115 (dk_at dksX2_addInk_3 3 rfl rfl)
theorem dX2_addInk_77 : decode cX2_addInk 77 = .ok (.invokeinterface 47 2, 5) := by decide +kernel
theorem dX2_addInk_82 : decode cX2_addInk 82 = .ok (.pop, 1) := dk_87 (dk_at dksX2_addInk_3 11 rfl rfl)
theorem dX2_addInk_83 : decode cX2_addInk 83 = .ok (.aload_n 0, 1) := dk_42 (dk_at dksX2_addInk_3 12 rfl rfl)
theorem dX2_addInk_84 : decode cX2_addInk 84 = .ok (.getfield 18, 3) := dk_180 0 18 (dk_at dksX2_addInk_3 13 rfl rfl)
theorem dX2_addInk_87 : decode cX2_addInk 87 = .ok (.invokeinterface 34 1, 5) := by decide +kernel
theorem dX2_addInk_92 : decode cX2_addInk 92 = .ok (.iconst 1, 1) := dk_4 (dk_at dksX2_addInk_3 21 rfl rfl)
theorem dX2_addInk_93 : decode cX2_addInk 93 = .ok (.isub, 1) := dk_100 (dk_at dksX2_addInk_3 22 rfl rfl)
theorem dX2_addInk_94 : decode cX2_addInk 94 = .ok (.ireturn, 1) := dk_172 (dk_at dksX2_addInk_3 23 rfl rfl)
abbrev cX2_mix : ByteArray := prog_14_method_11_code
def yX2_mix : MethodName := ⟨RX2, "mix", "(III)I"⟩
def dkwX2_mix_6 : List UInt8 := [180, 0, 131, 172]
abbrev dktX2_mix_6 : List UInt8 := dkwX2_mix_6 ++ []
def dkwX2_mix_5 : List UInt8 := [182, 0, 134, 58, 7, 42, 180, 0, 18, 28, 25, 7, 185, 0, 108, 3, 0, 192, 0, 61, 58, 8, 25, 7]
abbrev dktX2_mix_5 : List UInt8 := dkwX2_mix_5 ++ dktX2_mix_6
def dkwX2_mix_4 : List UInt8 := [29, 182, 0, 128, 185, 0, 108, 3, 0, 192, 0, 61, 58, 6, 25, 5, 25, 4, 180, 0, 131, 29]
abbrev dktX2_mix_4 : List UInt8 := dkwX2_mix_4 ++ dktX2_mix_5
def dkwX2_mix_3 : List UInt8 := [161, 0, 7, 4, 167, 0, 4, 3, 6, 25, 4, 180, 0, 125, 184, 0, 93, 42, 180, 0, 18, 27, 25, 4]
abbrev dktX2_mix_3 : List UInt8 := dkwX2_mix_3 ++ dktX2_mix_4
def dkwX2_mix_2 : List UInt8 := [160, 0, 7, 4, 167, 0, 4, 3, 16, 13, 25, 5, 180, 0, 122, 184, 0, 93, 25, 4, 180, 0, 125, 29]
abbrev dktX2_mix_2 : List UInt8 := dkwX2_mix_2 ++ dktX2_mix_3
def dkwX2_mix_1 : List UInt8 := [184, 0, 51, 153, 0, 7, 4, 167, 0, 4, 3, 184, 0, 90, 25, 4, 180, 0, 122, 25, 5, 180, 0, 122]
abbrev dktX2_mix_1 : List UInt8 := dkwX2_mix_1 ++ dktX2_mix_2
def dkwX2_mix_0 : List UInt8 := [42, 27, 182, 0, 118, 58, 4, 42, 28, 182, 0, 118, 58, 5, 27, 28, 159, 0, 18, 29, 4, 17, 3, 231]
abbrev dktX2_mix_0 : List UInt8 := dkwX2_mix_0 ++ dktX2_mix_1
theorem dksX2_mix_0 : cX2_mix.data.toList.drop 0 = dktX2_mix_0 := by decide +kernel
theorem dksX2_mix_1 : cX2_mix.data.toList.drop 24 = dktX2_mix_1 := dk_seg dksX2_mix_0 24 rfl rfl
theorem dksX2_mix_2 : cX2_mix.data.toList.drop 48 = dktX2_mix_2 := dk_seg dksX2_mix_1 24 rfl rfl
theorem dksX2_mix_3 : cX2_mix.data.toList.drop 72 = dktX2_mix_3 := dk_seg dksX2_mix_2 24 rfl rfl
theorem dksX2_mix_4 : cX2_mix.data.toList.drop 96 = dktX2_mix_4 := dk_seg dksX2_mix_3 24 rfl rfl
theorem dksX2_mix_5 : cX2_mix.data.toList.drop 118 = dktX2_mix_5 := dk_seg dksX2_mix_4 22 rfl rfl
theorem dksX2_mix_6 : cX2_mix.data.toList.drop 142 = dktX2_mix_6 := dk_seg dksX2_mix_5 24 rfl rfl
theorem dX2_mix_0 : decode cX2_mix 0 = .ok (.aload_n 0, 1) := dk_42 (dk_at dksX2_mix_0 0 rfl rfl)
theorem dX2_mix_1 : decode cX2_mix 1 = .ok (.iload_n 1, 1) := dk_27 (dk_at dksX2_mix_0 1 rfl rfl)
theorem dX2_mix_2 : decode cX2_mix 2 = .ok (.invokevirtual 118, 3) := dk_182 0 118 (dk_at dksX2_mix_0 2 rfl rfl)
theorem dX2_mix_5 : decode cX2_mix 5 = .ok (.astore 4, 2) := dk_58 4 (dk_at dksX2_mix_0 5 rfl rfl)
theorem dX2_mix_7 : decode cX2_mix 7 = .ok (.aload_n 0, 1) := dk_42 (dk_at dksX2_mix_0 7 rfl rfl)
theorem dX2_mix_8 : decode cX2_mix 8 = .ok (.iload_n 2, 1) := dk_28 (dk_at dksX2_mix_0 8 rfl rfl)
theorem dX2_mix_9 : decode cX2_mix 9 = .ok (.invokevirtual 118, 3) := dk_182 0 118 (dk_at dksX2_mix_0 9 rfl rfl)
theorem dX2_mix_12 : decode cX2_mix 12 = .ok (.astore 5, 2) := dk_58 5 (dk_at dksX2_mix_0 12 rfl rfl)
theorem dX2_mix_14 : decode cX2_mix 14 = .ok (.iload_n 1, 1) := dk_27 (dk_at dksX2_mix_0 14 rfl rfl)
theorem dX2_mix_15 : decode cX2_mix 15 = .ok (.iload_n 2, 1) := dk_28 (dk_at dksX2_mix_0 15 rfl rfl)
theorem dX2_mix_16 : decode cX2_mix 16 = .ok (.if_icmp .eq 18, 3) := dk_159 0 18 (dk_at dksX2_mix_0 16 rfl rfl)
theorem dX2_mix_19 : decode cX2_mix 19 = .ok (.iload_n 3, 1) := dk_29 (dk_at dksX2_mix_0 19 rfl rfl)
theorem dX2_mix_20 : decode cX2_mix 20 = .ok (.iconst 1, 1) := dk_4 (dk_at dksX2_mix_0 20 rfl rfl)
theorem dX2_mix_21 : decode cX2_mix 21 = .ok (.sipush 999, 3) := dk_17 3 231 (dk_at dksX2_mix_0 21 rfl rfl)
theorem dX2_mix_24 : decode cX2_mix 24 = .ok (.invokestatic 51, 3) := dk_184 0 51 (dk_at dksX2_mix_1 0 rfl rfl)
theorem dX2_mix_27 : decode cX2_mix 27 = .ok (.ifCond .eq 7, 3) := dk_153 0 7 (dk_at dksX2_mix_1 3 rfl rfl)
theorem dX2_mix_30 : decode cX2_mix 30 = .ok (.iconst 1, 1) := dk_4 (dk_at dksX2_mix_1 6 rfl rfl)
theorem dX2_mix_31 : decode cX2_mix 31 = .ok (.goto 4, 3) := dk_167 0 4 (dk_at dksX2_mix_1 7 rfl rfl)
theorem dX2_mix_34 : decode cX2_mix 34 = .ok (.iconst 0, 1) := dk_3 (dk_at dksX2_mix_1 10 rfl rfl)
theorem dX2_mix_35 : decode cX2_mix 35 = .ok (.invokestatic 90, 3) := dk_184 0 90 (dk_at dksX2_mix_1 11 rfl rfl)
theorem dX2_mix_38 : decode cX2_mix 38 = .ok (.aload 4, 2) := dk_25 4 (dk_at dksX2_mix_1 14 rfl rfl)
theorem dX2_mix_40 : decode cX2_mix 40 = .ok (.getfield 122, 3) := dk_180 0 122 (dk_at dksX2_mix_1 16 rfl rfl)
theorem dX2_mix_43 : decode cX2_mix 43 = .ok (.aload 5, 2) := dk_25 5 (dk_at dksX2_mix_1 19 rfl rfl)
theorem dX2_mix_45 : decode cX2_mix 45 = .ok (.getfield 122, 3) := dk_180 0 122 (dk_at dksX2_mix_1 21 rfl rfl)
theorem dX2_mix_48 : decode cX2_mix 48 = .ok (.if_icmp .ne 7, 3) := dk_160 0 7 (dk_at dksX2_mix_2 0 rfl rfl)
theorem dX2_mix_51 : decode cX2_mix 51 = .ok (.iconst 1, 1) := dk_4 (dk_at dksX2_mix_2 3 rfl rfl)
theorem dX2_mix_52 : decode cX2_mix 52 = .ok (.goto 4, 3) := dk_167 0 4 (dk_at dksX2_mix_2 4 rfl rfl)
theorem dX2_mix_55 : decode cX2_mix 55 = .ok (.iconst 0, 1) := dk_3 (dk_at dksX2_mix_2 7 rfl rfl)
theorem dX2_mix_56 : decode cX2_mix 56 = .ok (.bipush 13, 2) := dk_16 13 (dk_at dksX2_mix_2 8 rfl rfl)
theorem dX2_mix_58 : decode cX2_mix 58 = .ok (.aload 5, 2) := dk_25 5 (dk_at dksX2_mix_2 10 rfl rfl)
theorem dX2_mix_60 : decode cX2_mix 60 = .ok (.getfield 122, 3) := dk_180 0 122 (dk_at dksX2_mix_2 12 rfl rfl)
theorem dX2_mix_63 : decode cX2_mix 63 = .ok (.invokestatic 93, 3) := dk_184 0 93 (dk_at dksX2_mix_2 15 rfl rfl)
theorem dX2_mix_66 : decode cX2_mix 66 = .ok (.aload 4, 2) := dk_25 4 (dk_at dksX2_mix_2 18 rfl rfl)
theorem dX2_mix_68 : decode cX2_mix 68 = .ok (.getfield 125, 3) := dk_180 0 125 (dk_at dksX2_mix_2 20 rfl rfl)
theorem dX2_mix_71 : decode cX2_mix 71 = .ok (.iload_n 3, 1) := dk_29 (dk_at dksX2_mix_2 23 rfl rfl)
theorem dX2_mix_72 : decode cX2_mix 72 = .ok (.if_icmp .lt 7, 3) := dk_161 0 7 (dk_at dksX2_mix_3 0 rfl rfl)
theorem dX2_mix_75 : decode cX2_mix 75 = .ok (.iconst 1, 1) := dk_4 (dk_at dksX2_mix_3 3 rfl rfl)
theorem dX2_mix_76 : decode cX2_mix 76 = .ok (.goto 4, 3) := dk_167 0 4 (dk_at dksX2_mix_3 4 rfl rfl)
theorem dX2_mix_79 : decode cX2_mix 79 = .ok (.iconst 0, 1) := dk_3 (dk_at dksX2_mix_3 7 rfl rfl)
theorem dX2_mix_80 : decode cX2_mix 80 = .ok (.iconst 3, 1) := dk_6 (dk_at dksX2_mix_3 8 rfl rfl)
theorem dX2_mix_81 : decode cX2_mix 81 = .ok (.aload 4, 2) := dk_25 4 (dk_at dksX2_mix_3 9 rfl rfl)
theorem dX2_mix_83 : decode cX2_mix 83 = .ok (.getfield 125, 3) := dk_180 0 125 (dk_at dksX2_mix_3 11 rfl rfl)
theorem dX2_mix_86 : decode cX2_mix 86 = .ok (.invokestatic 93, 3) := dk_184 0 93 (dk_at dksX2_mix_3 14 rfl rfl)
theorem dX2_mix_89 : decode cX2_mix 89 = .ok (.aload_n 0, 1) := dk_42 (dk_at dksX2_mix_3 17 rfl rfl)
theorem dX2_mix_90 : decode cX2_mix 90 = .ok (.getfield 18, 3) := dk_180 0 18 (dk_at dksX2_mix_3 18 rfl rfl)
theorem dX2_mix_93 : decode cX2_mix 93 = .ok (.iload_n 1, 1) := dk_27 (dk_at dksX2_mix_3 21 rfl rfl)
theorem dX2_mix_94 : decode cX2_mix 94 = .ok (.aload 4, 2) := dk_25 4 (dk_at dksX2_mix_3 22 rfl rfl)
theorem dX2_mix_96 : decode cX2_mix 96 = .ok (.iload_n 3, 1) := dk_29 (dk_at dksX2_mix_4 0 rfl rfl)
theorem dX2_mix_97 : decode cX2_mix 97 = .ok (.invokevirtual 128, 3) := dk_182 0 128 (dk_at dksX2_mix_4 1 rfl rfl)
theorem dX2_mix_100 : decode cX2_mix 100 = .ok (.invokeinterface 108 3, 5) := by decide +kernel
theorem dX2_mix_105 : decode cX2_mix 105 = .ok (.checkcast 61, 3) := dk_192 0 61 (dk_at dksX2_mix_4 9 rfl rfl)
theorem dX2_mix_108 : decode cX2_mix 108 = .ok (.astore 6, 2) := dk_58 6 (dk_at dksX2_mix_4 12 rfl rfl)
theorem dX2_mix_110 : decode cX2_mix 110 = .ok (.aload 5, 2) := dk_25 5 (dk_at dksX2_mix_4 14 rfl rfl)
theorem dX2_mix_112 : decode cX2_mix 112 = .ok (.aload 4, 2) := dk_25 4 (dk_at dksX2_mix_4 16 rfl rfl)
theorem dX2_mix_114 : decode cX2_mix 114 = .ok (.getfield 131, 3) := dk_180 0 131 (dk_at dksX2_mix_4 18 rfl rfl)
theorem dX2_mix_117 : decode cX2_mix 117 = .ok (.iload_n 3, 1) := dk_29 (dk_at dksX2_mix_4 21 rfl rfl)
theorem dX2_mix_118 : decode cX2_mix 118 = .ok (.invokevirtual 134, 3) := dk_182 0 134 (dk_at dksX2_mix_5 0 rfl rfl)
theorem dX2_mix_121 : decode cX2_mix 121 = .ok (.astore 7, 2) := dk_58 7 (dk_at dksX2_mix_5 3 rfl rfl)
theorem dX2_mix_123 : decode cX2_mix 123 = .ok (.aload_n 0, 1) := dk_42 (dk_at dksX2_mix_5 5 rfl rfl)
theorem dX2_mix_124 : decode cX2_mix 124 = .ok (.getfield 18, 3) := dk_180 0 18 (dk_at dksX2_mix_5 6 rfl rfl)
theorem dX2_mix_127 : decode cX2_mix 127 = .ok (.iload_n 2, 1) := dk_28 (dk_at dksX2_mix_5 9 rfl rfl)
theorem dX2_mix_128 : decode cX2_mix 128 = .ok (.aload 7, 2) := dk_25 7 (dk_at dksX2_mix_5 10 rfl rfl)
theorem dX2_mix_130 : decode cX2_mix 130 = .ok (.invokeinterface 108 3, 5) := by decide +kernel
theorem dX2_mix_135 : decode cX2_mix 135 = .ok (.checkcast 61, 3) := dk_192 0 61 (dk_at dksX2_mix_5 17 rfl rfl)
theorem dX2_mix_138 : decode cX2_mix 138 = .ok (.astore 8, 2) := dk_58 8 (dk_at dksX2_mix_5 20 rfl rfl)
theorem dX2_mix_140 : decode cX2_mix 140 = .ok (.aload 7, 2) := dk_25 7 (dk_at dksX2_mix_5 22 rfl rfl)
theorem dX2_mix_142 : decode cX2_mix 142 = .ok (.getfield 131, 3) := dk_180 0 131 (dk_at dksX2_mix_6 0 rfl rfl)
theorem dX2_mix_145 : decode cX2_mix 145 = .ok (.ireturn, 1) := dk_172 (dk_at dksX2_mix_6 3 rfl rfl)
abbrev cX2_ink : ByteArray := prog_14_method_4_code
def yX2_ink : MethodName := ⟨RX2, "ink", "(I)LBlockPapers$Ink;"⟩
def dkwX2_ink_1 : List UInt8 := [185, 0, 40, 2, 0, 192, 0, 61, 176]
abbrev dktX2_ink_1 : List UInt8 := dkwX2_ink_1 ++ []
def dkwX2_ink_0 : List UInt8 := [27, 3, 42, 180, 0, 18, 185, 0, 34, 1, 0, 4, 100, 184, 0, 51, 184, 0, 55, 42, 180, 0, 18, 27]
abbrev dktX2_ink_0 : List UInt8 := dkwX2_ink_0 ++ dktX2_ink_1
theorem dksX2_ink_0 : cX2_ink.data.toList.drop 0 = dktX2_ink_0 := by decide +kernel
theorem dksX2_ink_1 : cX2_ink.data.toList.drop 24 = dktX2_ink_1 := dk_seg dksX2_ink_0 24 rfl rfl
theorem dX2_ink_0 : decode cX2_ink 0 = .ok (.iload_n 1, 1) := dk_27 (dk_at dksX2_ink_0 0 rfl rfl)
theorem dX2_ink_1 : decode cX2_ink 1 = .ok (.iconst 0, 1) := dk_3 (dk_at dksX2_ink_0 1 rfl rfl)
theorem dX2_ink_2 : decode cX2_ink 2 = .ok (.aload_n 0, 1) := dk_42 (dk_at dksX2_ink_0 2 rfl rfl)
theorem dX2_ink_3 : decode cX2_ink 3 = .ok (.getfield 18, 3) := dk_180 0 18 (dk_at dksX2_ink_0 3 rfl rfl)
theorem dX2_ink_6 : decode cX2_ink 6 = .ok (.invokeinterface 34 1, 5) := by decide +kernel
theorem dX2_ink_11 : decode cX2_ink 11 = .ok (.iconst 1, 1) := dk_4 (dk_at dksX2_ink_0 11 rfl rfl)
theorem dX2_ink_12 : decode cX2_ink 12 = .ok (.isub, 1) := dk_100 (dk_at dksX2_ink_0 12 rfl rfl)
theorem dX2_ink_13 : decode cX2_ink 13 = .ok (.invokestatic 51, 3) := dk_184 0 51 (dk_at dksX2_ink_0 13 rfl rfl)
theorem dX2_ink_16 : decode cX2_ink 16 = .ok (.invokestatic 55, 3) := dk_184 0 55 (dk_at dksX2_ink_0 16 rfl rfl)
theorem dX2_ink_19 : decode cX2_ink 19 = .ok (.aload_n 0, 1) := dk_42 (dk_at dksX2_ink_0 19 rfl rfl)
theorem dX2_ink_20 : decode cX2_ink 20 = .ok (.getfield 18, 3) := dk_180 0 18 (dk_at dksX2_ink_0 20 rfl rfl)
theorem dX2_ink_23 : decode cX2_ink 23 = .ok (.iload_n 1, 1) := dk_27 (dk_at dksX2_ink_0 23 rfl rfl)
theorem dX2_ink_24 : decode cX2_ink 24 = .ok (.invokeinterface 40 2, 5) := by decide +kernel
theorem dX2_ink_29 : decode cX2_ink 29 = .ok (.checkcast 61, 3) := dk_192 0 61 (dk_at dksX2_ink_1 5 rfl rfl)
theorem dX2_ink_32 : decode cX2_ink 32 = .ok (.areturn, 1) := dk_176 (dk_at dksX2_ink_1 8 rfl rfl)
abbrev cX2_print : ByteArray := prog_14_method_12_code
def yX2_print : MethodName := ⟨RX2, "print", "(III)I"⟩
def dkwX2_print_8 : List UInt8 := [185, 0, 108, 3, 0, 192, 0, 61, 58, 8, 42, 180, 0, 21, 185, 0, 34, 1, 0, 4, 100, 172]
abbrev dktX2_print_8 : List UInt8 := dkwX2_print_8 ++ []
def dkwX2_print_7 : List UInt8 := [185, 0, 108, 3, 0, 192, 0, 59, 58, 7, 42, 180, 0, 18, 28, 25, 5, 21, 6, 182, 0, 128]
abbrev dktX2_print_7 : List UInt8 := dkwX2_print_7 ++ dktX2_print_8
def dkwX2_print_6 : List UInt8 := [185, 0, 47, 2, 0, 87, 42, 180, 0, 12, 27, 25, 4, 29, 16, 100, 108, 182, 0, 141]
abbrev dktX2_print_6 : List UInt8 := dkwX2_print_6 ++ dktX2_print_7
def dkwX2_print_5 : List UInt8 := [25, 5, 180, 0, 122, 25, 5, 180, 0, 131, 25, 4, 180, 0, 112, 16, 25, 108, 96, 29, 183, 0, 138]
abbrev dktX2_print_5 : List UInt8 := dkwX2_print_5 ++ dktX2_print_6
def dkwX2_print_4 : List UInt8 := [162, 0, 7, 4, 167, 0, 4, 3, 4, 16, 24, 184, 0, 93, 42, 180, 0, 21, 187, 0, 63, 89, 27, 28]
abbrev dktX2_print_4 : List UInt8 := dkwX2_print_4 ++ dktX2_print_5
def dkwX2_print_3 : List UInt8 := [167, 0, 4, 3, 6, 25, 5, 180, 0, 125, 184, 0, 93, 42, 180, 0, 21, 185, 0, 34, 1, 0, 16, 24]
abbrev dktX2_print_3 : List UInt8 := dkwX2_print_3 ++ dktX2_print_4
def dkwX2_print_2 : List UInt8 := [167, 0, 4, 3, 5, 25, 4, 180, 0, 112, 184, 0, 93, 25, 5, 180, 0, 125, 21, 6, 161, 0, 7, 4]
abbrev dktX2_print_2 : List UInt8 := dkwX2_print_2 ++ dktX2_print_3
def dkwX2_print_1 : List UInt8 := [184, 0, 90, 4, 29, 16, 20, 108, 96, 54, 6, 25, 4, 180, 0, 112, 16, 100, 162, 0, 7, 4]
abbrev dktX2_print_1 : List UInt8 := dkwX2_print_1 ++ dktX2_print_2
def dkwX2_print_0 : List UInt8 := [42, 27, 182, 0, 100, 58, 4, 42, 28, 182, 0, 118, 58, 5, 29, 16, 100, 17, 3, 232, 184, 0, 51]
abbrev dktX2_print_0 : List UInt8 := dkwX2_print_0 ++ dktX2_print_1
theorem dksX2_print_0 : cX2_print.data.toList.drop 0 = dktX2_print_0 := by decide +kernel
theorem dksX2_print_1 : cX2_print.data.toList.drop 23 = dktX2_print_1 := dk_seg dksX2_print_0 23 rfl rfl
theorem dksX2_print_2 : cX2_print.data.toList.drop 45 = dktX2_print_2 := dk_seg dksX2_print_1 22 rfl rfl
theorem dksX2_print_3 : cX2_print.data.toList.drop 69 = dktX2_print_3 := dk_seg dksX2_print_2 24 rfl rfl
theorem dksX2_print_4 : cX2_print.data.toList.drop 93 = dktX2_print_4 := dk_seg dksX2_print_3 24 rfl rfl
theorem dksX2_print_5 : cX2_print.data.toList.drop 117 = dktX2_print_5 := dk_seg dksX2_print_4 24 rfl rfl
theorem dksX2_print_6 : cX2_print.data.toList.drop 140 = dktX2_print_6 := dk_seg dksX2_print_5 23 rfl rfl
theorem dksX2_print_7 : cX2_print.data.toList.drop 160 = dktX2_print_7 := dk_seg dksX2_print_6 20 rfl rfl
theorem dksX2_print_8 : cX2_print.data.toList.drop 182 = dktX2_print_8 := dk_seg dksX2_print_7 22 rfl rfl
theorem dX2_print_0 : decode cX2_print 0 = .ok (.aload_n 0, 1) := dk_42 (dk_at dksX2_print_0 0 rfl rfl)
theorem dX2_print_1 : decode cX2_print 1 = .ok (.iload_n 1, 1) := dk_27 (dk_at dksX2_print_0 1 rfl rfl)
theorem dX2_print_2 : decode cX2_print 2 = .ok (.invokevirtual 100, 3) := dk_182 0 100 (dk_at dksX2_print_0 2 rfl rfl)
theorem dX2_print_5 : decode cX2_print 5 = .ok (.astore 4, 2) := dk_58 4 (dk_at dksX2_print_0 5 rfl rfl)
theorem dX2_print_7 : decode cX2_print 7 = .ok (.aload_n 0, 1) := dk_42 (dk_at dksX2_print_0 7 rfl rfl)
theorem dX2_print_8 : decode cX2_print 8 = .ok (.iload_n 2, 1) := dk_28 (dk_at dksX2_print_0 8 rfl rfl)
theorem dX2_print_9 : decode cX2_print 9 = .ok (.invokevirtual 118, 3) := dk_182 0 118 (dk_at dksX2_print_0 9 rfl rfl)
theorem dX2_print_12 : decode cX2_print 12 = .ok (.astore 5, 2) := dk_58 5 (dk_at dksX2_print_0 12 rfl rfl)
theorem dX2_print_14 : decode cX2_print 14 = .ok (.iload_n 3, 1) := dk_29 (dk_at dksX2_print_0 14 rfl rfl)
theorem dX2_print_15 : decode cX2_print 15 = .ok (.bipush 100, 2) := dk_16 100 (dk_at dksX2_print_0 15 rfl rfl)
theorem dX2_print_17 : decode cX2_print 17 = .ok (.sipush 1000, 3) := dk_17 3 232 (dk_at dksX2_print_0 17 rfl rfl)
theorem dX2_print_20 : decode cX2_print 20 = .ok (.invokestatic 51, 3) := dk_184 0 51 (dk_at dksX2_print_0 20 rfl rfl)
theorem dX2_print_23 : decode cX2_print 23 = .ok (.invokestatic 90, 3) := dk_184 0 90 (dk_at dksX2_print_1 0 rfl rfl)
theorem dX2_print_26 : decode cX2_print 26 = .ok (.iconst 1, 1) := dk_4 (dk_at dksX2_print_1 3 rfl rfl)
theorem dX2_print_27 : decode cX2_print 27 = .ok (.iload_n 3, 1) := dk_29 (dk_at dksX2_print_1 4 rfl rfl)
theorem dX2_print_28 : decode cX2_print 28 = .ok (.bipush 20, 2) := dk_16 20 (dk_at dksX2_print_1 5 rfl rfl)
theorem dX2_print_30 : decode cX2_print 30 = .ok (.idiv, 1) := dk_108 (dk_at dksX2_print_1 7 rfl rfl)
theorem dX2_print_31 : decode cX2_print 31 = .ok (.iadd, 1) := dk_96 (dk_at dksX2_print_1 8 rfl rfl)
theorem dX2_print_32 : decode cX2_print 32 = .ok (.istore 6, 2) := dk_54 6 (dk_at dksX2_print_1 9 rfl rfl)
theorem dX2_print_34 : decode cX2_print 34 = .ok (.aload 4, 2) := dk_25 4 (dk_at dksX2_print_1 11 rfl rfl)
theorem dX2_print_36 : decode cX2_print 36 = .ok (.getfield 112, 3) := dk_180 0 112 (dk_at dksX2_print_1 13 rfl rfl)
theorem dX2_print_39 : decode cX2_print 39 = .ok (.bipush 100, 2) := dk_16 100 (dk_at dksX2_print_1 16 rfl rfl)
theorem dX2_print_41 : decode cX2_print 41 = .ok (.if_icmp .ge 7, 3) := dk_162 0 7 (dk_at dksX2_print_1 18 rfl rfl)
theorem dX2_print_44 : decode cX2_print 44 = .ok (.iconst 1, 1) := dk_4 (dk_at dksX2_print_1 21 rfl rfl)
theorem dX2_print_45 : decode cX2_print 45 = .ok (.goto 4, 3) := dk_167 0 4 (dk_at dksX2_print_2 0 rfl rfl)
theorem dX2_print_48 : decode cX2_print 48 = .ok (.iconst 0, 1) := dk_3 (dk_at dksX2_print_2 3 rfl rfl)
theorem dX2_print_49 : decode cX2_print 49 = .ok (.iconst 2, 1) := dk_5 (dk_at dksX2_print_2 4 rfl rfl)
theorem dX2_print_50 : decode cX2_print 50 = .ok (.aload 4, 2) := dk_25 4 (dk_at dksX2_print_2 5 rfl rfl)
theorem dX2_print_52 : decode cX2_print 52 = .ok (.getfield 112, 3) := dk_180 0 112 (dk_at dksX2_print_2 7 rfl rfl)
theorem dX2_print_55 : decode cX2_print 55 = .ok (.invokestatic 93, 3) := dk_184 0 93 (dk_at dksX2_print_2 10 rfl rfl)
theorem dX2_print_58 : decode cX2_print 58 = .ok (.aload 5, 2) := dk_25 5 (dk_at dksX2_print_2 13 rfl rfl)
theorem dX2_print_60 : decode cX2_print 60 = .ok (.getfield 125, 3) := dk_180 0 125 (dk_at dksX2_print_2 15 rfl rfl)
theorem dX2_print_63 : decode cX2_print 63 = .ok (.iload 6, 2) := dk_21 6 (dk_at dksX2_print_2 18 rfl rfl)
theorem dX2_print_65 : decode cX2_print 65 = .ok (.if_icmp .lt 7, 3) := dk_161 0 7 (dk_at dksX2_print_2 20 rfl rfl)
theorem dX2_print_68 : decode cX2_print 68 = .ok (.iconst 1, 1) := dk_4 (dk_at dksX2_print_2 23 rfl rfl)
theorem dX2_print_69 : decode cX2_print 69 = .ok (.goto 4, 3) := dk_167 0 4 (dk_at dksX2_print_3 0 rfl rfl)
theorem dX2_print_72 : decode cX2_print 72 = .ok (.iconst 0, 1) := dk_3 (dk_at dksX2_print_3 3 rfl rfl)
theorem dX2_print_73 : decode cX2_print 73 = .ok (.iconst 3, 1) := dk_6 (dk_at dksX2_print_3 4 rfl rfl)
theorem dX2_print_74 : decode cX2_print 74 = .ok (.aload 5, 2) := dk_25 5 (dk_at dksX2_print_3 5 rfl rfl)
theorem dX2_print_76 : decode cX2_print 76 = .ok (.getfield 125, 3) := dk_180 0 125 (dk_at dksX2_print_3 7 rfl rfl)
theorem dX2_print_79 : decode cX2_print 79 = .ok (.invokestatic 93, 3) := dk_184 0 93 (dk_at dksX2_print_3 10 rfl rfl)
theorem dX2_print_82 : decode cX2_print 82 = .ok (.aload_n 0, 1) := dk_42 (dk_at dksX2_print_3 13 rfl rfl)
theorem dX2_print_83 : decode cX2_print 83 = .ok (.getfield 21, 3) := dk_180 0 21 (dk_at dksX2_print_3 14 rfl rfl)
theorem dX2_print_86 : decode cX2_print 86 = .ok (.invokeinterface 34 1, 5) := by decide +kernel
theorem dX2_print_91 : decode cX2_print 91 = .ok (.bipush 24, 2) := dk_16 24 (dk_at dksX2_print_3 22 rfl rfl)
theorem dX2_print_93 : decode cX2_print 93 = .ok (.if_icmp .ge 7, 3) := dk_162 0 7 (dk_at dksX2_print_4 0 rfl rfl)
theorem dX2_print_96 : decode cX2_print 96 = .ok (.iconst 1, 1) := dk_4 (dk_at dksX2_print_4 3 rfl rfl)
theorem dX2_print_97 : decode cX2_print 97 = .ok (.goto 4, 3) := dk_167 0 4 (dk_at dksX2_print_4 4 rfl rfl)
theorem dX2_print_100 : decode cX2_print 100 = .ok (.iconst 0, 1) := dk_3 (dk_at dksX2_print_4 7 rfl rfl)
theorem dX2_print_101 : decode cX2_print 101 = .ok (.iconst 1, 1) := dk_4 (dk_at dksX2_print_4 8 rfl rfl)
theorem dX2_print_102 : decode cX2_print 102 = .ok (.bipush 24, 2) := dk_16 24 (dk_at dksX2_print_4 9 rfl rfl)
theorem dX2_print_104 : decode cX2_print 104 = .ok (.invokestatic 93, 3) := dk_184 0 93 (dk_at dksX2_print_4 11 rfl rfl)
theorem dX2_print_107 : decode cX2_print 107 = .ok (.aload_n 0, 1) := dk_42 (dk_at dksX2_print_4 14 rfl rfl)
theorem dX2_print_108 : decode cX2_print 108 = .ok (.getfield 21, 3) := dk_180 0 21 (dk_at dksX2_print_4 15 rfl rfl)
theorem dX2_print_111 : decode cX2_print 111 = .ok (.new 63, 3) := dk_187 0 63 (dk_at dksX2_print_4 18 rfl rfl)
theorem dX2_print_114 : decode cX2_print 114 = .ok (.dup, 1) := dk_89 (dk_at dksX2_print_4 21 rfl rfl)
theorem dX2_print_115 : decode cX2_print 115 = .ok (.iload_n 1, 1) := dk_27 (dk_at dksX2_print_4 22 rfl rfl)
theorem dX2_print_116 : decode cX2_print 116 = .ok (.iload_n 2, 1) := dk_28 (dk_at dksX2_print_4 23 rfl rfl)
theorem dX2_print_117 : decode cX2_print 117 = .ok (.aload 5, 2) := dk_25 5 (dk_at dksX2_print_5 0 rfl rfl)
theorem dX2_print_119 : decode cX2_print 119 = .ok (.getfield 122, 3) := dk_180 0 122 (dk_at dksX2_print_5 2 rfl rfl)
theorem dX2_print_122 : decode cX2_print 122 = .ok (.aload 5, 2) := dk_25 5 (dk_at dksX2_print_5 5 rfl rfl)
theorem dX2_print_124 : decode cX2_print 124 = .ok (.getfield 131, 3) := dk_180 0 131 (dk_at dksX2_print_5 7 rfl rfl)
theorem dX2_print_127 : decode cX2_print 127 = .ok (.aload 4, 2) := dk_25 4 (dk_at dksX2_print_5 10 rfl rfl)
theorem dX2_print_129 : decode cX2_print 129 = .ok (.getfield 112, 3) := dk_180 0 112 (dk_at dksX2_print_5 12 rfl rfl)
theorem dX2_print_132 : decode cX2_print 132 = .ok (.bipush 25, 2) := dk_16 25 (dk_at dksX2_print_5 15 rfl rfl)
theorem dX2_print_134 : decode cX2_print 134 = .ok (.idiv, 1) := dk_108 (dk_at dksX2_print_5 17 rfl rfl)
theorem dX2_print_135 : decode cX2_print 135 = .ok (.iadd, 1) := dk_96 (dk_at dksX2_print_5 18 rfl rfl)
theorem dX2_print_136 : decode cX2_print 136 = .ok (.iload_n 3, 1) := dk_29 (dk_at dksX2_print_5 19 rfl rfl)
theorem dX2_print_137 : decode cX2_print 137 = .ok (.invokespecial 138, 3) := dk_183 0 138 (dk_at dksX2_print_5 20 rfl rfl)
theorem dX2_print_140 : decode cX2_print 140 = .ok (.invokeinterface 47 2, 5) := by decide +kernel
theorem dX2_print_145 : decode cX2_print 145 = .ok (.pop, 1) := dk_87 (dk_at dksX2_print_6 5 rfl rfl)
theorem dX2_print_146 : decode cX2_print 146 = .ok (.aload_n 0, 1) := dk_42 (dk_at dksX2_print_6 6 rfl rfl)
theorem dX2_print_147 : decode cX2_print 147 = .ok (.getfield 12, 3) := dk_180 0 12 (dk_at dksX2_print_6 7 rfl rfl)
theorem dX2_print_150 : decode cX2_print 150 = .ok (.iload_n 1, 1) := dk_27 (dk_at dksX2_print_6 10 rfl rfl)
theorem dX2_print_151 : decode cX2_print 151 = .ok (.aload 4, 2) := dk_25 4 (dk_at dksX2_print_6 11 rfl rfl)
theorem dX2_print_153 : decode cX2_print 153 = .ok (.iload_n 3, 1) := dk_29 (dk_at dksX2_print_6 13 rfl rfl)
theorem dX2_print_154 : decode cX2_print 154 = .ok (.bipush 100, 2) := dk_16 100 (dk_at dksX2_print_6 14 rfl rfl)
theorem dX2_print_156 : decode cX2_print 156 = .ok (.idiv, 1) := dk_108 (dk_at dksX2_print_6 16 rfl rfl)
theorem dX2_print_157 : decode cX2_print 157 = .ok (.invokevirtual 141, 3) := dk_182 0 141 (dk_at dksX2_print_6 17 rfl rfl)
theorem dX2_print_160 : decode cX2_print 160 = .ok (.invokeinterface 108 3, 5) := by decide +kernel
theorem dX2_print_165 : decode cX2_print 165 = .ok (.checkcast 59, 3) := dk_192 0 59 (dk_at dksX2_print_7 5 rfl rfl)
theorem dX2_print_168 : decode cX2_print 168 = .ok (.astore 7, 2) := dk_58 7 (dk_at dksX2_print_7 8 rfl rfl)
theorem dX2_print_170 : decode cX2_print 170 = .ok (.aload_n 0, 1) := dk_42 (dk_at dksX2_print_7 10 rfl rfl)
theorem dX2_print_171 : decode cX2_print 171 = .ok (.getfield 18, 3) := dk_180 0 18 (dk_at dksX2_print_7 11 rfl rfl)
theorem dX2_print_174 : decode cX2_print 174 = .ok (.iload_n 2, 1) := dk_28 (dk_at dksX2_print_7 14 rfl rfl)
theorem dX2_print_175 : decode cX2_print 175 = .ok (.aload 5, 2) := dk_25 5 (dk_at dksX2_print_7 15 rfl rfl)
theorem dX2_print_177 : decode cX2_print 177 = .ok (.iload 6, 2) := dk_21 6 (dk_at dksX2_print_7 17 rfl rfl)
theorem dX2_print_179 : decode cX2_print 179 = .ok (.invokevirtual 128, 3) := dk_182 0 128 (dk_at dksX2_print_7 19 rfl rfl)
theorem dX2_print_182 : decode cX2_print 182 = .ok (.invokeinterface 108 3, 5) := by decide +kernel
theorem dX2_print_187 : decode cX2_print 187 = .ok (.checkcast 61, 3) := dk_192 0 61 (dk_at dksX2_print_8 5 rfl rfl)
theorem dX2_print_190 : decode cX2_print 190 = .ok (.astore 8, 2) := dk_58 8 (dk_at dksX2_print_8 8 rfl rfl)
theorem dX2_print_192 : decode cX2_print 192 = .ok (.aload_n 0, 1) := dk_42 (dk_at dksX2_print_8 10 rfl rfl)
theorem dX2_print_193 : decode cX2_print 193 = .ok (.getfield 21, 3) := dk_180 0 21 (dk_at dksX2_print_8 11 rfl rfl)
theorem dX2_print_196 : decode cX2_print 196 = .ok (.invokeinterface 34 1, 5) := by decide +kernel
theorem dX2_print_201 : decode cX2_print 201 = .ok (.iconst 1, 1) := dk_4 (dk_at dksX2_print_8 19 rfl rfl)
theorem dX2_print_202 : decode cX2_print 202 = .ok (.isub, 1) := dk_100 (dk_at dksX2_print_8 20 rfl rfl)
theorem dX2_print_203 : decode cX2_print 203 = .ok (.ireturn, 1) := dk_172 (dk_at dksX2_print_8 21 rfl rfl)
abbrev cX2_giveBack : ByteArray := prog_14_method_14_code
def yX2_giveBack : MethodName := ⟨RX2, "giveBack", "(I)I"⟩
def dkwX2_giveBack_4 : List UInt8 := [27, 44, 182, 0, 165, 185, 0, 108, 3, 0, 192, 0, 63, 58, 4, 44, 180, 0, 169, 172]
abbrev dktX2_giveBack_4 : List UInt8 := dkwX2_giveBack_4 ++ []
def dkwX2_giveBack_3 : List UInt8 := [184, 0, 160, 62, 29, 4, 163, 0, 7, 4, 167, 0, 4, 3, 16, 12, 29, 184, 0, 93, 42, 180, 0, 21]
abbrev dktX2_giveBack_3 : List UInt8 := dkwX2_giveBack_3 ++ dktX2_giveBack_4
def dkwX2_giveBack_2 : List UInt8 := [42, 180, 0, 18, 42, 44, 180, 0, 155, 182, 0, 156, 185, 0, 40, 2, 0, 192, 0, 61, 180, 0, 131, 100]
abbrev dktX2_giveBack_2 : List UInt8 := dkwX2_giveBack_2 ++ dktX2_giveBack_3
def dkwX2_giveBack_1 : List UInt8 := [180, 0, 151, 154, 0, 7, 4, 167, 0, 4, 3, 16, 11, 44, 180, 0, 151, 184, 0, 93, 44, 180, 0, 154]
abbrev dktX2_giveBack_1 : List UInt8 := dkwX2_giveBack_1 ++ dktX2_giveBack_2
def dkwX2_giveBack_0 : List UInt8 := [42, 27, 182, 0, 144, 77, 44, 180, 0, 147, 154, 0, 7, 4, 167, 0, 4, 3, 8, 27, 184, 0, 93, 44]
abbrev dktX2_giveBack_0 : List UInt8 := dkwX2_giveBack_0 ++ dktX2_giveBack_1
theorem dksX2_giveBack_0 : cX2_giveBack.data.toList.drop 0 = dktX2_giveBack_0 := by decide +kernel
theorem dksX2_giveBack_1 : cX2_giveBack.data.toList.drop 24 = dktX2_giveBack_1 := dk_seg dksX2_giveBack_0 24 rfl rfl
theorem dksX2_giveBack_2 : cX2_giveBack.data.toList.drop 48 = dktX2_giveBack_2 := dk_seg dksX2_giveBack_1 24 rfl rfl
theorem dksX2_giveBack_3 : cX2_giveBack.data.toList.drop 72 = dktX2_giveBack_3 := dk_seg dksX2_giveBack_2 24 rfl rfl
theorem dksX2_giveBack_4 : cX2_giveBack.data.toList.drop 96 = dktX2_giveBack_4 := dk_seg dksX2_giveBack_3 24 rfl rfl
theorem dX2_giveBack_0 : decode cX2_giveBack 0 = .ok (.aload_n 0, 1) := dk_42 (dk_at dksX2_giveBack_0 0 rfl rfl)
theorem dX2_giveBack_1 : decode cX2_giveBack 1 = .ok (.iload_n 1, 1) := dk_27 (dk_at dksX2_giveBack_0 1 rfl rfl)
theorem dX2_giveBack_2 : decode cX2_giveBack 2 = .ok (.invokevirtual 144, 3) := dk_182 0 144 (dk_at dksX2_giveBack_0 2 rfl rfl)
theorem dX2_giveBack_5 : decode cX2_giveBack 5 = .ok (.astore_n 2, 1) := dk_77 (dk_at dksX2_giveBack_0 5 rfl rfl)
theorem dX2_giveBack_6 : decode cX2_giveBack 6 = .ok (.aload_n 2, 1) := dk_44 (dk_at dksX2_giveBack_0 6 rfl rfl)
theorem dX2_giveBack_7 : decode cX2_giveBack 7 = .ok (.getfield 147, 3) := dk_180 0 147 (dk_at dksX2_giveBack_0 7 rfl rfl)
theorem dX2_giveBack_10 : decode cX2_giveBack 10 = .ok (.ifCond .ne 7, 3) := dk_154 0 7 (dk_at dksX2_giveBack_0 10 rfl rfl)
theorem dX2_giveBack_13 : decode cX2_giveBack 13 = .ok (.iconst 1, 1) := dk_4 (dk_at dksX2_giveBack_0 13 rfl rfl)
theorem dX2_giveBack_14 : decode cX2_giveBack 14 = .ok (.goto 4, 3) := dk_167 0 4 (dk_at dksX2_giveBack_0 14 rfl rfl)
theorem dX2_giveBack_17 : decode cX2_giveBack 17 = .ok (.iconst 0, 1) := dk_3 (dk_at dksX2_giveBack_0 17 rfl rfl)
theorem dX2_giveBack_18 : decode cX2_giveBack 18 = .ok (.iconst 5, 1) := dk_8 (dk_at dksX2_giveBack_0 18 rfl rfl)
theorem dX2_giveBack_19 : decode cX2_giveBack 19 = .ok (.iload_n 1, 1) := dk_27 (dk_at dksX2_giveBack_0 19 rfl rfl)
theorem dX2_giveBack_20 : decode cX2_giveBack 20 = .ok (.invokestatic 93, 3) := dk_184 0 93 (dk_at dksX2_giveBack_0 20 rfl rfl)
theorem dX2_giveBack_23 : decode cX2_giveBack 23 = .ok (.aload_n 2, 1) := dk_44 (dk_at dksX2_giveBack_0 23 rfl rfl)
theorem dX2_giveBack_24 : decode cX2_giveBack 24 = .ok (.getfield 151, 3) := dk_180 0 151 (dk_at dksX2_giveBack_1 0 rfl rfl)
theorem dX2_giveBack_27 : decode cX2_giveBack 27 = .ok (.ifCond .ne 7, 3) := dk_154 0 7 (dk_at dksX2_giveBack_1 3 rfl rfl)
theorem dX2_giveBack_30 : decode cX2_giveBack 30 = .ok (.iconst 1, 1) := dk_4 (dk_at dksX2_giveBack_1 6 rfl rfl)
theorem dX2_giveBack_31 : decode cX2_giveBack 31 = .ok (.goto 4, 3) := dk_167 0 4 (dk_at dksX2_giveBack_1 7 rfl rfl)
theorem dX2_giveBack_34 : decode cX2_giveBack 34 = .ok (.iconst 0, 1) := dk_3 (dk_at dksX2_giveBack_1 10 rfl rfl)
theorem dX2_giveBack_35 : decode cX2_giveBack 35 = .ok (.bipush 11, 2) := dk_16 11 (dk_at dksX2_giveBack_1 11 rfl rfl)
theorem dX2_giveBack_37 : decode cX2_giveBack 37 = .ok (.aload_n 2, 1) := dk_44 (dk_at dksX2_giveBack_1 13 rfl rfl)
theorem dX2_giveBack_38 : decode cX2_giveBack 38 = .ok (.getfield 151, 3) := dk_180 0 151 (dk_at dksX2_giveBack_1 14 rfl rfl)
theorem dX2_giveBack_41 : decode cX2_giveBack 41 = .ok (.invokestatic 93, 3) := dk_184 0 93 (dk_at dksX2_giveBack_1 17 rfl rfl)
theorem dX2_giveBack_44 : decode cX2_giveBack 44 = .ok (.aload_n 2, 1) := dk_44 (dk_at dksX2_giveBack_1 20 rfl rfl)
theorem dX2_giveBack_45 : decode cX2_giveBack 45 = .ok (.getfield 154, 3) := dk_180 0 154 (dk_at dksX2_giveBack_1 21 rfl rfl)
theorem dX2_giveBack_48 : decode cX2_giveBack 48 = .ok (.aload_n 0, 1) := dk_42 (dk_at dksX2_giveBack_2 0 rfl rfl)
theorem dX2_giveBack_49 : decode cX2_giveBack 49 = .ok (.getfield 18, 3) := dk_180 0 18 (dk_at dksX2_giveBack_2 1 rfl rfl)
theorem dX2_giveBack_52 : decode cX2_giveBack 52 = .ok (.aload_n 0, 1) := dk_42 (dk_at dksX2_giveBack_2 4 rfl rfl)
theorem dX2_giveBack_53 : decode cX2_giveBack 53 = .ok (.aload_n 2, 1) := dk_44 (dk_at dksX2_giveBack_2 5 rfl rfl)
theorem dX2_giveBack_54 : decode cX2_giveBack 54 = .ok (.getfield 155, 3) := dk_180 0 155 (dk_at dksX2_giveBack_2 6 rfl rfl)
theorem dX2_giveBack_57 : decode cX2_giveBack 57 = .ok (.invokevirtual 156, 3) := dk_182 0 156 (dk_at dksX2_giveBack_2 9 rfl rfl)
theorem dX2_giveBack_60 : decode cX2_giveBack 60 = .ok (.invokeinterface 40 2, 5) := by decide +kernel
theorem dX2_giveBack_65 : decode cX2_giveBack 65 = .ok (.checkcast 61, 3) := dk_192 0 61 (dk_at dksX2_giveBack_2 17 rfl rfl)
theorem dX2_giveBack_68 : decode cX2_giveBack 68 = .ok (.getfield 131, 3) := dk_180 0 131 (dk_at dksX2_giveBack_2 20 rfl rfl)
theorem dX2_giveBack_71 : decode cX2_giveBack 71 = .ok (.isub, 1) := dk_100 (dk_at dksX2_giveBack_2 23 rfl rfl)
theorem dX2_giveBack_72 : decode cX2_giveBack 72 = .ok (.invokestatic 160, 3) := dk_184 0 160 (dk_at dksX2_giveBack_3 0 rfl rfl)
theorem dX2_giveBack_75 : decode cX2_giveBack 75 = .ok (.istore_n 3, 1) := dk_62 (dk_at dksX2_giveBack_3 3 rfl rfl)
theorem dX2_giveBack_76 : decode cX2_giveBack 76 = .ok (.iload_n 3, 1) := dk_29 (dk_at dksX2_giveBack_3 4 rfl rfl)
theorem dX2_giveBack_77 : decode cX2_giveBack 77 = .ok (.iconst 1, 1) := dk_4 (dk_at dksX2_giveBack_3 5 rfl rfl)
theorem dX2_giveBack_78 : decode cX2_giveBack 78 = .ok (.if_icmp .gt 7, 3) := dk_163 0 7 (dk_at dksX2_giveBack_3 6 rfl rfl)
theorem dX2_giveBack_81 : decode cX2_giveBack 81 = .ok (.iconst 1, 1) := dk_4 (dk_at dksX2_giveBack_3 9 rfl rfl)
theorem dX2_giveBack_82 : decode cX2_giveBack 82 = .ok (.goto 4, 3) := dk_167 0 4 (dk_at dksX2_giveBack_3 10 rfl rfl)
theorem dX2_giveBack_85 : decode cX2_giveBack 85 = .ok (.iconst 0, 1) := dk_3 (dk_at dksX2_giveBack_3 13 rfl rfl)
theorem dX2_giveBack_86 : decode cX2_giveBack 86 = .ok (.bipush 12, 2) := dk_16 12 (dk_at dksX2_giveBack_3 14 rfl rfl)
theorem dX2_giveBack_88 : decode cX2_giveBack 88 = .ok (.iload_n 3, 1) := dk_29 (dk_at dksX2_giveBack_3 16 rfl rfl)
theorem dX2_giveBack_89 : decode cX2_giveBack 89 = .ok (.invokestatic 93, 3) := dk_184 0 93 (dk_at dksX2_giveBack_3 17 rfl rfl)
theorem dX2_giveBack_92 : decode cX2_giveBack 92 = .ok (.aload_n 0, 1) := dk_42 (dk_at dksX2_giveBack_3 20 rfl rfl)
theorem dX2_giveBack_93 : decode cX2_giveBack 93 = .ok (.getfield 21, 3) := dk_180 0 21 (dk_at dksX2_giveBack_3 21 rfl rfl)
theorem dX2_giveBack_96 : decode cX2_giveBack 96 = .ok (.iload_n 1, 1) := dk_27 (dk_at dksX2_giveBack_4 0 rfl rfl)
theorem dX2_giveBack_97 : decode cX2_giveBack 97 = .ok (.aload_n 2, 1) := dk_44 (dk_at dksX2_giveBack_4 1 rfl rfl)
theorem dX2_giveBack_98 : decode cX2_giveBack 98 = .ok (.invokevirtual 165, 3) := dk_182 0 165 (dk_at dksX2_giveBack_4 2 rfl rfl)
theorem dX2_giveBack_101 : decode cX2_giveBack 101 = .ok (.invokeinterface 108 3, 5) := by decide +kernel
theorem dX2_giveBack_106 : decode cX2_giveBack 106 = .ok (.checkcast 63, 3) := dk_192 0 63 (dk_at dksX2_giveBack_4 10 rfl rfl)
theorem dX2_giveBack_109 : decode cX2_giveBack 109 = .ok (.astore 4, 2) := dk_58 4 (dk_at dksX2_giveBack_4 13 rfl rfl)
theorem dX2_giveBack_111 : decode cX2_giveBack 111 = .ok (.aload_n 2, 1) := dk_44 (dk_at dksX2_giveBack_4 15 rfl rfl)
theorem dX2_giveBack_112 : decode cX2_giveBack 112 = .ok (.getfield 169, 3) := dk_180 0 169 (dk_at dksX2_giveBack_4 16 rfl rfl)
theorem dX2_giveBack_115 : decode cX2_giveBack 115 = .ok (.ireturn, 1) := dk_172 (dk_at dksX2_giveBack_4 19 rfl rfl)
abbrev cX2_roll : ByteArray := prog_14_method_5_code
def yX2_roll : MethodName := ⟨RX2, "roll", "(I)LBlockPapers$Roll;"⟩
def dkwX2_roll_1 : List UInt8 := [185, 0, 40, 2, 0, 192, 0, 63, 176]
abbrev dktX2_roll_1 : List UInt8 := dkwX2_roll_1 ++ []
def dkwX2_roll_0 : List UInt8 := [27, 3, 42, 180, 0, 21, 185, 0, 34, 1, 0, 4, 100, 184, 0, 51, 184, 0, 55, 42, 180, 0, 21, 27]
abbrev dktX2_roll_0 : List UInt8 := dkwX2_roll_0 ++ dktX2_roll_1
theorem dksX2_roll_0 : cX2_roll.data.toList.drop 0 = dktX2_roll_0 := by decide +kernel
theorem dksX2_roll_1 : cX2_roll.data.toList.drop 24 = dktX2_roll_1 := dk_seg dksX2_roll_0 24 rfl rfl
theorem dX2_roll_0 : decode cX2_roll 0 = .ok (.iload_n 1, 1) := dk_27 (dk_at dksX2_roll_0 0 rfl rfl)
theorem dX2_roll_1 : decode cX2_roll 1 = .ok (.iconst 0, 1) := dk_3 (dk_at dksX2_roll_0 1 rfl rfl)
theorem dX2_roll_2 : decode cX2_roll 2 = .ok (.aload_n 0, 1) := dk_42 (dk_at dksX2_roll_0 2 rfl rfl)
theorem dX2_roll_3 : decode cX2_roll 3 = .ok (.getfield 21, 3) := dk_180 0 21 (dk_at dksX2_roll_0 3 rfl rfl)
theorem dX2_roll_6 : decode cX2_roll 6 = .ok (.invokeinterface 34 1, 5) := by decide +kernel
theorem dX2_roll_11 : decode cX2_roll 11 = .ok (.iconst 1, 1) := dk_4 (dk_at dksX2_roll_0 11 rfl rfl)
theorem dX2_roll_12 : decode cX2_roll 12 = .ok (.isub, 1) := dk_100 (dk_at dksX2_roll_0 12 rfl rfl)
theorem dX2_roll_13 : decode cX2_roll 13 = .ok (.invokestatic 51, 3) := dk_184 0 51 (dk_at dksX2_roll_0 13 rfl rfl)
theorem dX2_roll_16 : decode cX2_roll 16 = .ok (.invokestatic 55, 3) := dk_184 0 55 (dk_at dksX2_roll_0 16 rfl rfl)
theorem dX2_roll_19 : decode cX2_roll 19 = .ok (.aload_n 0, 1) := dk_42 (dk_at dksX2_roll_0 19 rfl rfl)
theorem dX2_roll_20 : decode cX2_roll 20 = .ok (.getfield 21, 3) := dk_180 0 21 (dk_at dksX2_roll_0 20 rfl rfl)
theorem dX2_roll_23 : decode cX2_roll 23 = .ok (.iload_n 1, 1) := dk_27 (dk_at dksX2_roll_0 23 rfl rfl)
theorem dX2_roll_24 : decode cX2_roll 24 = .ok (.invokeinterface 40 2, 5) := by decide +kernel
theorem dX2_roll_29 : decode cX2_roll 29 = .ok (.checkcast 63, 3) := dk_192 0 63 (dk_at dksX2_roll_1 5 rfl rfl)
theorem dX2_roll_32 : decode cX2_roll 32 = .ok (.areturn, 1) := dk_176 (dk_at dksX2_roll_1 8 rfl rfl)
abbrev cX2_latest : ByteArray := prog_14_method_13_code
def yX2_latest : MethodName := ⟨RX2, "latest", "(I)I"⟩
def dkwX2_latest_2 : List UInt8 := [167, 255, 214, 28, 172]
abbrev dktX2_latest_2 : List UInt8 := dkwX2_latest_2 ++ []
def dkwX2_latest_1 : List UInt8 := [185, 0, 40, 2, 0, 192, 0, 61, 180, 0, 122, 27, 160, 0, 7, 29, 167, 0, 4, 28, 61, 132, 3, 1]
abbrev dktX2_latest_1 : List UInt8 := dkwX2_latest_1 ++ dktX2_latest_2
def dkwX2_latest_0 : List UInt8 := [2, 61, 3, 62, 29, 42, 180, 0, 18, 185, 0, 34, 1, 0, 162, 0, 35, 42, 180, 0, 18, 29]
abbrev dktX2_latest_0 : List UInt8 := dkwX2_latest_0 ++ dktX2_latest_1
theorem dksX2_latest_0 : cX2_latest.data.toList.drop 0 = dktX2_latest_0 := by decide +kernel
theorem dksX2_latest_1 : cX2_latest.data.toList.drop 22 = dktX2_latest_1 := dk_seg dksX2_latest_0 22 rfl rfl
theorem dksX2_latest_2 : cX2_latest.data.toList.drop 46 = dktX2_latest_2 := dk_seg dksX2_latest_1 24 rfl rfl
theorem dX2_latest_0 : decode cX2_latest 0 = .ok (.iconst (-1), 1) := dk_2 (dk_at dksX2_latest_0 0 rfl rfl)
theorem dX2_latest_1 : decode cX2_latest 1 = .ok (.istore_n 2, 1) := dk_61 (dk_at dksX2_latest_0 1 rfl rfl)
theorem dX2_latest_2 : decode cX2_latest 2 = .ok (.iconst 0, 1) := dk_3 (dk_at dksX2_latest_0 2 rfl rfl)
theorem dX2_latest_3 : decode cX2_latest 3 = .ok (.istore_n 3, 1) := dk_62 (dk_at dksX2_latest_0 3 rfl rfl)
theorem dX2_latest_4 : decode cX2_latest 4 = .ok (.iload_n 3, 1) := dk_29 (dk_at dksX2_latest_0 4 rfl rfl)
theorem dX2_latest_5 : decode cX2_latest 5 = .ok (.aload_n 0, 1) := dk_42 (dk_at dksX2_latest_0 5 rfl rfl)
theorem dX2_latest_6 : decode cX2_latest 6 = .ok (.getfield 18, 3) := dk_180 0 18 (dk_at dksX2_latest_0 6 rfl rfl)
theorem dX2_latest_9 : decode cX2_latest 9 = .ok (.invokeinterface 34 1, 5) := by decide +kernel
theorem dX2_latest_14 : decode cX2_latest 14 = .ok (.if_icmp .ge 35, 3) := dk_162 0 35 (dk_at dksX2_latest_0 14 rfl rfl)
theorem dX2_latest_17 : decode cX2_latest 17 = .ok (.aload_n 0, 1) := dk_42 (dk_at dksX2_latest_0 17 rfl rfl)
theorem dX2_latest_18 : decode cX2_latest 18 = .ok (.getfield 18, 3) := dk_180 0 18 (dk_at dksX2_latest_0 18 rfl rfl)
theorem dX2_latest_21 : decode cX2_latest 21 = .ok (.iload_n 3, 1) := dk_29 (dk_at dksX2_latest_0 21 rfl rfl)
theorem dX2_latest_22 : decode cX2_latest 22 = .ok (.invokeinterface 40 2, 5) := by decide +kernel
theorem dX2_latest_27 : decode cX2_latest 27 = .ok (.checkcast 61, 3) := dk_192 0 61 (dk_at dksX2_latest_1 5 rfl rfl)
theorem dX2_latest_30 : decode cX2_latest 30 = .ok (.getfield 122, 3) := dk_180 0 122 (dk_at dksX2_latest_1 8 rfl rfl)
theorem dX2_latest_33 : decode cX2_latest 33 = .ok (.iload_n 1, 1) := dk_27 (dk_at dksX2_latest_1 11 rfl rfl)
theorem dX2_latest_34 : decode cX2_latest 34 = .ok (.if_icmp .ne 7, 3) := dk_160 0 7 (dk_at dksX2_latest_1 12 rfl rfl)
theorem dX2_latest_37 : decode cX2_latest 37 = .ok (.iload_n 3, 1) := dk_29 (dk_at dksX2_latest_1 15 rfl rfl)
theorem dX2_latest_38 : decode cX2_latest 38 = .ok (.goto 4, 3) := dk_167 0 4 (dk_at dksX2_latest_1 16 rfl rfl)
theorem dX2_latest_41 : decode cX2_latest 41 = .ok (.iload_n 2, 1) := dk_28 (dk_at dksX2_latest_1 19 rfl rfl)
theorem dX2_latest_42 : decode cX2_latest 42 = .ok (.istore_n 2, 1) := dk_61 (dk_at dksX2_latest_1 20 rfl rfl)
theorem dX2_latest_43 : decode cX2_latest 43 = .ok (.iinc 3 1, 3) := dk_132 3 1 (dk_at dksX2_latest_1 21 rfl rfl)
theorem dX2_latest_46 : decode cX2_latest 46 = .ok (.goto (-42), 3) := dk_167 255 214 (dk_at dksX2_latest_2 0 rfl rfl)
theorem dX2_latest_49 : decode cX2_latest 49 = .ok (.iload_n 2, 1) := dk_28 (dk_at dksX2_latest_2 3 rfl rfl)
theorem dX2_latest_50 : decode cX2_latest 50 = .ok (.ireturn, 1) := dk_172 (dk_at dksX2_latest_2 4 rfl rfl)
abbrev cX2_addRoom : ByteArray := prog_14_method_15_code
def yX2_addRoom : MethodName := ⟨RX2, "addRoom", "(II)I"⟩
def dkwX2_addRoom_3 : List UInt8 := [185, 0, 47, 2, 0, 87, 42, 180, 0, 24, 185, 0, 34, 1, 0, 4, 100, 172]
abbrev dktX2_addRoom_3 : List UInt8 := dkwX2_addRoom_3 ++ []
def dkwX2_addRoom_2 : List UInt8 := [167, 0, 4, 3, 4, 16, 6, 184, 0, 93, 42, 180, 0, 24, 187, 0, 38, 89, 27, 28, 183, 0, 172]
abbrev dktX2_addRoom_2 : List UInt8 := dkwX2_addRoom_2 ++ dktX2_addRoom_3
def dkwX2_addRoom_1 : List UInt8 := [167, 0, 4, 3, 184, 0, 90, 42, 180, 0, 24, 185, 0, 34, 1, 0, 16, 6, 162, 0, 7, 4]
abbrev dktX2_addRoom_1 : List UInt8 := dkwX2_addRoom_1 ++ dktX2_addRoom_2
def dkwX2_addRoom_0 : List UInt8 := [27, 17, 0, 150, 17, 1, 144, 184, 0, 51, 153, 0, 17, 28, 4, 16, 30, 184, 0, 51, 153, 0, 7, 4]
abbrev dktX2_addRoom_0 : List UInt8 := dkwX2_addRoom_0 ++ dktX2_addRoom_1
theorem dksX2_addRoom_0 : cX2_addRoom.data.toList.drop 0 = dktX2_addRoom_0 := by decide +kernel
theorem dksX2_addRoom_1 : cX2_addRoom.data.toList.drop 24 = dktX2_addRoom_1 := dk_seg dksX2_addRoom_0 24 rfl rfl
theorem dksX2_addRoom_2 : cX2_addRoom.data.toList.drop 46 = dktX2_addRoom_2 := dk_seg dksX2_addRoom_1 22 rfl rfl
theorem dksX2_addRoom_3 : cX2_addRoom.data.toList.drop 69 = dktX2_addRoom_3 := dk_seg dksX2_addRoom_2 23 rfl rfl
theorem dX2_addRoom_0 : decode cX2_addRoom 0 = .ok (.iload_n 1, 1) := dk_27 (dk_at dksX2_addRoom_0 0 rfl rfl)
theorem dX2_addRoom_1 : decode cX2_addRoom 1 = .ok (.sipush 150, 3) := dk_17 0 150 (dk_at dksX2_addRoom_0 1 rfl rfl)
theorem dX2_addRoom_4 : decode cX2_addRoom 4 = .ok (.sipush 400, 3) := dk_17 1 144 (dk_at dksX2_addRoom_0 4 rfl rfl)
theorem dX2_addRoom_7 : decode cX2_addRoom 7 = .ok (.invokestatic 51, 3) := dk_184 0 51 (dk_at dksX2_addRoom_0 7 rfl rfl)
theorem dX2_addRoom_10 : decode cX2_addRoom 10 = .ok (.ifCond .eq 17, 3) := dk_153 0 17 (dk_at dksX2_addRoom_0 10 rfl rfl)
theorem dX2_addRoom_13 : decode cX2_addRoom 13 = .ok (.iload_n 2, 1) := dk_28 (dk_at dksX2_addRoom_0 13 rfl rfl)
theorem dX2_addRoom_14 : decode cX2_addRoom 14 = .ok (.iconst 1, 1) := dk_4 (dk_at dksX2_addRoom_0 14 rfl rfl)
theorem dX2_addRoom_15 : decode cX2_addRoom 15 = .ok (.bipush 30, 2) := dk_16 30 (dk_at dksX2_addRoom_0 15 rfl rfl)
theorem dX2_addRoom_17 : decode cX2_addRoom 17 = .ok (.invokestatic 51, 3) := dk_184 0 51 (dk_at dksX2_addRoom_0 17 rfl rfl)
theorem dX2_addRoom_20 : decode cX2_addRoom 20 = .ok (.ifCond .eq 7, 3) := dk_153 0 7 (dk_at dksX2_addRoom_0 20 rfl rfl)
theorem dX2_addRoom_23 : decode cX2_addRoom 23 = .ok (.iconst 1, 1) := dk_4 (dk_at dksX2_addRoom_0 23 rfl rfl)
theorem dX2_addRoom_24 : decode cX2_addRoom 24 = .ok (.goto 4, 3) := dk_167 0 4 (dk_at dksX2_addRoom_1 0 rfl rfl)
theorem dX2_addRoom_27 : decode cX2_addRoom 27 = .ok (.iconst 0, 1) := dk_3 (dk_at dksX2_addRoom_1 3 rfl rfl)
theorem dX2_addRoom_28 : decode cX2_addRoom 28 = .ok (.invokestatic 90, 3) := dk_184 0 90 (dk_at dksX2_addRoom_1 4 rfl rfl)
theorem dX2_addRoom_31 : decode cX2_addRoom 31 = .ok (.aload_n 0, 1) := dk_42 (dk_at dksX2_addRoom_1 7 rfl rfl)
theorem dX2_addRoom_32 : decode cX2_addRoom 32 = .ok (.getfield 24, 3) := dk_180 0 24 (dk_at dksX2_addRoom_1 8 rfl rfl)
theorem dX2_addRoom_35 : decode cX2_addRoom 35 = .ok (.invokeinterface 34 1, 5) := by decide +kernel
theorem dX2_addRoom_40 : decode cX2_addRoom 40 = .ok (.bipush 6, 2) := dk_16 6 (dk_at dksX2_addRoom_1 16 rfl rfl)
theorem dX2_addRoom_42 : decode cX2_addRoom 42 = .ok (.if_icmp .ge 7, 3) := dk_162 0 7 (dk_at dksX2_addRoom_1 18 rfl rfl)
theorem dX2_addRoom_45 : decode cX2_addRoom 45 = .ok (.iconst 1, 1) := dk_4 (dk_at dksX2_addRoom_1 21 rfl rfl)
theorem dX2_addRoom_46 : decode cX2_addRoom 46 = .ok (.goto 4, 3) := dk_167 0 4 (dk_at dksX2_addRoom_2 0 rfl rfl)
theorem dX2_addRoom_49 : decode cX2_addRoom 49 = .ok (.iconst 0, 1) := dk_3 (dk_at dksX2_addRoom_2 3 rfl rfl)
theorem dX2_addRoom_50 : decode cX2_addRoom 50 = .ok (.iconst 1, 1) := dk_4 (dk_at dksX2_addRoom_2 4 rfl rfl)
theorem dX2_addRoom_51 : decode cX2_addRoom 51 = .ok (.bipush 6, 2) := dk_16 6 (dk_at dksX2_addRoom_2 5 rfl rfl)
theorem dX2_addRoom_53 : decode cX2_addRoom 53 = .ok (.invokestatic 93, 3) := dk_184 0 93 (dk_at dksX2_addRoom_2 7 rfl rfl)
theorem dX2_addRoom_56 : decode cX2_addRoom 56 = .ok (.aload_n 0, 1) := dk_42 (dk_at dksX2_addRoom_2 10 rfl rfl)
theorem dX2_addRoom_57 : decode cX2_addRoom 57 = .ok (.getfield 24, 3) := dk_180 0 24 (dk_at dksX2_addRoom_2 11 rfl rfl)
theorem dX2_addRoom_60 : decode cX2_addRoom 60 = .ok (.new 38, 3) := dk_187 0 38 (dk_at dksX2_addRoom_2 14 rfl rfl)
theorem dX2_addRoom_63 : decode cX2_addRoom 63 = .ok (.dup, 1) := dk_89 (dk_at dksX2_addRoom_2 17 rfl rfl)
theorem dX2_addRoom_64 : decode cX2_addRoom 64 = .ok (.iload_n 1, 1) := dk_27 (dk_at dksX2_addRoom_2 18 rfl rfl)
theorem dX2_addRoom_65 : decode cX2_addRoom 65 = .ok (.iload_n 2, 1) := dk_28 (dk_at dksX2_addRoom_2 19 rfl rfl)
theorem dX2_addRoom_66 : decode cX2_addRoom 66 = .ok (.invokespecial 172, 3) := dk_183 0 172 (dk_at dksX2_addRoom_2 20 rfl rfl)
theorem dX2_addRoom_69 : decode cX2_addRoom 69 = .ok (.invokeinterface 47 2, 5) := by decide +kernel
theorem dX2_addRoom_74 : decode cX2_addRoom 74 = .ok (.pop, 1) := dk_87 (dk_at dksX2_addRoom_3 5 rfl rfl)
theorem dX2_addRoom_75 : decode cX2_addRoom 75 = .ok (.aload_n 0, 1) := dk_42 (dk_at dksX2_addRoom_3 6 rfl rfl)
theorem dX2_addRoom_76 : decode cX2_addRoom 76 = .ok (.getfield 24, 3) := dk_180 0 24 (dk_at dksX2_addRoom_3 7 rfl rfl)
theorem dX2_addRoom_79 : decode cX2_addRoom 79 = .ok (.invokeinterface 34 1, 5) := by decide +kernel
theorem dX2_addRoom_84 : decode cX2_addRoom 84 = .ok (.iconst 1, 1) := dk_4 (dk_at dksX2_addRoom_3 15 rfl rfl)
theorem dX2_addRoom_85 : decode cX2_addRoom 85 = .ok (.isub, 1) := dk_100 (dk_at dksX2_addRoom_3 16 rfl rfl)
theorem dX2_addRoom_86 : decode cX2_addRoom 86 = .ok (.ireturn, 1) := dk_172 (dk_at dksX2_addRoom_3 17 rfl rfl)
abbrev cX2_hang : ByteArray := prog_14_method_24_code
def yX2_hang : MethodName := ⟨RX2, "hang", "(II)I"⟩
def dkwX2_hang_2 : List UInt8 := [182, 0, 249, 172]
abbrev dktX2_hang_2 : List UInt8 := dkwX2_hang_2 ++ []
def dkwX2_hang_1 : List UInt8 := [154, 0, 7, 4, 167, 0, 4, 3, 21, 5, 42, 45, 28, 21, 5, 182, 0, 245, 184, 0, 93, 42, 45, 28]
abbrev dktX2_hang_1 : List UInt8 := dkwX2_hang_1 ++ dktX2_hang_2
def dkwX2_hang_0 : List UInt8 := [42, 27, 182, 0, 238, 78, 42, 28, 182, 0, 144, 58, 4, 42, 45, 25, 4, 182, 0, 242, 54, 5, 21, 5]
abbrev dktX2_hang_0 : List UInt8 := dkwX2_hang_0 ++ dktX2_hang_1
theorem dksX2_hang_0 : cX2_hang.data.toList.drop 0 = dktX2_hang_0 := by decide +kernel
theorem dksX2_hang_1 : cX2_hang.data.toList.drop 24 = dktX2_hang_1 := dk_seg dksX2_hang_0 24 rfl rfl
theorem dksX2_hang_2 : cX2_hang.data.toList.drop 48 = dktX2_hang_2 := dk_seg dksX2_hang_1 24 rfl rfl
theorem dX2_hang_0 : decode cX2_hang 0 = .ok (.aload_n 0, 1) := dk_42 (dk_at dksX2_hang_0 0 rfl rfl)
theorem dX2_hang_1 : decode cX2_hang 1 = .ok (.iload_n 1, 1) := dk_27 (dk_at dksX2_hang_0 1 rfl rfl)
theorem dX2_hang_2 : decode cX2_hang 2 = .ok (.invokevirtual 238, 3) := dk_182 0 238 (dk_at dksX2_hang_0 2 rfl rfl)
theorem dX2_hang_5 : decode cX2_hang 5 = .ok (.astore_n 3, 1) := dk_78 (dk_at dksX2_hang_0 5 rfl rfl)
theorem dX2_hang_6 : decode cX2_hang 6 = .ok (.aload_n 0, 1) := dk_42 (dk_at dksX2_hang_0 6 rfl rfl)
theorem dX2_hang_7 : decode cX2_hang 7 = .ok (.iload_n 2, 1) := dk_28 (dk_at dksX2_hang_0 7 rfl rfl)
theorem dX2_hang_8 : decode cX2_hang 8 = .ok (.invokevirtual 144, 3) := dk_182 0 144 (dk_at dksX2_hang_0 8 rfl rfl)
theorem dX2_hang_11 : decode cX2_hang 11 = .ok (.astore 4, 2) := dk_58 4 (dk_at dksX2_hang_0 11 rfl rfl)
theorem dX2_hang_13 : decode cX2_hang 13 = .ok (.aload_n 0, 1) := dk_42 (dk_at dksX2_hang_0 13 rfl rfl)
theorem dX2_hang_14 : decode cX2_hang 14 = .ok (.aload_n 3, 1) := dk_45 (dk_at dksX2_hang_0 14 rfl rfl)
theorem dX2_hang_15 : decode cX2_hang 15 = .ok (.aload 4, 2) := dk_25 4 (dk_at dksX2_hang_0 15 rfl rfl)
theorem dX2_hang_17 : decode cX2_hang 17 = .ok (.invokevirtual 242, 3) := dk_182 0 242 (dk_at dksX2_hang_0 17 rfl rfl)
theorem dX2_hang_20 : decode cX2_hang 20 = .ok (.istore 5, 2) := dk_54 5 (dk_at dksX2_hang_0 20 rfl rfl)
theorem dX2_hang_22 : decode cX2_hang 22 = .ok (.iload 5, 2) := dk_21 5 (dk_at dksX2_hang_0 22 rfl rfl)
theorem dX2_hang_24 : decode cX2_hang 24 = .ok (.ifCond .ne 7, 3) := dk_154 0 7 (dk_at dksX2_hang_1 0 rfl rfl)
theorem dX2_hang_27 : decode cX2_hang 27 = .ok (.iconst 1, 1) := dk_4 (dk_at dksX2_hang_1 3 rfl rfl)
theorem dX2_hang_28 : decode cX2_hang 28 = .ok (.goto 4, 3) := dk_167 0 4 (dk_at dksX2_hang_1 4 rfl rfl)
theorem dX2_hang_31 : decode cX2_hang 31 = .ok (.iconst 0, 1) := dk_3 (dk_at dksX2_hang_1 7 rfl rfl)
theorem dX2_hang_32 : decode cX2_hang 32 = .ok (.iload 5, 2) := dk_21 5 (dk_at dksX2_hang_1 8 rfl rfl)
theorem dX2_hang_34 : decode cX2_hang 34 = .ok (.aload_n 0, 1) := dk_42 (dk_at dksX2_hang_1 10 rfl rfl)
theorem dX2_hang_35 : decode cX2_hang 35 = .ok (.aload_n 3, 1) := dk_45 (dk_at dksX2_hang_1 11 rfl rfl)
theorem dX2_hang_36 : decode cX2_hang 36 = .ok (.iload_n 2, 1) := dk_28 (dk_at dksX2_hang_1 12 rfl rfl)
theorem dX2_hang_37 : decode cX2_hang 37 = .ok (.iload 5, 2) := dk_21 5 (dk_at dksX2_hang_1 13 rfl rfl)
theorem dX2_hang_39 : decode cX2_hang 39 = .ok (.invokevirtual 245, 3) := dk_182 0 245 (dk_at dksX2_hang_1 15 rfl rfl)
theorem dX2_hang_42 : decode cX2_hang 42 = .ok (.invokestatic 93, 3) := dk_184 0 93 (dk_at dksX2_hang_1 18 rfl rfl)
theorem dX2_hang_45 : decode cX2_hang 45 = .ok (.aload_n 0, 1) := dk_42 (dk_at dksX2_hang_1 21 rfl rfl)
theorem dX2_hang_46 : decode cX2_hang 46 = .ok (.aload_n 3, 1) := dk_45 (dk_at dksX2_hang_1 22 rfl rfl)
theorem dX2_hang_47 : decode cX2_hang 47 = .ok (.iload_n 2, 1) := dk_28 (dk_at dksX2_hang_1 23 rfl rfl)
theorem dX2_hang_48 : decode cX2_hang 48 = .ok (.invokevirtual 249, 3) := dk_182 0 249 (dk_at dksX2_hang_2 0 rfl rfl)
theorem dX2_hang_51 : decode cX2_hang 51 = .ok (.ireturn, 1) := dk_172 (dk_at dksX2_hang_2 3 rfl rfl)
abbrev cX2_room : ByteArray := prog_14_method_6_code
def yX2_room : MethodName := ⟨RX2, "room", "(I)LBlockPapers$Room;"⟩
def dkwX2_room_1 : List UInt8 := [185, 0, 40, 2, 0, 192, 0, 38, 176]
abbrev dktX2_room_1 : List UInt8 := dkwX2_room_1 ++ []
def dkwX2_room_0 : List UInt8 := [27, 3, 42, 180, 0, 24, 185, 0, 34, 1, 0, 4, 100, 184, 0, 51, 184, 0, 55, 42, 180, 0, 24, 27]
abbrev dktX2_room_0 : List UInt8 := dkwX2_room_0 ++ dktX2_room_1
theorem dksX2_room_0 : cX2_room.data.toList.drop 0 = dktX2_room_0 := by decide +kernel
theorem dksX2_room_1 : cX2_room.data.toList.drop 24 = dktX2_room_1 := dk_seg dksX2_room_0 24 rfl rfl
theorem dX2_room_0 : decode cX2_room 0 = .ok (.iload_n 1, 1) := dk_27 (dk_at dksX2_room_0 0 rfl rfl)
theorem dX2_room_1 : decode cX2_room 1 = .ok (.iconst 0, 1) := dk_3 (dk_at dksX2_room_0 1 rfl rfl)
theorem dX2_room_2 : decode cX2_room 2 = .ok (.aload_n 0, 1) := dk_42 (dk_at dksX2_room_0 2 rfl rfl)
theorem dX2_room_3 : decode cX2_room 3 = .ok (.getfield 24, 3) := dk_180 0 24 (dk_at dksX2_room_0 3 rfl rfl)
theorem dX2_room_6 : decode cX2_room 6 = .ok (.invokeinterface 34 1, 5) := by decide +kernel
theorem dX2_room_11 : decode cX2_room 11 = .ok (.iconst 1, 1) := dk_4 (dk_at dksX2_room_0 11 rfl rfl)
theorem dX2_room_12 : decode cX2_room 12 = .ok (.isub, 1) := dk_100 (dk_at dksX2_room_0 12 rfl rfl)
theorem dX2_room_13 : decode cX2_room 13 = .ok (.invokestatic 51, 3) := dk_184 0 51 (dk_at dksX2_room_0 13 rfl rfl)
theorem dX2_room_16 : decode cX2_room 16 = .ok (.invokestatic 55, 3) := dk_184 0 55 (dk_at dksX2_room_0 16 rfl rfl)
theorem dX2_room_19 : decode cX2_room 19 = .ok (.aload_n 0, 1) := dk_42 (dk_at dksX2_room_0 19 rfl rfl)
theorem dX2_room_20 : decode cX2_room 20 = .ok (.getfield 24, 3) := dk_180 0 24 (dk_at dksX2_room_0 20 rfl rfl)
theorem dX2_room_23 : decode cX2_room 23 = .ok (.iload_n 1, 1) := dk_27 (dk_at dksX2_room_0 23 rfl rfl)
theorem dX2_room_24 : decode cX2_room 24 = .ok (.invokeinterface 40 2, 5) := by decide +kernel
theorem dX2_room_29 : decode cX2_room 29 = .ok (.checkcast 38, 3) := dk_192 0 38 (dk_at dksX2_room_1 5 rfl rfl)
theorem dX2_room_32 : decode cX2_room 32 = .ok (.areturn, 1) := dk_176 (dk_at dksX2_room_1 8 rfl rfl)
abbrev cX2_reason : ByteArray := prog_14_method_21_code
def yX2_reason : MethodName := ⟨RX2, "reason", "(LBlockPapers$Room;LBlockPapers$Roll;)I"⟩
def dkwX2_reason_3 : List UInt8 := [16, 8, 167, 0, 18, 42, 43, 44, 182, 0, 224, 158, 0, 8, 16, 9, 167, 0, 4, 3, 172]
abbrev dktX2_reason_3 : List UInt8 := dkwX2_reason_3 ++ []
def dkwX2_reason_2 : List UInt8 := [180, 0, 155, 44, 180, 0, 155, 159, 0, 6, 16, 7, 172, 42, 43, 44, 182, 0, 220, 4, 164, 0, 8]
abbrev dktX2_reason_2 : List UInt8 := dkwX2_reason_2 ++ dktX2_reason_3
def dkwX2_reason_1 : List UInt8 := [45, 198, 0, 17, 45, 180, 0, 185, 44, 180, 0, 185, 159, 0, 6, 16, 6, 172, 45, 198, 0, 17, 45]
abbrev dktX2_reason_1 : List UInt8 := dkwX2_reason_1 ++ dktX2_reason_2
def dkwX2_reason_0 : List UInt8 := [42, 43, 182, 0, 181, 78, 43, 182, 0, 217, 153, 0, 5, 7, 172, 44, 180, 0, 147, 153, 0, 5, 8, 172]
abbrev dktX2_reason_0 : List UInt8 := dkwX2_reason_0 ++ dktX2_reason_1
theorem dksX2_reason_0 : cX2_reason.data.toList.drop 0 = dktX2_reason_0 := by decide +kernel
theorem dksX2_reason_1 : cX2_reason.data.toList.drop 24 = dktX2_reason_1 := dk_seg dksX2_reason_0 24 rfl rfl
theorem dksX2_reason_2 : cX2_reason.data.toList.drop 47 = dktX2_reason_2 := dk_seg dksX2_reason_1 23 rfl rfl
theorem dksX2_reason_3 : cX2_reason.data.toList.drop 70 = dktX2_reason_3 := dk_seg dksX2_reason_2 23 rfl rfl
theorem dX2_reason_0 : decode cX2_reason 0 = .ok (.aload_n 0, 1) := dk_42 (dk_at dksX2_reason_0 0 rfl rfl)
theorem dX2_reason_1 : decode cX2_reason 1 = .ok (.aload_n 1, 1) := dk_43 (dk_at dksX2_reason_0 1 rfl rfl)
theorem dX2_reason_2 : decode cX2_reason 2 = .ok (.invokevirtual 181, 3) := dk_182 0 181 (dk_at dksX2_reason_0 2 rfl rfl)
theorem dX2_reason_5 : decode cX2_reason 5 = .ok (.astore_n 3, 1) := dk_78 (dk_at dksX2_reason_0 5 rfl rfl)
theorem dX2_reason_6 : decode cX2_reason 6 = .ok (.aload_n 1, 1) := dk_43 (dk_at dksX2_reason_0 6 rfl rfl)
theorem dX2_reason_7 : decode cX2_reason 7 = .ok (.invokevirtual 217, 3) := dk_182 0 217 (dk_at dksX2_reason_0 7 rfl rfl)
theorem dX2_reason_10 : decode cX2_reason 10 = .ok (.ifCond .eq 5, 3) := dk_153 0 5 (dk_at dksX2_reason_0 10 rfl rfl)
theorem dX2_reason_13 : decode cX2_reason 13 = .ok (.iconst 4, 1) := dk_7 (dk_at dksX2_reason_0 13 rfl rfl)
theorem dX2_reason_14 : decode cX2_reason 14 = .ok (.ireturn, 1) := dk_172 (dk_at dksX2_reason_0 14 rfl rfl)
theorem dX2_reason_15 : decode cX2_reason 15 = .ok (.aload_n 2, 1) := dk_44 (dk_at dksX2_reason_0 15 rfl rfl)
theorem dX2_reason_16 : decode cX2_reason 16 = .ok (.getfield 147, 3) := dk_180 0 147 (dk_at dksX2_reason_0 16 rfl rfl)
theorem dX2_reason_19 : decode cX2_reason 19 = .ok (.ifCond .eq 5, 3) := dk_153 0 5 (dk_at dksX2_reason_0 19 rfl rfl)
theorem dX2_reason_22 : decode cX2_reason 22 = .ok (.iconst 5, 1) := dk_8 (dk_at dksX2_reason_0 22 rfl rfl)
theorem dX2_reason_23 : decode cX2_reason 23 = .ok (.ireturn, 1) := dk_172 (dk_at dksX2_reason_0 23 rfl rfl)
theorem dX2_reason_24 : decode cX2_reason 24 = .ok (.aload_n 3, 1) := dk_45 (dk_at dksX2_reason_1 0 rfl rfl)
theorem dX2_reason_25 : decode cX2_reason 25 = .ok (.ifnull 17, 3) := dk_198 0 17 (dk_at dksX2_reason_1 1 rfl rfl)
theorem dX2_reason_28 : decode cX2_reason 28 = .ok (.aload_n 3, 1) := dk_45 (dk_at dksX2_reason_1 4 rfl rfl)
theorem dX2_reason_29 : decode cX2_reason 29 = .ok (.getfield 185, 3) := dk_180 0 185 (dk_at dksX2_reason_1 5 rfl rfl)
theorem dX2_reason_32 : decode cX2_reason 32 = .ok (.aload_n 2, 1) := dk_44 (dk_at dksX2_reason_1 8 rfl rfl)
theorem dX2_reason_33 : decode cX2_reason 33 = .ok (.getfield 185, 3) := dk_180 0 185 (dk_at dksX2_reason_1 9 rfl rfl)
theorem dX2_reason_36 : decode cX2_reason 36 = .ok (.if_icmp .eq 6, 3) := dk_159 0 6 (dk_at dksX2_reason_1 12 rfl rfl)
theorem dX2_reason_39 : decode cX2_reason 39 = .ok (.bipush 6, 2) := dk_16 6 (dk_at dksX2_reason_1 15 rfl rfl)
theorem dX2_reason_41 : decode cX2_reason 41 = .ok (.ireturn, 1) := dk_172 (dk_at dksX2_reason_1 17 rfl rfl)
theorem dX2_reason_42 : decode cX2_reason 42 = .ok (.aload_n 3, 1) := dk_45 (dk_at dksX2_reason_1 18 rfl rfl)
theorem dX2_reason_43 : decode cX2_reason 43 = .ok (.ifnull 17, 3) := dk_198 0 17 (dk_at dksX2_reason_1 19 rfl rfl)
theorem dX2_reason_46 : decode cX2_reason 46 = .ok (.aload_n 3, 1) := dk_45 (dk_at dksX2_reason_1 22 rfl rfl)
theorem dX2_reason_47 : decode cX2_reason 47 = .ok (.getfield 155, 3) := dk_180 0 155 (dk_at dksX2_reason_2 0 rfl rfl)
theorem dX2_reason_50 : decode cX2_reason 50 = .ok (.aload_n 2, 1) := dk_44 (dk_at dksX2_reason_2 3 rfl rfl)
theorem dX2_reason_51 : decode cX2_reason 51 = .ok (.getfield 155, 3) := dk_180 0 155 (dk_at dksX2_reason_2 4 rfl rfl)
theorem dX2_reason_54 : decode cX2_reason 54 = .ok (.if_icmp .eq 6, 3) := dk_159 0 6 (dk_at dksX2_reason_2 7 rfl rfl)
theorem dX2_reason_57 : decode cX2_reason 57 = .ok (.bipush 7, 2) := dk_16 7 (dk_at dksX2_reason_2 10 rfl rfl)
theorem dX2_reason_59 : decode cX2_reason 59 = .ok (.ireturn, 1) := dk_172 (dk_at dksX2_reason_2 12 rfl rfl)
theorem dX2_reason_60 : decode cX2_reason 60 = .ok (.aload_n 0, 1) := dk_42 (dk_at dksX2_reason_2 13 rfl rfl)
theorem dX2_reason_61 : decode cX2_reason 61 = .ok (.aload_n 1, 1) := dk_43 (dk_at dksX2_reason_2 14 rfl rfl)
theorem dX2_reason_62 : decode cX2_reason 62 = .ok (.aload_n 2, 1) := dk_44 (dk_at dksX2_reason_2 15 rfl rfl)
theorem dX2_reason_63 : decode cX2_reason 63 = .ok (.invokevirtual 220, 3) := dk_182 0 220 (dk_at dksX2_reason_2 16 rfl rfl)
theorem dX2_reason_66 : decode cX2_reason 66 = .ok (.iconst 1, 1) := dk_4 (dk_at dksX2_reason_2 19 rfl rfl)
theorem dX2_reason_67 : decode cX2_reason 67 = .ok (.if_icmp .le 8, 3) := dk_164 0 8 (dk_at dksX2_reason_2 20 rfl rfl)
theorem dX2_reason_70 : decode cX2_reason 70 = .ok (.bipush 8, 2) := dk_16 8 (dk_at dksX2_reason_3 0 rfl rfl)
theorem dX2_reason_72 : decode cX2_reason 72 = .ok (.goto 18, 3) := dk_167 0 18 (dk_at dksX2_reason_3 2 rfl rfl)
theorem dX2_reason_75 : decode cX2_reason 75 = .ok (.aload_n 0, 1) := dk_42 (dk_at dksX2_reason_3 5 rfl rfl)
theorem dX2_reason_76 : decode cX2_reason 76 = .ok (.aload_n 1, 1) := dk_43 (dk_at dksX2_reason_3 6 rfl rfl)
theorem dX2_reason_77 : decode cX2_reason 77 = .ok (.aload_n 2, 1) := dk_44 (dk_at dksX2_reason_3 7 rfl rfl)
theorem dX2_reason_78 : decode cX2_reason 78 = .ok (.invokevirtual 224, 3) := dk_182 0 224 (dk_at dksX2_reason_3 8 rfl rfl)
theorem dX2_reason_81 : decode cX2_reason 81 = .ok (.ifCond .le 8, 3) := dk_158 0 8 (dk_at dksX2_reason_3 11 rfl rfl)
theorem dX2_reason_84 : decode cX2_reason 84 = .ok (.bipush 9, 2) := dk_16 9 (dk_at dksX2_reason_3 14 rfl rfl)
theorem dX2_reason_86 : decode cX2_reason 86 = .ok (.goto 4, 3) := dk_167 0 4 (dk_at dksX2_reason_3 16 rfl rfl)
theorem dX2_reason_89 : decode cX2_reason 89 = .ok (.iconst 0, 1) := dk_3 (dk_at dksX2_reason_3 19 rfl rfl)
theorem dX2_reason_90 : decode cX2_reason 90 = .ok (.ireturn, 1) := dk_172 (dk_at dksX2_reason_3 20 rfl rfl)
abbrev cX2_first : ByteArray := prog_14_method_16_code
def yX2_first : MethodName := ⟨RX2, "first", "(LBlockPapers$Room;)LBlockPapers$Roll;"⟩
def dkwX2_first_1 : List UInt8 := [3, 185, 0, 40, 2, 0, 192, 0, 84, 180, 0, 86, 185, 0, 40, 2, 0, 192, 0, 63, 176]
abbrev dktX2_first_1 : List UInt8 := dkwX2_first_1 ++ []
def dkwX2_first_0 : List UInt8 := [43, 180, 0, 175, 185, 0, 178, 1, 0, 153, 0, 7, 1, 167, 0, 31, 42, 180, 0, 21, 43, 180, 0, 175]
abbrev dktX2_first_0 : List UInt8 := dkwX2_first_0 ++ dktX2_first_1
theorem dksX2_first_0 : cX2_first.data.toList.drop 0 = dktX2_first_0 := by decide +kernel
theorem dksX2_first_1 : cX2_first.data.toList.drop 24 = dktX2_first_1 := dk_seg dksX2_first_0 24 rfl rfl
theorem dX2_first_0 : decode cX2_first 0 = .ok (.aload_n 1, 1) := dk_43 (dk_at dksX2_first_0 0 rfl rfl)
theorem dX2_first_1 : decode cX2_first 1 = .ok (.getfield 175, 3) := dk_180 0 175 (dk_at dksX2_first_0 1 rfl rfl)
theorem dX2_first_4 : decode cX2_first 4 = .ok (.invokeinterface 178 1, 5) := by decide +kernel
theorem dX2_first_9 : decode cX2_first 9 = .ok (.ifCond .eq 7, 3) := dk_153 0 7 (dk_at dksX2_first_0 9 rfl rfl)
theorem dX2_first_12 : decode cX2_first 12 = .ok (.aconst_null, 1) := dk_1 (dk_at dksX2_first_0 12 rfl rfl)
theorem dX2_first_13 : decode cX2_first 13 = .ok (.goto 31, 3) := dk_167 0 31 (dk_at dksX2_first_0 13 rfl rfl)
theorem dX2_first_16 : decode cX2_first 16 = .ok (.aload_n 0, 1) := dk_42 (dk_at dksX2_first_0 16 rfl rfl)
theorem dX2_first_17 : decode cX2_first 17 = .ok (.getfield 21, 3) := dk_180 0 21 (dk_at dksX2_first_0 17 rfl rfl)
theorem dX2_first_20 : decode cX2_first 20 = .ok (.aload_n 1, 1) := dk_43 (dk_at dksX2_first_0 20 rfl rfl)
theorem dX2_first_21 : decode cX2_first 21 = .ok (.getfield 175, 3) := dk_180 0 175 (dk_at dksX2_first_0 21 rfl rfl)
theorem dX2_first_24 : decode cX2_first 24 = .ok (.iconst 0, 1) := dk_3 (dk_at dksX2_first_1 0 rfl rfl)
theorem dX2_first_25 : decode cX2_first 25 = .ok (.invokeinterface 40 2, 5) := by decide +kernel
theorem dX2_first_30 : decode cX2_first 30 = .ok (.checkcast 84, 3) := dk_192 0 84 (dk_at dksX2_first_1 6 rfl rfl)
theorem dX2_first_33 : decode cX2_first 33 = .ok (.getfield 86, 3) := dk_180 0 86 (dk_at dksX2_first_1 9 rfl rfl)
theorem dX2_first_36 : decode cX2_first 36 = .ok (.invokeinterface 40 2, 5) := by decide +kernel
theorem dX2_first_41 : decode cX2_first 41 = .ok (.checkcast 63, 3) := dk_192 0 63 (dk_at dksX2_first_1 17 rfl rfl)
theorem dX2_first_44 : decode cX2_first 44 = .ok (.areturn, 1) := dk_176 (dk_at dksX2_first_1 20 rfl rfl)
abbrev cX2_unlike : ByteArray := prog_14_method_20_code
def yX2_unlike : MethodName := ⟨RX2, "unlike", "(LBlockPapers$Room;LBlockPapers$Roll;)I"⟩
def dkwX2_unlike_1 : List UInt8 := [180, 0, 154, 100, 184, 0, 160, 172]
abbrev dktX2_unlike_1 : List UInt8 := dkwX2_unlike_1 ++ []
def dkwX2_unlike_0 : List UInt8 := [43, 180, 0, 175, 185, 0, 178, 1, 0, 153, 0, 7, 3, 167, 0, 18, 43, 182, 0, 212, 180, 0, 216, 44]
abbrev dktX2_unlike_0 : List UInt8 := dkwX2_unlike_0 ++ dktX2_unlike_1
theorem dksX2_unlike_0 : cX2_unlike.data.toList.drop 0 = dktX2_unlike_0 := by decide +kernel
theorem dksX2_unlike_1 : cX2_unlike.data.toList.drop 24 = dktX2_unlike_1 := dk_seg dksX2_unlike_0 24 rfl rfl
theorem dX2_unlike_0 : decode cX2_unlike 0 = .ok (.aload_n 1, 1) := dk_43 (dk_at dksX2_unlike_0 0 rfl rfl)
theorem dX2_unlike_1 : decode cX2_unlike 1 = .ok (.getfield 175, 3) := dk_180 0 175 (dk_at dksX2_unlike_0 1 rfl rfl)
theorem dX2_unlike_4 : decode cX2_unlike 4 = .ok (.invokeinterface 178 1, 5) := by decide +kernel
theorem dX2_unlike_9 : decode cX2_unlike 9 = .ok (.ifCond .eq 7, 3) := dk_153 0 7 (dk_at dksX2_unlike_0 9 rfl rfl)
theorem dX2_unlike_12 : decode cX2_unlike 12 = .ok (.iconst 0, 1) := dk_3 (dk_at dksX2_unlike_0 12 rfl rfl)
theorem dX2_unlike_13 : decode cX2_unlike 13 = .ok (.goto 18, 3) := dk_167 0 18 (dk_at dksX2_unlike_0 13 rfl rfl)
theorem dX2_unlike_16 : decode cX2_unlike 16 = .ok (.aload_n 1, 1) := dk_43 (dk_at dksX2_unlike_0 16 rfl rfl)
theorem dX2_unlike_17 : decode cX2_unlike 17 = .ok (.invokevirtual 212, 3) := dk_182 0 212 (dk_at dksX2_unlike_0 17 rfl rfl)
theorem dX2_unlike_20 : decode cX2_unlike 20 = .ok (.getfield 216, 3) := dk_180 0 216 (dk_at dksX2_unlike_0 20 rfl rfl)
theorem dX2_unlike_23 : decode cX2_unlike 23 = .ok (.aload_n 2, 1) := dk_44 (dk_at dksX2_unlike_0 23 rfl rfl)
theorem dX2_unlike_24 : decode cX2_unlike 24 = .ok (.getfield 154, 3) := dk_180 0 154 (dk_at dksX2_unlike_1 0 rfl rfl)
theorem dX2_unlike_27 : decode cX2_unlike 27 = .ok (.isub, 1) := dk_100 (dk_at dksX2_unlike_1 3 rfl rfl)
theorem dX2_unlike_28 : decode cX2_unlike 28 = .ok (.invokestatic 160, 3) := dk_184 0 160 (dk_at dksX2_unlike_1 4 rfl rfl)
theorem dX2_unlike_31 : decode cX2_unlike 31 = .ok (.ireturn, 1) := dk_172 (dk_at dksX2_unlike_1 7 rfl rfl)
abbrev cX2_missing : ByteArray := prog_14_method_19_code
def yX2_missing : MethodName := ⟨RX2, "missing", "(LBlockPapers$Room;LBlockPapers$Roll;)I"⟩
def dkwX2_missing_1 : List UInt8 := [180, 0, 206, 96, 44, 182, 0, 209, 100, 172]
abbrev dktX2_missing_1 : List UInt8 := dkwX2_missing_1 ++ []
def dkwX2_missing_0 : List UInt8 := [42, 44, 44, 180, 0, 151, 42, 43, 43, 180, 0, 175, 185, 0, 34, 1, 0, 182, 0, 199, 182, 0, 202, 43]
abbrev dktX2_missing_0 : List UInt8 := dkwX2_missing_0 ++ dktX2_missing_1
theorem dksX2_missing_0 : cX2_missing.data.toList.drop 0 = dktX2_missing_0 := by decide +kernel
theorem dksX2_missing_1 : cX2_missing.data.toList.drop 24 = dktX2_missing_1 := dk_seg dksX2_missing_0 24 rfl rfl
theorem dX2_missing_0 : decode cX2_missing 0 = .ok (.aload_n 0, 1) := dk_42 (dk_at dksX2_missing_0 0 rfl rfl)
theorem dX2_missing_1 : decode cX2_missing 1 = .ok (.aload_n 2, 1) := dk_44 (dk_at dksX2_missing_0 1 rfl rfl)
theorem dX2_missing_2 : decode cX2_missing 2 = .ok (.aload_n 2, 1) := dk_44 (dk_at dksX2_missing_0 2 rfl rfl)
theorem dX2_missing_3 : decode cX2_missing 3 = .ok (.getfield 151, 3) := dk_180 0 151 (dk_at dksX2_missing_0 3 rfl rfl)
theorem dX2_missing_6 : decode cX2_missing 6 = .ok (.aload_n 0, 1) := dk_42 (dk_at dksX2_missing_0 6 rfl rfl)
theorem dX2_missing_7 : decode cX2_missing 7 = .ok (.aload_n 1, 1) := dk_43 (dk_at dksX2_missing_0 7 rfl rfl)
theorem dX2_missing_8 : decode cX2_missing 8 = .ok (.aload_n 1, 1) := dk_43 (dk_at dksX2_missing_0 8 rfl rfl)
theorem dX2_missing_9 : decode cX2_missing 9 = .ok (.getfield 175, 3) := dk_180 0 175 (dk_at dksX2_missing_0 9 rfl rfl)
theorem dX2_missing_12 : decode cX2_missing 12 = .ok (.invokeinterface 34 1, 5) := by decide +kernel
theorem dX2_missing_17 : decode cX2_missing 17 = .ok (.invokevirtual 199, 3) := dk_182 0 199 (dk_at dksX2_missing_0 17 rfl rfl)
theorem dX2_missing_20 : decode cX2_missing 20 = .ok (.invokevirtual 202, 3) := dk_182 0 202 (dk_at dksX2_missing_0 20 rfl rfl)
theorem dX2_missing_23 : decode cX2_missing 23 = .ok (.aload_n 1, 1) := dk_43 (dk_at dksX2_missing_0 23 rfl rfl)
theorem dX2_missing_24 : decode cX2_missing 24 = .ok (.getfield 206, 3) := dk_180 0 206 (dk_at dksX2_missing_1 0 rfl rfl)
theorem dX2_missing_27 : decode cX2_missing 27 = .ok (.iadd, 1) := dk_96 (dk_at dksX2_missing_1 3 rfl rfl)
theorem dX2_missing_28 : decode cX2_missing 28 = .ok (.aload_n 2, 1) := dk_44 (dk_at dksX2_missing_1 4 rfl rfl)
theorem dX2_missing_29 : decode cX2_missing 29 = .ok (.invokevirtual 209, 3) := dk_182 0 209 (dk_at dksX2_missing_1 5 rfl rfl)
theorem dX2_missing_32 : decode cX2_missing 32 = .ok (.isub, 1) := dk_100 (dk_at dksX2_missing_1 8 rfl rfl)
theorem dX2_missing_33 : decode cX2_missing 33 = .ok (.ireturn, 1) := dk_172 (dk_at dksX2_missing_1 9 rfl rfl)
abbrev cX2_begin : ByteArray := prog_14_method_17_code
def yX2_begin : MethodName := ⟨RX2, "begin", "(LBlockPapers$Room;I)I"⟩
def dkwX2_begin_2 : List UInt8 := [28, 182, 0, 190, 172]
abbrev dktX2_begin_2 : List UInt8 := dkwX2_begin_2 ++ []
def dkwX2_begin_1 : List UInt8 := [185, 0, 40, 2, 0, 192, 0, 59, 43, 180, 0, 175, 3, 185, 0, 40, 2, 0, 192, 0, 84, 180, 0, 187]
abbrev dktX2_begin_1 : List UInt8 := dkwX2_begin_1 ++ dktX2_begin_2
def dkwX2_begin_0 : List UInt8 := [28, 154, 0, 7, 2, 167, 0, 43, 42, 180, 0, 12, 42, 43, 182, 0, 181, 180, 0, 185]
abbrev dktX2_begin_0 : List UInt8 := dkwX2_begin_0 ++ dktX2_begin_1
theorem dksX2_begin_0 : cX2_begin.data.toList.drop 0 = dktX2_begin_0 := by decide +kernel
theorem dksX2_begin_1 : cX2_begin.data.toList.drop 20 = dktX2_begin_1 := dk_seg dksX2_begin_0 20 rfl rfl
theorem dksX2_begin_2 : cX2_begin.data.toList.drop 44 = dktX2_begin_2 := dk_seg dksX2_begin_1 24 rfl rfl
theorem dX2_begin_0 : decode cX2_begin 0 = .ok (.iload_n 2, 1) := dk_28 (dk_at dksX2_begin_0 0 rfl rfl)
theorem dX2_begin_1 : decode cX2_begin 1 = .ok (.ifCond .ne 7, 3) := dk_154 0 7 (dk_at dksX2_begin_0 1 rfl rfl)
theorem dX2_begin_4 : decode cX2_begin 4 = .ok (.iconst (-1), 1) := dk_2 (dk_at dksX2_begin_0 4 rfl rfl)
theorem dX2_begin_5 : decode cX2_begin 5 = .ok (.goto 43, 3) := dk_167 0 43 (dk_at dksX2_begin_0 5 rfl rfl)
theorem dX2_begin_8 : decode cX2_begin 8 = .ok (.aload_n 0, 1) := dk_42 (dk_at dksX2_begin_0 8 rfl rfl)
theorem dX2_begin_9 : decode cX2_begin 9 = .ok (.getfield 12, 3) := dk_180 0 12 (dk_at dksX2_begin_0 9 rfl rfl)
theorem dX2_begin_12 : decode cX2_begin 12 = .ok (.aload_n 0, 1) := dk_42 (dk_at dksX2_begin_0 12 rfl rfl)
theorem dX2_begin_13 : decode cX2_begin 13 = .ok (.aload_n 1, 1) := dk_43 (dk_at dksX2_begin_0 13 rfl rfl)
theorem dX2_begin_14 : decode cX2_begin 14 = .ok (.invokevirtual 181, 3) := dk_182 0 181 (dk_at dksX2_begin_0 14 rfl rfl)
theorem dX2_begin_17 : decode cX2_begin 17 = .ok (.getfield 185, 3) := dk_180 0 185 (dk_at dksX2_begin_0 17 rfl rfl)
theorem dX2_begin_20 : decode cX2_begin 20 = .ok (.invokeinterface 40 2, 5) := by decide +kernel
theorem dX2_begin_25 : decode cX2_begin 25 = .ok (.checkcast 59, 3) := dk_192 0 59 (dk_at dksX2_begin_1 5 rfl rfl)
theorem dX2_begin_28 : decode cX2_begin 28 = .ok (.aload_n 1, 1) := dk_43 (dk_at dksX2_begin_1 8 rfl rfl)
theorem dX2_begin_29 : decode cX2_begin 29 = .ok (.getfield 175, 3) := dk_180 0 175 (dk_at dksX2_begin_1 9 rfl rfl)
theorem dX2_begin_32 : decode cX2_begin 32 = .ok (.iconst 0, 1) := dk_3 (dk_at dksX2_begin_1 12 rfl rfl)
theorem dX2_begin_33 : decode cX2_begin 33 = .ok (.invokeinterface 40 2, 5) := by decide +kernel
theorem dX2_begin_38 : decode cX2_begin 38 = .ok (.checkcast 84, 3) := dk_192 0 84 (dk_at dksX2_begin_1 18 rfl rfl)
theorem dX2_begin_41 : decode cX2_begin 41 = .ok (.getfield 187, 3) := dk_180 0 187 (dk_at dksX2_begin_1 21 rfl rfl)
theorem dX2_begin_44 : decode cX2_begin 44 = .ok (.iload_n 2, 1) := dk_28 (dk_at dksX2_begin_2 0 rfl rfl)
theorem dX2_begin_45 : decode cX2_begin 45 = .ok (.invokevirtual 190, 3) := dk_182 0 190 (dk_at dksX2_begin_2 1 rfl rfl)
theorem dX2_begin_48 : decode cX2_begin 48 = .ok (.ireturn, 1) := dk_172 (dk_at dksX2_begin_2 4 rfl rfl)
abbrev cX2_waste : ByteArray := prog_14_method_18_code
def yX2_waste : MethodName := ⟨RX2, "waste", "(LBlockPapers$Roll;II)I"⟩
def dkwX2_waste_1 : List UInt8 := [167, 0, 15, 25, 4, 25, 4, 28, 182, 0, 193, 29, 182, 0, 196, 172]
abbrev dktX2_waste_1 : List UInt8 := dkwX2_waste_1 ++ []
def dkwX2_waste_0 : List UInt8 := [42, 180, 0, 12, 43, 180, 0, 185, 185, 0, 40, 2, 0, 192, 0, 59, 58, 4, 29, 2, 160, 0, 7, 3]
abbrev dktX2_waste_0 : List UInt8 := dkwX2_waste_0 ++ dktX2_waste_1
theorem dksX2_waste_0 : cX2_waste.data.toList.drop 0 = dktX2_waste_0 := by decide +kernel
theorem dksX2_waste_1 : cX2_waste.data.toList.drop 24 = dktX2_waste_1 := dk_seg dksX2_waste_0 24 rfl rfl
theorem dX2_waste_0 : decode cX2_waste 0 = .ok (.aload_n 0, 1) := dk_42 (dk_at dksX2_waste_0 0 rfl rfl)
theorem dX2_waste_1 : decode cX2_waste 1 = .ok (.getfield 12, 3) := dk_180 0 12 (dk_at dksX2_waste_0 1 rfl rfl)
theorem dX2_waste_4 : decode cX2_waste 4 = .ok (.aload_n 1, 1) := dk_43 (dk_at dksX2_waste_0 4 rfl rfl)
theorem dX2_waste_5 : decode cX2_waste 5 = .ok (.getfield 185, 3) := dk_180 0 185 (dk_at dksX2_waste_0 5 rfl rfl)
theorem dX2_waste_8 : decode cX2_waste 8 = .ok (.invokeinterface 40 2, 5) := by decide +kernel
theorem dX2_waste_13 : decode cX2_waste 13 = .ok (.checkcast 59, 3) := dk_192 0 59 (dk_at dksX2_waste_0 13 rfl rfl)
theorem dX2_waste_16 : decode cX2_waste 16 = .ok (.astore 4, 2) := dk_58 4 (dk_at dksX2_waste_0 16 rfl rfl)
theorem dX2_waste_18 : decode cX2_waste 18 = .ok (.iload_n 3, 1) := dk_29 (dk_at dksX2_waste_0 18 rfl rfl)
theorem dX2_waste_19 : decode cX2_waste 19 = .ok (.iconst (-1), 1) := dk_2 (dk_at dksX2_waste_0 19 rfl rfl)
theorem dX2_waste_20 : decode cX2_waste 20 = .ok (.if_icmp .ne 7, 3) := dk_160 0 7 (dk_at dksX2_waste_0 20 rfl rfl)
theorem dX2_waste_23 : decode cX2_waste 23 = .ok (.iconst 0, 1) := dk_3 (dk_at dksX2_waste_0 23 rfl rfl)
theorem dX2_waste_24 : decode cX2_waste 24 = .ok (.goto 15, 3) := dk_167 0 15 (dk_at dksX2_waste_1 0 rfl rfl)
theorem dX2_waste_27 : decode cX2_waste 27 = .ok (.aload 4, 2) := dk_25 4 (dk_at dksX2_waste_1 3 rfl rfl)
theorem dX2_waste_29 : decode cX2_waste 29 = .ok (.aload 4, 2) := dk_25 4 (dk_at dksX2_waste_1 5 rfl rfl)
theorem dX2_waste_31 : decode cX2_waste 31 = .ok (.iload_n 2, 1) := dk_28 (dk_at dksX2_waste_1 7 rfl rfl)
theorem dX2_waste_32 : decode cX2_waste 32 = .ok (.invokevirtual 193, 3) := dk_182 0 193 (dk_at dksX2_waste_1 8 rfl rfl)
theorem dX2_waste_35 : decode cX2_waste 35 = .ok (.iload_n 3, 1) := dk_29 (dk_at dksX2_waste_1 11 rfl rfl)
theorem dX2_waste_36 : decode cX2_waste 36 = .ok (.invokevirtual 196, 3) := dk_182 0 196 (dk_at dksX2_waste_1 12 rfl rfl)
theorem dX2_waste_39 : decode cX2_waste 39 = .ok (.ireturn, 1) := dk_172 (dk_at dksX2_waste_1 15 rfl rfl)
abbrev cX2_detail : ByteArray := prog_14_method_22_code
def yX2_detail : MethodName := ⟨RX2, "detail", "(LBlockPapers$Room;II)I"⟩
def dkwX2_detail_4 : List UInt8 := [42, 43, 25, 4, 182, 0, 224, 172]
abbrev dktX2_detail_4 : List UInt8 := dkwX2_detail_4 ++ []
def dkwX2_detail_3 : List UInt8 := [167, 0, 31, 42, 43, 182, 0, 181, 180, 0, 155, 167, 0, 20, 42, 43, 25, 4, 182, 0, 220, 167, 0, 10]
abbrev dktX2_detail_3 : List UInt8 := dkwX2_detail_3 ++ dktX2_detail_4
def dkwX2_detail_2 : List UInt8 := [3, 167, 0, 53, 43, 180, 0, 227, 167, 0, 46, 28, 167, 0, 42, 42, 43, 182, 0, 181, 180, 0, 185]
abbrev dktX2_detail_2 : List UInt8 := dkwX2_detail_2 ++ dktX2_detail_3
def dkwX2_detail_1 : List UInt8 := [170, 0, 0, 0, 0, 0, 0, 99, 0, 0, 0, 0, 0, 0, 0, 8, 0, 0, 0, 52, 0, 0, 0, 99, 0, 0, 0, 99, 0, 0, 0, 99, 0, 0, 0, 56, 0, 0, 0, 63, 0, 0, 0, 67, 0, 0, 0, 78, 0, 0, 0, 89]
abbrev dktX2_detail_1 : List UInt8 := dkwX2_detail_1 ++ dktX2_detail_2
def dkwX2_detail_0 : List UInt8 := [42, 180, 0, 21, 28, 185, 0, 40, 2, 0, 192, 0, 63, 58, 4, 29]
abbrev dktX2_detail_0 : List UInt8 := dkwX2_detail_0 ++ dktX2_detail_1
theorem dksX2_detail_0 : cX2_detail.data.toList.drop 0 = dktX2_detail_0 := by decide +kernel
theorem dksX2_detail_1 : cX2_detail.data.toList.drop 16 = dktX2_detail_1 := dk_seg dksX2_detail_0 16 rfl rfl
theorem dksX2_detail_2 : cX2_detail.data.toList.drop 68 = dktX2_detail_2 := dk_seg dksX2_detail_1 52 rfl rfl
theorem dksX2_detail_3 : cX2_detail.data.toList.drop 91 = dktX2_detail_3 := dk_seg dksX2_detail_2 23 rfl rfl
theorem dksX2_detail_4 : cX2_detail.data.toList.drop 115 = dktX2_detail_4 := dk_seg dksX2_detail_3 24 rfl rfl
theorem dX2_detail_0 : decode cX2_detail 0 = .ok (.aload_n 0, 1) := dk_42 (dk_at dksX2_detail_0 0 rfl rfl)
theorem dX2_detail_1 : decode cX2_detail 1 = .ok (.getfield 21, 3) := dk_180 0 21 (dk_at dksX2_detail_0 1 rfl rfl)
theorem dX2_detail_4 : decode cX2_detail 4 = .ok (.iload_n 2, 1) := dk_28 (dk_at dksX2_detail_0 4 rfl rfl)
theorem dX2_detail_5 : decode cX2_detail 5 = .ok (.invokeinterface 40 2, 5) := by decide +kernel
theorem dX2_detail_10 : decode cX2_detail 10 = .ok (.checkcast 63, 3) := dk_192 0 63 (dk_at dksX2_detail_0 10 rfl rfl)
theorem dX2_detail_13 : decode cX2_detail 13 = .ok (.astore 4, 2) := dk_58 4 (dk_at dksX2_detail_0 13 rfl rfl)
theorem dX2_detail_15 : decode cX2_detail 15 = .ok (.iload_n 3, 1) := dk_29 (dk_at dksX2_detail_0 15 rfl rfl)
theorem dX2_detail_16 : decode cX2_detail 16 = .ok (.tableswitch 99 0 8 #[52, 99, 99, 99, 56, 63, 67, 78, 89], 52) := by decide +kernel
theorem dX2_detail_68 : decode cX2_detail 68 = .ok (.iconst 0, 1) := dk_3 (dk_at dksX2_detail_2 0 rfl rfl)
theorem dX2_detail_69 : decode cX2_detail 69 = .ok (.goto 53, 3) := dk_167 0 53 (dk_at dksX2_detail_2 1 rfl rfl)
theorem dX2_detail_72 : decode cX2_detail 72 = .ok (.aload_n 1, 1) := dk_43 (dk_at dksX2_detail_2 4 rfl rfl)
theorem dX2_detail_73 : decode cX2_detail 73 = .ok (.getfield 227, 3) := dk_180 0 227 (dk_at dksX2_detail_2 5 rfl rfl)
theorem dX2_detail_76 : decode cX2_detail 76 = .ok (.goto 46, 3) := dk_167 0 46 (dk_at dksX2_detail_2 8 rfl rfl)
theorem dX2_detail_79 : decode cX2_detail 79 = .ok (.iload_n 2, 1) := dk_28 (dk_at dksX2_detail_2 11 rfl rfl)
theorem dX2_detail_80 : decode cX2_detail 80 = .ok (.goto 42, 3) := dk_167 0 42 (dk_at dksX2_detail_2 12 rfl rfl)
theorem dX2_detail_83 : decode cX2_detail 83 = .ok (.aload_n 0, 1) := dk_42 (dk_at dksX2_detail_2 15 rfl rfl)
theorem dX2_detail_84 : decode cX2_detail 84 = .ok (.aload_n 1, 1) := dk_43 (dk_at dksX2_detail_2 16 rfl rfl)
theorem dX2_detail_85 : decode cX2_detail 85 = .ok (.invokevirtual 181, 3) := dk_182 0 181 (dk_at dksX2_detail_2 17 rfl rfl)
theorem dX2_detail_88 : decode cX2_detail 88 = .ok (.getfield 185, 3) := dk_180 0 185 (dk_at dksX2_detail_2 20 rfl rfl)
theorem dX2_detail_91 : decode cX2_detail 91 = .ok (.goto 31, 3) := dk_167 0 31 (dk_at dksX2_detail_3 0 rfl rfl)
theorem dX2_detail_94 : decode cX2_detail 94 = .ok (.aload_n 0, 1) := dk_42 (dk_at dksX2_detail_3 3 rfl rfl)
theorem dX2_detail_95 : decode cX2_detail 95 = .ok (.aload_n 1, 1) := dk_43 (dk_at dksX2_detail_3 4 rfl rfl)
theorem dX2_detail_96 : decode cX2_detail 96 = .ok (.invokevirtual 181, 3) := dk_182 0 181 (dk_at dksX2_detail_3 5 rfl rfl)
theorem dX2_detail_99 : decode cX2_detail 99 = .ok (.getfield 155, 3) := dk_180 0 155 (dk_at dksX2_detail_3 8 rfl rfl)
theorem dX2_detail_102 : decode cX2_detail 102 = .ok (.goto 20, 3) := dk_167 0 20 (dk_at dksX2_detail_3 11 rfl rfl)
theorem dX2_detail_105 : decode cX2_detail 105 = .ok (.aload_n 0, 1) := dk_42 (dk_at dksX2_detail_3 14 rfl rfl)
theorem dX2_detail_106 : decode cX2_detail 106 = .ok (.aload_n 1, 1) := dk_43 (dk_at dksX2_detail_3 15 rfl rfl)
theorem dX2_detail_107 : decode cX2_detail 107 = .ok (.aload 4, 2) := dk_25 4 (dk_at dksX2_detail_3 16 rfl rfl)
theorem dX2_detail_109 : decode cX2_detail 109 = .ok (.invokevirtual 220, 3) := dk_182 0 220 (dk_at dksX2_detail_3 18 rfl rfl)
theorem dX2_detail_112 : decode cX2_detail 112 = .ok (.goto 10, 3) := dk_167 0 10 (dk_at dksX2_detail_3 21 rfl rfl)
theorem dX2_detail_115 : decode cX2_detail 115 = .ok (.aload_n 0, 1) := dk_42 (dk_at dksX2_detail_4 0 rfl rfl)
theorem dX2_detail_116 : decode cX2_detail 116 = .ok (.aload_n 1, 1) := dk_43 (dk_at dksX2_detail_4 1 rfl rfl)
theorem dX2_detail_117 : decode cX2_detail 117 = .ok (.aload 4, 2) := dk_25 4 (dk_at dksX2_detail_4 2 rfl rfl)
theorem dX2_detail_119 : decode cX2_detail 119 = .ok (.invokevirtual 224, 3) := dk_182 0 224 (dk_at dksX2_detail_4 4 rfl rfl)
theorem dX2_detail_122 : decode cX2_detail 122 = .ok (.ireturn, 1) := dk_172 (dk_at dksX2_detail_4 7 rfl rfl)
abbrev cX2_hang_2 : ByteArray := prog_14_method_23_code
def yX2_hang_2 : MethodName := ⟨RX2, "hang", "(LBlockPapers$Room;I)I"⟩
def dkwX2_hang_2_5 : List UInt8 := [182, 0, 235, 185, 0, 108, 3, 0, 192, 0, 63, 58, 6, 21, 4, 172]
abbrev dktX2_hang_2_5 : List UInt8 := dkwX2_hang_2_5 ++ []
def dkwX2_hang_2_4 : List UInt8 := [180, 0, 233, 21, 4, 96, 181, 0, 233, 42, 180, 0, 21, 28, 45, 21, 4, 43, 180, 0, 206, 96]
abbrev dktX2_hang_2_4 : List UInt8 := dkwX2_hang_2_4 ++ dktX2_hang_2_5
def dkwX2_hang_2_3 : List UInt8 := [187, 0, 84, 89, 28, 21, 5, 45, 180, 0, 154, 21, 4, 183, 0, 230, 185, 0, 47, 2, 0, 87, 43, 89]
abbrev dktX2_hang_2_3 : List UInt8 := dkwX2_hang_2_3 ++ dktX2_hang_2_4
def dkwX2_hang_2_2 : List UInt8 := [185, 0, 40, 2, 0, 192, 0, 59, 45, 180, 0, 151, 21, 4, 96, 182, 0, 193, 54, 5, 43, 180, 0, 175]
abbrev dktX2_hang_2_2 : List UInt8 := dkwX2_hang_2_2 ++ dktX2_hang_2_3
def dkwX2_hang_2_1 : List UInt8 := [180, 0, 175, 185, 0, 34, 1, 0, 182, 0, 199, 182, 0, 202, 54, 4, 42, 180, 0, 12, 45, 180, 0, 185]
abbrev dktX2_hang_2_1 : List UInt8 := dkwX2_hang_2_1 ++ dktX2_hang_2_2
def dkwX2_hang_2_0 : List UInt8 := [42, 180, 0, 21, 28, 185, 0, 40, 2, 0, 192, 0, 63, 78, 42, 45, 45, 180, 0, 151, 42, 43, 43]
abbrev dktX2_hang_2_0 : List UInt8 := dkwX2_hang_2_0 ++ dktX2_hang_2_1
theorem dksX2_hang_2_0 : cX2_hang_2.data.toList.drop 0 = dktX2_hang_2_0 := by decide +kernel
theorem dksX2_hang_2_1 : cX2_hang_2.data.toList.drop 23 = dktX2_hang_2_1 := dk_seg dksX2_hang_2_0 23 rfl rfl
theorem dksX2_hang_2_2 : cX2_hang_2.data.toList.drop 47 = dktX2_hang_2_2 := dk_seg dksX2_hang_2_1 24 rfl rfl
theorem dksX2_hang_2_3 : cX2_hang_2.data.toList.drop 71 = dktX2_hang_2_3 := dk_seg dksX2_hang_2_2 24 rfl rfl
theorem dksX2_hang_2_4 : cX2_hang_2.data.toList.drop 95 = dktX2_hang_2_4 := dk_seg dksX2_hang_2_3 24 rfl rfl
theorem dksX2_hang_2_5 : cX2_hang_2.data.toList.drop 117 = dktX2_hang_2_5 := dk_seg dksX2_hang_2_4 22 rfl rfl
theorem dX2_hang_2_0 : decode cX2_hang_2 0 = .ok (.aload_n 0, 1) := dk_42 (dk_at dksX2_hang_2_0 0 rfl rfl)
theorem dX2_hang_2_1 : decode cX2_hang_2 1 = .ok (.getfield 21, 3) := dk_180 0 21 (dk_at dksX2_hang_2_0 1 rfl rfl)
theorem dX2_hang_2_4 : decode cX2_hang_2 4 = .ok (.iload_n 2, 1) := dk_28 (dk_at dksX2_hang_2_0 4 rfl rfl)
theorem dX2_hang_2_5 : decode cX2_hang_2 5 = .ok (.invokeinterface 40 2, 5) := by decide +kernel
theorem dX2_hang_2_10 : decode cX2_hang_2 10 = .ok (.checkcast 63, 3) := dk_192 0 63 (dk_at dksX2_hang_2_0 10 rfl rfl)
theorem dX2_hang_2_13 : decode cX2_hang_2 13 = .ok (.astore_n 3, 1) := dk_78 (dk_at dksX2_hang_2_0 13 rfl rfl)
theorem dX2_hang_2_14 : decode cX2_hang_2 14 = .ok (.aload_n 0, 1) := dk_42 (dk_at dksX2_hang_2_0 14 rfl rfl)
theorem dX2_hang_2_15 : decode cX2_hang_2 15 = .ok (.aload_n 3, 1) := dk_45 (dk_at dksX2_hang_2_0 15 rfl rfl)
theorem dX2_hang_2_16 : decode cX2_hang_2 16 = .ok (.aload_n 3, 1) := dk_45 (dk_at dksX2_hang_2_0 16 rfl rfl)
theorem dX2_hang_2_17 : decode cX2_hang_2 17 = .ok (.getfield 151, 3) := dk_180 0 151 (dk_at dksX2_hang_2_0 17 rfl rfl)
theorem dX2_hang_2_20 : decode cX2_hang_2 20 = .ok (.aload_n 0, 1) := dk_42 (dk_at dksX2_hang_2_0 20 rfl rfl)
theorem dX2_hang_2_21 : decode cX2_hang_2 21 = .ok (.aload_n 1, 1) := dk_43 (dk_at dksX2_hang_2_0 21 rfl rfl)
theorem dX2_hang_2_22 : decode cX2_hang_2 22 = .ok (.aload_n 1, 1) := dk_43 (dk_at dksX2_hang_2_0 22 rfl rfl)
theorem dX2_hang_2_23 : decode cX2_hang_2 23 = .ok (.getfield 175, 3) := dk_180 0 175 (dk_at dksX2_hang_2_1 0 rfl rfl)
theorem dX2_hang_2_26 : decode cX2_hang_2 26 = .ok (.invokeinterface 34 1, 5) := by decide +kernel
theorem dX2_hang_2_31 : decode cX2_hang_2 31 = .ok (.invokevirtual 199, 3) := dk_182 0 199 (dk_at dksX2_hang_2_1 8 rfl rfl)
theorem dX2_hang_2_34 : decode cX2_hang_2 34 = .ok (.invokevirtual 202, 3) := dk_182 0 202 (dk_at dksX2_hang_2_1 11 rfl rfl)
theorem dX2_hang_2_37 : decode cX2_hang_2 37 = .ok (.istore 4, 2) := dk_54 4 (dk_at dksX2_hang_2_1 14 rfl rfl)
theorem dX2_hang_2_39 : decode cX2_hang_2 39 = .ok (.aload_n 0, 1) := dk_42 (dk_at dksX2_hang_2_1 16 rfl rfl)
theorem dX2_hang_2_40 : decode cX2_hang_2 40 = .ok (.getfield 12, 3) := dk_180 0 12 (dk_at dksX2_hang_2_1 17 rfl rfl)
theorem dX2_hang_2_43 : decode cX2_hang_2 43 = .ok (.aload_n 3, 1) := dk_45 (dk_at dksX2_hang_2_1 20 rfl rfl)
theorem dX2_hang_2_44 : decode cX2_hang_2 44 = .ok (.getfield 185, 3) := dk_180 0 185 (dk_at dksX2_hang_2_1 21 rfl rfl)
theorem dX2_hang_2_47 : decode cX2_hang_2 47 = .ok (.invokeinterface 40 2, 5) := by decide +kernel
theorem dX2_hang_2_52 : decode cX2_hang_2 52 = .ok (.checkcast 59, 3) := dk_192 0 59 (dk_at dksX2_hang_2_2 5 rfl rfl)
theorem dX2_hang_2_55 : decode cX2_hang_2 55 = .ok (.aload_n 3, 1) := dk_45 (dk_at dksX2_hang_2_2 8 rfl rfl)
theorem dX2_hang_2_56 : decode cX2_hang_2 56 = .ok (.getfield 151, 3) := dk_180 0 151 (dk_at dksX2_hang_2_2 9 rfl rfl)
theorem dX2_hang_2_59 : decode cX2_hang_2 59 = .ok (.iload 4, 2) := dk_21 4 (dk_at dksX2_hang_2_2 12 rfl rfl)
theorem dX2_hang_2_61 : decode cX2_hang_2 61 = .ok (.iadd, 1) := dk_96 (dk_at dksX2_hang_2_2 14 rfl rfl)
theorem dX2_hang_2_62 : decode cX2_hang_2 62 = .ok (.invokevirtual 193, 3) := dk_182 0 193 (dk_at dksX2_hang_2_2 15 rfl rfl)
theorem dX2_hang_2_65 : decode cX2_hang_2 65 = .ok (.istore 5, 2) := dk_54 5 (dk_at dksX2_hang_2_2 18 rfl rfl)
theorem dX2_hang_2_67 : decode cX2_hang_2 67 = .ok (.aload_n 1, 1) := dk_43 (dk_at dksX2_hang_2_2 20 rfl rfl)
theorem dX2_hang_2_68 : decode cX2_hang_2 68 = .ok (.getfield 175, 3) := dk_180 0 175 (dk_at dksX2_hang_2_2 21 rfl rfl)
theorem dX2_hang_2_71 : decode cX2_hang_2 71 = .ok (.new 84, 3) := dk_187 0 84 (dk_at dksX2_hang_2_3 0 rfl rfl)
theorem dX2_hang_2_74 : decode cX2_hang_2 74 = .ok (.dup, 1) := dk_89 (dk_at dksX2_hang_2_3 3 rfl rfl)
theorem dX2_hang_2_75 : decode cX2_hang_2 75 = .ok (.iload_n 2, 1) := dk_28 (dk_at dksX2_hang_2_3 4 rfl rfl)
theorem dX2_hang_2_76 : decode cX2_hang_2 76 = .ok (.iload 5, 2) := dk_21 5 (dk_at dksX2_hang_2_3 5 rfl rfl)
theorem dX2_hang_2_78 : decode cX2_hang_2 78 = .ok (.aload_n 3, 1) := dk_45 (dk_at dksX2_hang_2_3 7 rfl rfl)
theorem dX2_hang_2_79 : decode cX2_hang_2 79 = .ok (.getfield 154, 3) := dk_180 0 154 (dk_at dksX2_hang_2_3 8 rfl rfl)
theorem dX2_hang_2_82 : decode cX2_hang_2 82 = .ok (.iload 4, 2) := dk_21 4 (dk_at dksX2_hang_2_3 11 rfl rfl)
theorem dX2_hang_2_84 : decode cX2_hang_2 84 = .ok (.invokespecial 230, 3) := dk_183 0 230 (dk_at dksX2_hang_2_3 13 rfl rfl)
theorem dX2_hang_2_87 : decode cX2_hang_2 87 = .ok (.invokeinterface 47 2, 5) := by decide +kernel
theorem dX2_hang_2_92 : decode cX2_hang_2 92 = .ok (.pop, 1) := dk_87 (dk_at dksX2_hang_2_3 21 rfl rfl)
theorem dX2_hang_2_93 : decode cX2_hang_2 93 = .ok (.aload_n 1, 1) := dk_43 (dk_at dksX2_hang_2_3 22 rfl rfl)
theorem dX2_hang_2_94 : decode cX2_hang_2 94 = .ok (.dup, 1) := dk_89 (dk_at dksX2_hang_2_3 23 rfl rfl)
theorem dX2_hang_2_95 : decode cX2_hang_2 95 = .ok (.getfield 233, 3) := dk_180 0 233 (dk_at dksX2_hang_2_4 0 rfl rfl)
theorem dX2_hang_2_98 : decode cX2_hang_2 98 = .ok (.iload 4, 2) := dk_21 4 (dk_at dksX2_hang_2_4 3 rfl rfl)
theorem dX2_hang_2_100 : decode cX2_hang_2 100 = .ok (.iadd, 1) := dk_96 (dk_at dksX2_hang_2_4 5 rfl rfl)
theorem dX2_hang_2_101 : decode cX2_hang_2 101 = .ok (.putfield 233, 3) := dk_181 0 233 (dk_at dksX2_hang_2_4 6 rfl rfl)
theorem dX2_hang_2_104 : decode cX2_hang_2 104 = .ok (.aload_n 0, 1) := dk_42 (dk_at dksX2_hang_2_4 9 rfl rfl)
theorem dX2_hang_2_105 : decode cX2_hang_2 105 = .ok (.getfield 21, 3) := dk_180 0 21 (dk_at dksX2_hang_2_4 10 rfl rfl)
theorem dX2_hang_2_108 : decode cX2_hang_2 108 = .ok (.iload_n 2, 1) := dk_28 (dk_at dksX2_hang_2_4 13 rfl rfl)
theorem dX2_hang_2_109 : decode cX2_hang_2 109 = .ok (.aload_n 3, 1) := dk_45 (dk_at dksX2_hang_2_4 14 rfl rfl)
theorem dX2_hang_2_110 : decode cX2_hang_2 110 = .ok (.iload 4, 2) := dk_21 4 (dk_at dksX2_hang_2_4 15 rfl rfl)
theorem dX2_hang_2_112 : decode cX2_hang_2 112 = .ok (.aload_n 1, 1) := dk_43 (dk_at dksX2_hang_2_4 17 rfl rfl)
theorem dX2_hang_2_113 : decode cX2_hang_2 113 = .ok (.getfield 206, 3) := dk_180 0 206 (dk_at dksX2_hang_2_4 18 rfl rfl)
theorem dX2_hang_2_116 : decode cX2_hang_2 116 = .ok (.iadd, 1) := dk_96 (dk_at dksX2_hang_2_4 21 rfl rfl)
theorem dX2_hang_2_117 : decode cX2_hang_2 117 = .ok (.invokevirtual 235, 3) := dk_182 0 235 (dk_at dksX2_hang_2_5 0 rfl rfl)
theorem dX2_hang_2_120 : decode cX2_hang_2 120 = .ok (.invokeinterface 108 3, 5) := by decide +kernel
theorem dX2_hang_2_125 : decode cX2_hang_2 125 = .ok (.checkcast 63, 3) := dk_192 0 63 (dk_at dksX2_hang_2_5 8 rfl rfl)
theorem dX2_hang_2_128 : decode cX2_hang_2 128 = .ok (.astore 6, 2) := dk_58 6 (dk_at dksX2_hang_2_5 11 rfl rfl)
theorem dX2_hang_2_130 : decode cX2_hang_2 130 = .ok (.iload 4, 2) := dk_21 4 (dk_at dksX2_hang_2_5 13 rfl rfl)
theorem dX2_hang_2_132 : decode cX2_hang_2 132 = .ok (.ireturn, 1) := dk_172 (dk_at dksX2_hang_2_5 15 rfl rfl)
abbrev cX2_strip : ByteArray := prog_14_method_25_code
def yX2_strip : MethodName := ⟨RX2, "strip", "(I)I"⟩
def dkwX2_strip_2 : List UInt8 := [185, 0, 252, 2, 0, 192, 0, 84, 78, 44, 89, 180, 0, 255, 4, 96, 181, 0, 255, 45, 180, 0, 86, 172]
abbrev dktX2_strip_2 : List UInt8 := dkwX2_strip_2 ++ []
def dkwX2_strip_1 : List UInt8 := [16, 10, 3, 184, 0, 93, 44, 180, 0, 175, 44, 180, 0, 175, 185, 0, 34, 1, 0, 4, 100]
abbrev dktX2_strip_1 : List UInt8 := dkwX2_strip_1 ++ dktX2_strip_2
def dkwX2_strip_0 : List UInt8 := [42, 27, 182, 0, 238, 77, 44, 180, 0, 175, 185, 0, 178, 1, 0, 154, 0, 7, 4, 167, 0, 4, 3]
abbrev dktX2_strip_0 : List UInt8 := dkwX2_strip_0 ++ dktX2_strip_1
theorem dksX2_strip_0 : cX2_strip.data.toList.drop 0 = dktX2_strip_0 := by decide +kernel
theorem dksX2_strip_1 : cX2_strip.data.toList.drop 23 = dktX2_strip_1 := dk_seg dksX2_strip_0 23 rfl rfl
theorem dksX2_strip_2 : cX2_strip.data.toList.drop 44 = dktX2_strip_2 := dk_seg dksX2_strip_1 21 rfl rfl
theorem dX2_strip_0 : decode cX2_strip 0 = .ok (.aload_n 0, 1) := dk_42 (dk_at dksX2_strip_0 0 rfl rfl)
theorem dX2_strip_1 : decode cX2_strip 1 = .ok (.iload_n 1, 1) := dk_27 (dk_at dksX2_strip_0 1 rfl rfl)
theorem dX2_strip_2 : decode cX2_strip 2 = .ok (.invokevirtual 238, 3) := dk_182 0 238 (dk_at dksX2_strip_0 2 rfl rfl)
theorem dX2_strip_5 : decode cX2_strip 5 = .ok (.astore_n 2, 1) := dk_77 (dk_at dksX2_strip_0 5 rfl rfl)
theorem dX2_strip_6 : decode cX2_strip 6 = .ok (.aload_n 2, 1) := dk_44 (dk_at dksX2_strip_0 6 rfl rfl)
theorem dX2_strip_7 : decode cX2_strip 7 = .ok (.getfield 175, 3) := dk_180 0 175 (dk_at dksX2_strip_0 7 rfl rfl)
theorem dX2_strip_10 : decode cX2_strip 10 = .ok (.invokeinterface 178 1, 5) := by decide +kernel
theorem dX2_strip_15 : decode cX2_strip 15 = .ok (.ifCond .ne 7, 3) := dk_154 0 7 (dk_at dksX2_strip_0 15 rfl rfl)
theorem dX2_strip_18 : decode cX2_strip 18 = .ok (.iconst 1, 1) := dk_4 (dk_at dksX2_strip_0 18 rfl rfl)
theorem dX2_strip_19 : decode cX2_strip 19 = .ok (.goto 4, 3) := dk_167 0 4 (dk_at dksX2_strip_0 19 rfl rfl)
theorem dX2_strip_22 : decode cX2_strip 22 = .ok (.iconst 0, 1) := dk_3 (dk_at dksX2_strip_0 22 rfl rfl)
theorem dX2_strip_23 : decode cX2_strip 23 = .ok (.bipush 10, 2) := dk_16 10 (dk_at dksX2_strip_1 0 rfl rfl)
theorem dX2_strip_25 : decode cX2_strip 25 = .ok (.iconst 0, 1) := dk_3 (dk_at dksX2_strip_1 2 rfl rfl)
theorem dX2_strip_26 : decode cX2_strip 26 = .ok (.invokestatic 93, 3) := dk_184 0 93 (dk_at dksX2_strip_1 3 rfl rfl)
theorem dX2_strip_29 : decode cX2_strip 29 = .ok (.aload_n 2, 1) := dk_44 (dk_at dksX2_strip_1 6 rfl rfl)
theorem dX2_strip_30 : decode cX2_strip 30 = .ok (.getfield 175, 3) := dk_180 0 175 (dk_at dksX2_strip_1 7 rfl rfl)
theorem dX2_strip_33 : decode cX2_strip 33 = .ok (.aload_n 2, 1) := dk_44 (dk_at dksX2_strip_1 10 rfl rfl)
theorem dX2_strip_34 : decode cX2_strip 34 = .ok (.getfield 175, 3) := dk_180 0 175 (dk_at dksX2_strip_1 11 rfl rfl)
theorem dX2_strip_37 : decode cX2_strip 37 = .ok (.invokeinterface 34 1, 5) := by decide +kernel
theorem dX2_strip_42 : decode cX2_strip 42 = .ok (.iconst 1, 1) := dk_4 (dk_at dksX2_strip_1 19 rfl rfl)
theorem dX2_strip_43 : decode cX2_strip 43 = .ok (.isub, 1) := dk_100 (dk_at dksX2_strip_1 20 rfl rfl)
theorem dX2_strip_44 : decode cX2_strip 44 = .ok (.invokeinterface 252 2, 5) := by decide +kernel
theorem dX2_strip_49 : decode cX2_strip 49 = .ok (.checkcast 84, 3) := dk_192 0 84 (dk_at dksX2_strip_2 5 rfl rfl)
theorem dX2_strip_52 : decode cX2_strip 52 = .ok (.astore_n 3, 1) := dk_78 (dk_at dksX2_strip_2 8 rfl rfl)
theorem dX2_strip_53 : decode cX2_strip 53 = .ok (.aload_n 2, 1) := dk_44 (dk_at dksX2_strip_2 9 rfl rfl)
theorem dX2_strip_54 : decode cX2_strip 54 = .ok (.dup, 1) := dk_89 (dk_at dksX2_strip_2 10 rfl rfl)
theorem dX2_strip_55 : decode cX2_strip 55 = .ok (.getfield 255, 3) := dk_180 0 255 (dk_at dksX2_strip_2 11 rfl rfl)
theorem dX2_strip_58 : decode cX2_strip 58 = .ok (.iconst 1, 1) := dk_4 (dk_at dksX2_strip_2 14 rfl rfl)
theorem dX2_strip_59 : decode cX2_strip 59 = .ok (.iadd, 1) := dk_96 (dk_at dksX2_strip_2 15 rfl rfl)
theorem dX2_strip_60 : decode cX2_strip 60 = .ok (.putfield 255, 3) := dk_181 0 255 (dk_at dksX2_strip_2 16 rfl rfl)
theorem dX2_strip_63 : decode cX2_strip 63 = .ok (.aload_n 3, 1) := dk_45 (dk_at dksX2_strip_2 19 rfl rfl)
theorem dX2_strip_64 : decode cX2_strip 64 = .ok (.getfield 86, 3) := dk_180 0 86 (dk_at dksX2_strip_2 20 rfl rfl)
theorem dX2_strip_67 : decode cX2_strip 67 = .ok (.ireturn, 1) := dk_172 (dk_at dksX2_strip_2 23 rfl rfl)
abbrev cX2_finish : ByteArray := prog_14_method_27_code
def yX2_finish : MethodName := ⟨RX2, "finish", "(I)I"⟩
def dkwX2_finish_3 : List UInt8 := [167, 0, 4, 3, 16, 14, 27, 184, 0, 93, 29, 172]
abbrev dktX2_finish_3 : List UInt8 := dkwX2_finish_3 ++ []
def dkwX2_finish_2 : List UInt8 := [182, 0, 249, 54, 5, 132, 3, 1, 42, 44, 182, 1, 14, 54, 4, 167, 255, 231, 29, 158, 0, 7, 4]
abbrev dktX2_finish_2 : List UInt8 := dkwX2_finish_2 ++ dktX2_finish_3
def dkwX2_finish_1 : List UInt8 := [184, 0, 93, 3, 62, 42, 44, 182, 1, 14, 54, 4, 21, 4, 2, 159, 0, 25, 42, 44, 21, 4]
abbrev dktX2_finish_1 : List UInt8 := dkwX2_finish_1 ++ dktX2_finish_2
def dkwX2_finish_0 : List UInt8 := [42, 27, 182, 0, 238, 77, 44, 182, 0, 217, 154, 0, 7, 4, 167, 0, 4, 3, 7, 44, 180, 0, 227]
abbrev dktX2_finish_0 : List UInt8 := dkwX2_finish_0 ++ dktX2_finish_1
theorem dksX2_finish_0 : cX2_finish.data.toList.drop 0 = dktX2_finish_0 := by decide +kernel
theorem dksX2_finish_1 : cX2_finish.data.toList.drop 23 = dktX2_finish_1 := dk_seg dksX2_finish_0 23 rfl rfl
theorem dksX2_finish_2 : cX2_finish.data.toList.drop 45 = dktX2_finish_2 := dk_seg dksX2_finish_1 22 rfl rfl
theorem dksX2_finish_3 : cX2_finish.data.toList.drop 68 = dktX2_finish_3 := dk_seg dksX2_finish_2 23 rfl rfl
theorem dX2_finish_0 : decode cX2_finish 0 = .ok (.aload_n 0, 1) := dk_42 (dk_at dksX2_finish_0 0 rfl rfl)
theorem dX2_finish_1 : decode cX2_finish 1 = .ok (.iload_n 1, 1) := dk_27 (dk_at dksX2_finish_0 1 rfl rfl)
theorem dX2_finish_2 : decode cX2_finish 2 = .ok (.invokevirtual 238, 3) := dk_182 0 238 (dk_at dksX2_finish_0 2 rfl rfl)
theorem dX2_finish_5 : decode cX2_finish 5 = .ok (.astore_n 2, 1) := dk_77 (dk_at dksX2_finish_0 5 rfl rfl)
theorem dX2_finish_6 : decode cX2_finish 6 = .ok (.aload_n 2, 1) := dk_44 (dk_at dksX2_finish_0 6 rfl rfl)
theorem dX2_finish_7 : decode cX2_finish 7 = .ok (.invokevirtual 217, 3) := dk_182 0 217 (dk_at dksX2_finish_0 7 rfl rfl)
theorem dX2_finish_10 : decode cX2_finish 10 = .ok (.ifCond .ne 7, 3) := dk_154 0 7 (dk_at dksX2_finish_0 10 rfl rfl)
theorem dX2_finish_13 : decode cX2_finish 13 = .ok (.iconst 1, 1) := dk_4 (dk_at dksX2_finish_0 13 rfl rfl)
theorem dX2_finish_14 : decode cX2_finish 14 = .ok (.goto 4, 3) := dk_167 0 4 (dk_at dksX2_finish_0 14 rfl rfl)
theorem dX2_finish_17 : decode cX2_finish 17 = .ok (.iconst 0, 1) := dk_3 (dk_at dksX2_finish_0 17 rfl rfl)
theorem dX2_finish_18 : decode cX2_finish 18 = .ok (.iconst 4, 1) := dk_7 (dk_at dksX2_finish_0 18 rfl rfl)
theorem dX2_finish_19 : decode cX2_finish 19 = .ok (.aload_n 2, 1) := dk_44 (dk_at dksX2_finish_0 19 rfl rfl)
theorem dX2_finish_20 : decode cX2_finish 20 = .ok (.getfield 227, 3) := dk_180 0 227 (dk_at dksX2_finish_0 20 rfl rfl)
theorem dX2_finish_23 : decode cX2_finish 23 = .ok (.invokestatic 93, 3) := dk_184 0 93 (dk_at dksX2_finish_1 0 rfl rfl)
theorem dX2_finish_26 : decode cX2_finish 26 = .ok (.iconst 0, 1) := dk_3 (dk_at dksX2_finish_1 3 rfl rfl)
theorem dX2_finish_27 : decode cX2_finish 27 = .ok (.istore_n 3, 1) := dk_62 (dk_at dksX2_finish_1 4 rfl rfl)
theorem dX2_finish_28 : decode cX2_finish 28 = .ok (.aload_n 0, 1) := dk_42 (dk_at dksX2_finish_1 5 rfl rfl)
theorem dX2_finish_29 : decode cX2_finish 29 = .ok (.aload_n 2, 1) := dk_44 (dk_at dksX2_finish_1 6 rfl rfl)
theorem dX2_finish_30 : decode cX2_finish 30 = .ok (.invokevirtual 270, 3) := dk_182 1 14 (dk_at dksX2_finish_1 7 rfl rfl)
theorem dX2_finish_33 : decode cX2_finish 33 = .ok (.istore 4, 2) := dk_54 4 (dk_at dksX2_finish_1 10 rfl rfl)
theorem dX2_finish_35 : decode cX2_finish 35 = .ok (.iload 4, 2) := dk_21 4 (dk_at dksX2_finish_1 12 rfl rfl)
theorem dX2_finish_37 : decode cX2_finish 37 = .ok (.iconst (-1), 1) := dk_2 (dk_at dksX2_finish_1 14 rfl rfl)
theorem dX2_finish_38 : decode cX2_finish 38 = .ok (.if_icmp .eq 25, 3) := dk_159 0 25 (dk_at dksX2_finish_1 15 rfl rfl)
theorem dX2_finish_41 : decode cX2_finish 41 = .ok (.aload_n 0, 1) := dk_42 (dk_at dksX2_finish_1 18 rfl rfl)
theorem dX2_finish_42 : decode cX2_finish 42 = .ok (.aload_n 2, 1) := dk_44 (dk_at dksX2_finish_1 19 rfl rfl)
theorem dX2_finish_43 : decode cX2_finish 43 = .ok (.iload 4, 2) := dk_21 4 (dk_at dksX2_finish_1 20 rfl rfl)
theorem dX2_finish_45 : decode cX2_finish 45 = .ok (.invokevirtual 249, 3) := dk_182 0 249 (dk_at dksX2_finish_2 0 rfl rfl)
theorem dX2_finish_48 : decode cX2_finish 48 = .ok (.istore 5, 2) := dk_54 5 (dk_at dksX2_finish_2 3 rfl rfl)
theorem dX2_finish_50 : decode cX2_finish 50 = .ok (.iinc 3 1, 3) := dk_132 3 1 (dk_at dksX2_finish_2 5 rfl rfl)
theorem dX2_finish_53 : decode cX2_finish 53 = .ok (.aload_n 0, 1) := dk_42 (dk_at dksX2_finish_2 8 rfl rfl)
theorem dX2_finish_54 : decode cX2_finish 54 = .ok (.aload_n 2, 1) := dk_44 (dk_at dksX2_finish_2 9 rfl rfl)
theorem dX2_finish_55 : decode cX2_finish 55 = .ok (.invokevirtual 270, 3) := dk_182 1 14 (dk_at dksX2_finish_2 10 rfl rfl)
theorem dX2_finish_58 : decode cX2_finish 58 = .ok (.istore 4, 2) := dk_54 4 (dk_at dksX2_finish_2 13 rfl rfl)
theorem dX2_finish_60 : decode cX2_finish 60 = .ok (.goto (-25), 3) := dk_167 255 231 (dk_at dksX2_finish_2 15 rfl rfl)
theorem dX2_finish_63 : decode cX2_finish 63 = .ok (.iload_n 3, 1) := dk_29 (dk_at dksX2_finish_2 18 rfl rfl)
theorem dX2_finish_64 : decode cX2_finish 64 = .ok (.ifCond .le 7, 3) := dk_158 0 7 (dk_at dksX2_finish_2 19 rfl rfl)
theorem dX2_finish_67 : decode cX2_finish 67 = .ok (.iconst 1, 1) := dk_4 (dk_at dksX2_finish_2 22 rfl rfl)
theorem dX2_finish_68 : decode cX2_finish 68 = .ok (.goto 4, 3) := dk_167 0 4 (dk_at dksX2_finish_3 0 rfl rfl)
theorem dX2_finish_71 : decode cX2_finish 71 = .ok (.iconst 0, 1) := dk_3 (dk_at dksX2_finish_3 3 rfl rfl)
theorem dX2_finish_72 : decode cX2_finish 72 = .ok (.bipush 14, 2) := dk_16 14 (dk_at dksX2_finish_3 4 rfl rfl)
theorem dX2_finish_74 : decode cX2_finish 74 = .ok (.iload_n 1, 1) := dk_27 (dk_at dksX2_finish_3 6 rfl rfl)
theorem dX2_finish_75 : decode cX2_finish 75 = .ok (.invokestatic 93, 3) := dk_184 0 93 (dk_at dksX2_finish_3 7 rfl rfl)
theorem dX2_finish_78 : decode cX2_finish 78 = .ok (.iload_n 3, 1) := dk_29 (dk_at dksX2_finish_3 10 rfl rfl)
theorem dX2_finish_79 : decode cX2_finish 79 = .ok (.ireturn, 1) := dk_172 (dk_at dksX2_finish_3 11 rfl rfl)
abbrev cX2_best : ByteArray := prog_14_method_26_code
def yX2_best : MethodName := ⟨RX2, "best", "(LBlockPapers$Room;)I"⟩
def dkwX2_best_3 : List UInt8 := [132, 3, 1, 167, 255, 187, 44, 199, 0, 7, 2, 167, 0, 7, 44, 180, 1, 11, 172]
abbrev dktX2_best_3 : List UInt8 := dkwX2_best_3 ++ []
def dkwX2_best_2 : List UInt8 := [58, 4, 44, 198, 0, 12, 25, 4, 44, 182, 1, 7, 153, 0, 8, 25, 4, 167, 0, 4, 44, 77]
abbrev dktX2_best_2 : List UInt8 := dkwX2_best_2 ++ dktX2_best_3
def dkwX2_best_1 : List UInt8 := [185, 0, 40, 2, 0, 192, 0, 63, 182, 0, 242, 154, 0, 35, 187, 1, 2, 89, 42, 29, 43, 183, 1, 4]
abbrev dktX2_best_1 : List UInt8 := dkwX2_best_1 ++ dktX2_best_2
def dkwX2_best_0 : List UInt8 := [1, 77, 3, 62, 29, 42, 180, 0, 21, 185, 0, 34, 1, 0, 162, 0, 62, 42, 43, 42, 180, 0, 21, 29]
abbrev dktX2_best_0 : List UInt8 := dkwX2_best_0 ++ dktX2_best_1
theorem dksX2_best_0 : cX2_best.data.toList.drop 0 = dktX2_best_0 := by decide +kernel
theorem dksX2_best_1 : cX2_best.data.toList.drop 24 = dktX2_best_1 := dk_seg dksX2_best_0 24 rfl rfl
theorem dksX2_best_2 : cX2_best.data.toList.drop 48 = dktX2_best_2 := dk_seg dksX2_best_1 24 rfl rfl
theorem dksX2_best_3 : cX2_best.data.toList.drop 70 = dktX2_best_3 := dk_seg dksX2_best_2 22 rfl rfl
theorem dX2_best_0 : decode cX2_best 0 = .ok (.aconst_null, 1) := dk_1 (dk_at dksX2_best_0 0 rfl rfl)
theorem dX2_best_1 : decode cX2_best 1 = .ok (.astore_n 2, 1) := dk_77 (dk_at dksX2_best_0 1 rfl rfl)
theorem dX2_best_2 : decode cX2_best 2 = .ok (.iconst 0, 1) := dk_3 (dk_at dksX2_best_0 2 rfl rfl)
theorem dX2_best_3 : decode cX2_best 3 = .ok (.istore_n 3, 1) := dk_62 (dk_at dksX2_best_0 3 rfl rfl)
theorem dX2_best_4 : decode cX2_best 4 = .ok (.iload_n 3, 1) := dk_29 (dk_at dksX2_best_0 4 rfl rfl)
theorem dX2_best_5 : decode cX2_best 5 = .ok (.aload_n 0, 1) := dk_42 (dk_at dksX2_best_0 5 rfl rfl)
theorem dX2_best_6 : decode cX2_best 6 = .ok (.getfield 21, 3) := dk_180 0 21 (dk_at dksX2_best_0 6 rfl rfl)
theorem dX2_best_9 : decode cX2_best 9 = .ok (.invokeinterface 34 1, 5) := by decide +kernel
theorem dX2_best_14 : decode cX2_best 14 = .ok (.if_icmp .ge 62, 3) := dk_162 0 62 (dk_at dksX2_best_0 14 rfl rfl)
theorem dX2_best_17 : decode cX2_best 17 = .ok (.aload_n 0, 1) := dk_42 (dk_at dksX2_best_0 17 rfl rfl)
theorem dX2_best_18 : decode cX2_best 18 = .ok (.aload_n 1, 1) := dk_43 (dk_at dksX2_best_0 18 rfl rfl)
theorem dX2_best_19 : decode cX2_best 19 = .ok (.aload_n 0, 1) := dk_42 (dk_at dksX2_best_0 19 rfl rfl)
theorem dX2_best_20 : decode cX2_best 20 = .ok (.getfield 21, 3) := dk_180 0 21 (dk_at dksX2_best_0 20 rfl rfl)
theorem dX2_best_23 : decode cX2_best 23 = .ok (.iload_n 3, 1) := dk_29 (dk_at dksX2_best_0 23 rfl rfl)
theorem dX2_best_24 : decode cX2_best 24 = .ok (.invokeinterface 40 2, 5) := by decide +kernel
theorem dX2_best_29 : decode cX2_best 29 = .ok (.checkcast 63, 3) := dk_192 0 63 (dk_at dksX2_best_1 5 rfl rfl)
theorem dX2_best_32 : decode cX2_best 32 = .ok (.invokevirtual 242, 3) := dk_182 0 242 (dk_at dksX2_best_1 8 rfl rfl)
theorem dX2_best_35 : decode cX2_best 35 = .ok (.ifCond .ne 35, 3) := dk_154 0 35 (dk_at dksX2_best_1 11 rfl rfl)
theorem dX2_best_38 : decode cX2_best 38 = .ok (.new 258, 3) := dk_187 1 2 (dk_at dksX2_best_1 14 rfl rfl)
theorem dX2_best_41 : decode cX2_best 41 = .ok (.dup, 1) := dk_89 (dk_at dksX2_best_1 17 rfl rfl)
theorem dX2_best_42 : decode cX2_best 42 = .ok (.aload_n 0, 1) := dk_42 (dk_at dksX2_best_1 18 rfl rfl)
theorem dX2_best_43 : decode cX2_best 43 = .ok (.iload_n 3, 1) := dk_29 (dk_at dksX2_best_1 19 rfl rfl)
theorem dX2_best_44 : decode cX2_best 44 = .ok (.aload_n 1, 1) := dk_43 (dk_at dksX2_best_1 20 rfl rfl)
theorem dX2_best_45 : decode cX2_best 45 = .ok (.invokespecial 260, 3) := dk_183 1 4 (dk_at dksX2_best_1 21 rfl rfl)
theorem dX2_best_48 : decode cX2_best 48 = .ok (.astore 4, 2) := dk_58 4 (dk_at dksX2_best_2 0 rfl rfl)
theorem dX2_best_50 : decode cX2_best 50 = .ok (.aload_n 2, 1) := dk_44 (dk_at dksX2_best_2 2 rfl rfl)
theorem dX2_best_51 : decode cX2_best 51 = .ok (.ifnull 12, 3) := dk_198 0 12 (dk_at dksX2_best_2 3 rfl rfl)
theorem dX2_best_54 : decode cX2_best 54 = .ok (.aload 4, 2) := dk_25 4 (dk_at dksX2_best_2 6 rfl rfl)
theorem dX2_best_56 : decode cX2_best 56 = .ok (.aload_n 2, 1) := dk_44 (dk_at dksX2_best_2 8 rfl rfl)
theorem dX2_best_57 : decode cX2_best 57 = .ok (.invokevirtual 263, 3) := dk_182 1 7 (dk_at dksX2_best_2 9 rfl rfl)
theorem dX2_best_60 : decode cX2_best 60 = .ok (.ifCond .eq 8, 3) := dk_153 0 8 (dk_at dksX2_best_2 12 rfl rfl)
theorem dX2_best_63 : decode cX2_best 63 = .ok (.aload 4, 2) := dk_25 4 (dk_at dksX2_best_2 15 rfl rfl)
theorem dX2_best_65 : decode cX2_best 65 = .ok (.goto 4, 3) := dk_167 0 4 (dk_at dksX2_best_2 17 rfl rfl)
theorem dX2_best_68 : decode cX2_best 68 = .ok (.aload_n 2, 1) := dk_44 (dk_at dksX2_best_2 20 rfl rfl)
theorem dX2_best_69 : decode cX2_best 69 = .ok (.astore_n 2, 1) := dk_77 (dk_at dksX2_best_2 21 rfl rfl)
theorem dX2_best_70 : decode cX2_best 70 = .ok (.iinc 3 1, 3) := dk_132 3 1 (dk_at dksX2_best_3 0 rfl rfl)
theorem dX2_best_73 : decode cX2_best 73 = .ok (.goto (-69), 3) := dk_167 255 187 (dk_at dksX2_best_3 3 rfl rfl)
theorem dX2_best_76 : decode cX2_best 76 = .ok (.aload_n 2, 1) := dk_44 (dk_at dksX2_best_3 6 rfl rfl)
theorem dX2_best_77 : decode cX2_best 77 = .ok (.ifnonnull 7, 3) := dk_199 0 7 (dk_at dksX2_best_3 7 rfl rfl)
theorem dX2_best_80 : decode cX2_best 80 = .ok (.iconst (-1), 1) := dk_2 (dk_at dksX2_best_3 10 rfl rfl)
theorem dX2_best_81 : decode cX2_best 81 = .ok (.goto 7, 3) := dk_167 0 7 (dk_at dksX2_best_3 11 rfl rfl)
theorem dX2_best_84 : decode cX2_best 84 = .ok (.aload_n 2, 1) := dk_44 (dk_at dksX2_best_3 14 rfl rfl)
theorem dX2_best_85 : decode cX2_best 85 = .ok (.getfield 267, 3) := dk_180 1 11 (dk_at dksX2_best_3 15 rfl rfl)
theorem dX2_best_88 : decode cX2_best 88 = .ok (.ireturn, 1) := dk_172 (dk_at dksX2_best_3 18 rfl rfl)
abbrev cX2_drops : ByteArray := prog_14_method_28_code
def yX2_drops : MethodName := ⟨RX2, "drops", "(LBlockPapers$Room;LBlockPapers$Roll;)I"⟩
def dkwX2_drops_6 : List UInt8 := [21, 8, 96, 54, 6, 132, 7, 1, 167, 255, 194, 21, 7, 172]
abbrev dktX2_drops_6 : List UInt8 := dkwX2_drops_6 ++ []
def dkwX2_drops_5 : List UInt8 := [180, 0, 206, 96, 54, 8, 21, 6, 21, 8, 96, 44, 180, 0, 169, 164, 0, 6, 21, 7, 172, 21, 6]
abbrev dktX2_drops_5 : List UInt8 := dkwX2_drops_5 ++ dktX2_drops_6
def dkwX2_drops_4 : List UInt8 := [162, 0, 56, 42, 44, 21, 6, 45, 21, 5, 21, 4, 21, 7, 96, 182, 0, 190, 182, 0, 202, 43]
abbrev dktX2_drops_4 : List UInt8 := dkwX2_drops_4 ++ dktX2_drops_5
def dkwX2_drops_3 : List UInt8 := [180, 0, 187, 54, 5, 44, 180, 0, 151, 54, 6, 3, 54, 7, 21, 4, 21, 7, 96, 43, 180, 0, 227]
abbrev dktX2_drops_3 : List UInt8 := dkwX2_drops_3 ++ dktX2_drops_4
def dkwX2_drops_2 : List UInt8 := [180, 0, 151, 182, 0, 193, 167, 0, 19, 43, 180, 0, 175, 3, 185, 0, 40, 2, 0, 192, 0, 84]
abbrev dktX2_drops_2 : List UInt8 := dkwX2_drops_2 ++ dktX2_drops_3
def dkwX2_drops_1 : List UInt8 := [192, 0, 59, 78, 43, 180, 0, 175, 185, 0, 34, 1, 0, 54, 4, 21, 4, 154, 0, 14, 45, 44]
abbrev dktX2_drops_1 : List UInt8 := dkwX2_drops_1 ++ dktX2_drops_2
def dkwX2_drops_0 : List UInt8 := [42, 43, 44, 182, 0, 242, 153, 0, 5, 3, 172, 42, 180, 0, 12, 44, 180, 0, 185, 185, 0, 40, 2, 0]
abbrev dktX2_drops_0 : List UInt8 := dkwX2_drops_0 ++ dktX2_drops_1
theorem dksX2_drops_0 : cX2_drops.data.toList.drop 0 = dktX2_drops_0 := by decide +kernel
theorem dksX2_drops_1 : cX2_drops.data.toList.drop 24 = dktX2_drops_1 := dk_seg dksX2_drops_0 24 rfl rfl
theorem dksX2_drops_2 : cX2_drops.data.toList.drop 46 = dktX2_drops_2 := dk_seg dksX2_drops_1 22 rfl rfl
theorem dksX2_drops_3 : cX2_drops.data.toList.drop 68 = dktX2_drops_3 := dk_seg dksX2_drops_2 22 rfl rfl
theorem dksX2_drops_4 : cX2_drops.data.toList.drop 91 = dktX2_drops_4 := dk_seg dksX2_drops_3 23 rfl rfl
theorem dksX2_drops_5 : cX2_drops.data.toList.drop 113 = dktX2_drops_5 := dk_seg dksX2_drops_4 22 rfl rfl
theorem dksX2_drops_6 : cX2_drops.data.toList.drop 136 = dktX2_drops_6 := dk_seg dksX2_drops_5 23 rfl rfl
theorem dX2_drops_0 : decode cX2_drops 0 = .ok (.aload_n 0, 1) := dk_42 (dk_at dksX2_drops_0 0 rfl rfl)
theorem dX2_drops_1 : decode cX2_drops 1 = .ok (.aload_n 1, 1) := dk_43 (dk_at dksX2_drops_0 1 rfl rfl)
theorem dX2_drops_2 : decode cX2_drops 2 = .ok (.aload_n 2, 1) := dk_44 (dk_at dksX2_drops_0 2 rfl rfl)
theorem dX2_drops_3 : decode cX2_drops 3 = .ok (.invokevirtual 242, 3) := dk_182 0 242 (dk_at dksX2_drops_0 3 rfl rfl)
theorem dX2_drops_6 : decode cX2_drops 6 = .ok (.ifCond .eq 5, 3) := dk_153 0 5 (dk_at dksX2_drops_0 6 rfl rfl)
theorem dX2_drops_9 : decode cX2_drops 9 = .ok (.iconst 0, 1) := dk_3 (dk_at dksX2_drops_0 9 rfl rfl)
theorem dX2_drops_10 : decode cX2_drops 10 = .ok (.ireturn, 1) := dk_172 (dk_at dksX2_drops_0 10 rfl rfl)
theorem dX2_drops_11 : decode cX2_drops 11 = .ok (.aload_n 0, 1) := dk_42 (dk_at dksX2_drops_0 11 rfl rfl)
theorem dX2_drops_12 : decode cX2_drops 12 = .ok (.getfield 12, 3) := dk_180 0 12 (dk_at dksX2_drops_0 12 rfl rfl)
theorem dX2_drops_15 : decode cX2_drops 15 = .ok (.aload_n 2, 1) := dk_44 (dk_at dksX2_drops_0 15 rfl rfl)
theorem dX2_drops_16 : decode cX2_drops 16 = .ok (.getfield 185, 3) := dk_180 0 185 (dk_at dksX2_drops_0 16 rfl rfl)
theorem dX2_drops_19 : decode cX2_drops 19 = .ok (.invokeinterface 40 2, 5) := by decide +kernel
theorem dX2_drops_24 : decode cX2_drops 24 = .ok (.checkcast 59, 3) := dk_192 0 59 (dk_at dksX2_drops_1 0 rfl rfl)
theorem dX2_drops_27 : decode cX2_drops 27 = .ok (.astore_n 3, 1) := dk_78 (dk_at dksX2_drops_1 3 rfl rfl)
theorem dX2_drops_28 : decode cX2_drops 28 = .ok (.aload_n 1, 1) := dk_43 (dk_at dksX2_drops_1 4 rfl rfl)
theorem dX2_drops_29 : decode cX2_drops 29 = .ok (.getfield 175, 3) := dk_180 0 175 (dk_at dksX2_drops_1 5 rfl rfl)
theorem dX2_drops_32 : decode cX2_drops 32 = .ok (.invokeinterface 34 1, 5) := by decide +kernel
theorem dX2_drops_37 : decode cX2_drops 37 = .ok (.istore 4, 2) := dk_54 4 (dk_at dksX2_drops_1 13 rfl rfl)
theorem dX2_drops_39 : decode cX2_drops 39 = .ok (.iload 4, 2) := dk_21 4 (dk_at dksX2_drops_1 15 rfl rfl)
theorem dX2_drops_41 : decode cX2_drops 41 = .ok (.ifCond .ne 14, 3) := dk_154 0 14 (dk_at dksX2_drops_1 17 rfl rfl)
theorem dX2_drops_44 : decode cX2_drops 44 = .ok (.aload_n 3, 1) := dk_45 (dk_at dksX2_drops_1 20 rfl rfl)
theorem dX2_drops_45 : decode cX2_drops 45 = .ok (.aload_n 2, 1) := dk_44 (dk_at dksX2_drops_1 21 rfl rfl)
theorem dX2_drops_46 : decode cX2_drops 46 = .ok (.getfield 151, 3) := dk_180 0 151 (dk_at dksX2_drops_2 0 rfl rfl)
theorem dX2_drops_49 : decode cX2_drops 49 = .ok (.invokevirtual 193, 3) := dk_182 0 193 (dk_at dksX2_drops_2 3 rfl rfl)
theorem dX2_drops_52 : decode cX2_drops 52 = .ok (.goto 19, 3) := dk_167 0 19 (dk_at dksX2_drops_2 6 rfl rfl)
theorem dX2_drops_55 : decode cX2_drops 55 = .ok (.aload_n 1, 1) := dk_43 (dk_at dksX2_drops_2 9 rfl rfl)
theorem dX2_drops_56 : decode cX2_drops 56 = .ok (.getfield 175, 3) := dk_180 0 175 (dk_at dksX2_drops_2 10 rfl rfl)
theorem dX2_drops_59 : decode cX2_drops 59 = .ok (.iconst 0, 1) := dk_3 (dk_at dksX2_drops_2 13 rfl rfl)
theorem dX2_drops_60 : decode cX2_drops 60 = .ok (.invokeinterface 40 2, 5) := by decide +kernel
theorem dX2_drops_65 : decode cX2_drops 65 = .ok (.checkcast 84, 3) := dk_192 0 84 (dk_at dksX2_drops_2 19 rfl rfl)
theorem dX2_drops_68 : decode cX2_drops 68 = .ok (.getfield 187, 3) := dk_180 0 187 (dk_at dksX2_drops_3 0 rfl rfl)
theorem dX2_drops_71 : decode cX2_drops 71 = .ok (.istore 5, 2) := dk_54 5 (dk_at dksX2_drops_3 3 rfl rfl)
theorem dX2_drops_73 : decode cX2_drops 73 = .ok (.aload_n 2, 1) := dk_44 (dk_at dksX2_drops_3 5 rfl rfl)
theorem dX2_drops_74 : decode cX2_drops 74 = .ok (.getfield 151, 3) := dk_180 0 151 (dk_at dksX2_drops_3 6 rfl rfl)
theorem dX2_drops_77 : decode cX2_drops 77 = .ok (.istore 6, 2) := dk_54 6 (dk_at dksX2_drops_3 9 rfl rfl)
theorem dX2_drops_79 : decode cX2_drops 79 = .ok (.iconst 0, 1) := dk_3 (dk_at dksX2_drops_3 11 rfl rfl)
theorem dX2_drops_80 : decode cX2_drops 80 = .ok (.istore 7, 2) := dk_54 7 (dk_at dksX2_drops_3 12 rfl rfl)
theorem dX2_drops_82 : decode cX2_drops 82 = .ok (.iload 4, 2) := dk_21 4 (dk_at dksX2_drops_3 14 rfl rfl)
theorem dX2_drops_84 : decode cX2_drops 84 = .ok (.iload 7, 2) := dk_21 7 (dk_at dksX2_drops_3 16 rfl rfl)
theorem dX2_drops_86 : decode cX2_drops 86 = .ok (.iadd, 1) := dk_96 (dk_at dksX2_drops_3 18 rfl rfl)
theorem dX2_drops_87 : decode cX2_drops 87 = .ok (.aload_n 1, 1) := dk_43 (dk_at dksX2_drops_3 19 rfl rfl)
theorem dX2_drops_88 : decode cX2_drops 88 = .ok (.getfield 227, 3) := dk_180 0 227 (dk_at dksX2_drops_3 20 rfl rfl)
theorem dX2_drops_91 : decode cX2_drops 91 = .ok (.if_icmp .ge 56, 3) := dk_162 0 56 (dk_at dksX2_drops_4 0 rfl rfl)
theorem dX2_drops_94 : decode cX2_drops 94 = .ok (.aload_n 0, 1) := dk_42 (dk_at dksX2_drops_4 3 rfl rfl)
theorem dX2_drops_95 : decode cX2_drops 95 = .ok (.aload_n 2, 1) := dk_44 (dk_at dksX2_drops_4 4 rfl rfl)
theorem dX2_drops_96 : decode cX2_drops 96 = .ok (.iload 6, 2) := dk_21 6 (dk_at dksX2_drops_4 5 rfl rfl)
theorem dX2_drops_98 : decode cX2_drops 98 = .ok (.aload_n 3, 1) := dk_45 (dk_at dksX2_drops_4 7 rfl rfl)
theorem dX2_drops_99 : decode cX2_drops 99 = .ok (.iload 5, 2) := dk_21 5 (dk_at dksX2_drops_4 8 rfl rfl)
theorem dX2_drops_101 : decode cX2_drops 101 = .ok (.iload 4, 2) := dk_21 4 (dk_at dksX2_drops_4 10 rfl rfl)
theorem dX2_drops_103 : decode cX2_drops 103 = .ok (.iload 7, 2) := dk_21 7 (dk_at dksX2_drops_4 12 rfl rfl)
theorem dX2_drops_105 : decode cX2_drops 105 = .ok (.iadd, 1) := dk_96 (dk_at dksX2_drops_4 14 rfl rfl)
theorem dX2_drops_106 : decode cX2_drops 106 = .ok (.invokevirtual 190, 3) := dk_182 0 190 (dk_at dksX2_drops_4 15 rfl rfl)
theorem dX2_drops_109 : decode cX2_drops 109 = .ok (.invokevirtual 202, 3) := dk_182 0 202 (dk_at dksX2_drops_4 18 rfl rfl)
theorem dX2_drops_112 : decode cX2_drops 112 = .ok (.aload_n 1, 1) := dk_43 (dk_at dksX2_drops_4 21 rfl rfl)
theorem dX2_drops_113 : decode cX2_drops 113 = .ok (.getfield 206, 3) := dk_180 0 206 (dk_at dksX2_drops_5 0 rfl rfl)
theorem dX2_drops_116 : decode cX2_drops 116 = .ok (.iadd, 1) := dk_96 (dk_at dksX2_drops_5 3 rfl rfl)
theorem dX2_drops_117 : decode cX2_drops 117 = .ok (.istore 8, 2) := dk_54 8 (dk_at dksX2_drops_5 4 rfl rfl)
theorem dX2_drops_119 : decode cX2_drops 119 = .ok (.iload 6, 2) := dk_21 6 (dk_at dksX2_drops_5 6 rfl rfl)
theorem dX2_drops_121 : decode cX2_drops 121 = .ok (.iload 8, 2) := dk_21 8 (dk_at dksX2_drops_5 8 rfl rfl)
theorem dX2_drops_123 : decode cX2_drops 123 = .ok (.iadd, 1) := dk_96 (dk_at dksX2_drops_5 10 rfl rfl)
theorem dX2_drops_124 : decode cX2_drops 124 = .ok (.aload_n 2, 1) := dk_44 (dk_at dksX2_drops_5 11 rfl rfl)
theorem dX2_drops_125 : decode cX2_drops 125 = .ok (.getfield 169, 3) := dk_180 0 169 (dk_at dksX2_drops_5 12 rfl rfl)
theorem dX2_drops_128 : decode cX2_drops 128 = .ok (.if_icmp .le 6, 3) := dk_164 0 6 (dk_at dksX2_drops_5 15 rfl rfl)
theorem dX2_drops_131 : decode cX2_drops 131 = .ok (.iload 7, 2) := dk_21 7 (dk_at dksX2_drops_5 18 rfl rfl)
theorem dX2_drops_133 : decode cX2_drops 133 = .ok (.ireturn, 1) := dk_172 (dk_at dksX2_drops_5 20 rfl rfl)
theorem dX2_drops_134 : decode cX2_drops 134 = .ok (.iload 6, 2) := dk_21 6 (dk_at dksX2_drops_5 21 rfl rfl)
theorem dX2_drops_136 : decode cX2_drops 136 = .ok (.iload 8, 2) := dk_21 8 (dk_at dksX2_drops_6 0 rfl rfl)
theorem dX2_drops_138 : decode cX2_drops 138 = .ok (.iadd, 1) := dk_96 (dk_at dksX2_drops_6 2 rfl rfl)
theorem dX2_drops_139 : decode cX2_drops 139 = .ok (.istore 6, 2) := dk_54 6 (dk_at dksX2_drops_6 3 rfl rfl)
theorem dX2_drops_141 : decode cX2_drops 141 = .ok (.iinc 7 1, 3) := dk_132 7 1 (dk_at dksX2_drops_6 5 rfl rfl)
theorem dX2_drops_144 : decode cX2_drops 144 = .ok (.goto (-62), 3) := dk_167 255 194 (dk_at dksX2_drops_6 8 rfl rfl)
theorem dX2_drops_147 : decode cX2_drops 147 = .ok (.iload 7, 2) := dk_21 7 (dk_at dksX2_drops_6 11 rfl rfl)
theorem dX2_drops_149 : decode cX2_drops 149 = .ok (.ireturn, 1) := dk_172 (dk_at dksX2_drops_6 13 rfl rfl)
theorem q76 : (Jvm.Cond.initialized "BlockPapers$Workshop") ∈ lw_all := lw_g (lw_at lw_m1 2 rfl) rfl
theorem q130 : (Jvm.Cond.instantiable "BlockPapers$Workshop" (4 : Nat)) ∈ lw_all := lw_g (lw_at lw_m1 56 rfl) rfl
theorem q132 : (Jvm.Cond.instanceMethod ({ cls := "BlockPapers$Workshop", name := "<init>", desc := "()V" } : Jvm.MethodName)) ∈ lw_all := lw_g (lw_at lw_m1 58 rfl) rfl
theorem q133 : (Jvm.Cond.code ({ cls := "BlockPapers$Workshop", name := "<init>", desc := "()V" } : Jvm.MethodName) prog_14_method_1_code (1 : Nat) (Option.none : Option Jvm.ClassFile.FieldType)) ∈ lw_all := lw_g (lw_at lw_m1 59 rfl) rfl
theorem q134 : (Jvm.Cond.methodLink "BlockPapers$Workshop" (3 : Nat) ({ cls := "java/lang/Object", name := "<init>", desc := "()V" } : Jvm.MethodName)) ∈ lw_all := lw_g (lw_at lw_m1 60 rfl) rfl
theorem q135 : (Jvm.Cond.classLink "BlockPapers$Workshop" (9 : Nat) "java/util/ArrayList") ∈ lw_all := lw_g (lw_at lw_m1 61 rfl) rfl
theorem q137 : (Jvm.Cond.methodLink "BlockPapers$Workshop" (11 : Nat) ({ cls := "java/util/ArrayList", name := "<init>", desc := "()V" } : Jvm.MethodName)) ∈ lw_all := lw_g (lw_at lw_m1 63 rfl) rfl
theorem q164 : (Jvm.Cond.fieldLink "BlockPapers$Workshop" (12 : Nat) "BlockPapers$Workshop" "blocks" "Ljava/util/List;") ∈ lw_all := lw_g (lw_at lw_m1 90 rfl) rfl
theorem q166 : (Jvm.Cond.fieldLink "BlockPapers$Workshop" (18 : Nat) "BlockPapers$Workshop" "inks" "Ljava/util/List;") ∈ lw_all := lw_g (lw_at lw_m1 92 rfl) rfl
theorem q169 : (Jvm.Cond.fieldLink "BlockPapers$Workshop" (21 : Nat) "BlockPapers$Workshop" "rolls" "Ljava/util/List;") ∈ lw_all := lw_g (lw_at lw_m1 95 rfl) rfl
theorem q171 : (Jvm.Cond.fieldLink "BlockPapers$Workshop" (24 : Nat) "BlockPapers$Workshop" "rooms" "Ljava/util/List;") ∈ lw_all := lw_g (lw_at lw_m1 97 rfl) rfl
theorem q174 : (Jvm.Cond.laysFinal "BlockPapers$Workshop" "BlockPapers$Workshop" "blocks" "Ljava/util/List;") ∈ lw_all := lw_g (lw_at lw_m1 100 rfl) rfl
theorem q175 : (Jvm.Cond.soleField "BlockPapers$Workshop" "blocks") ∈ lw_all := lw_g (lw_at lw_m1 101 rfl) rfl
theorem q176 : (Jvm.Cond.laysFinal "BlockPapers$Workshop" "BlockPapers$Workshop" "inks" "Ljava/util/List;") ∈ lw_all := lw_g (lw_at lw_m1 102 rfl) rfl
theorem q177 : (Jvm.Cond.soleField "BlockPapers$Workshop" "inks") ∈ lw_all := lw_g (lw_at lw_m1 103 rfl) rfl
theorem q178 : (Jvm.Cond.laysFinal "BlockPapers$Workshop" "BlockPapers$Workshop" "rolls" "Ljava/util/List;") ∈ lw_all := lw_g (lw_at lw_m1 104 rfl) rfl
theorem q179 : (Jvm.Cond.soleField "BlockPapers$Workshop" "rolls") ∈ lw_all := lw_g (lw_at lw_m1 105 rfl) rfl
theorem q180 : (Jvm.Cond.laysFinal "BlockPapers$Workshop" "BlockPapers$Workshop" "rooms" "Ljava/util/List;") ∈ lw_all := lw_g (lw_at lw_m1 106 rfl) rfl
theorem q181 : (Jvm.Cond.soleField "BlockPapers$Workshop" "rooms") ∈ lw_all := lw_g (lw_at lw_m1 107 rfl) rfl
theorem q182 : (Jvm.Cond.superclass "BlockPapers$Workshop" "java/lang/Object") ∈ lw_all := lw_g (lw_at lw_m1 108 rfl) rfl
theorem q469 : (Jvm.Cond.instanceMethod ({ cls := "BlockPapers$Workshop", name := "hangOf", desc := "(I)I" } : Jvm.MethodName)) ∈ lw_all := lw_g (lw_at lw_m2 155 rfl) rfl
theorem q470 : (Jvm.Cond.selects "BlockPapers$Workshop" ({ cls := "BlockPapers$Workshop", name := "hangOf", desc := "(I)I" } : Jvm.MethodName) ({ cls := "BlockPapers$Workshop", name := "hangOf", desc := "(I)I" } : Jvm.MethodName)) ∈ lw_all := lw_g (lw_at lw_m2 156 rfl) rfl
theorem q471 : (Jvm.Cond.code ({ cls := "BlockPapers$Workshop", name := "hangOf", desc := "(I)I" } : Jvm.MethodName) prog_14_method_7_code (5 : Nat) (Option.some Jvm.ClassFile.FieldType.int)) ∈ lw_all := lw_g (lw_at lw_m2 157 rfl) rfl
theorem q472 : (Jvm.Cond.classLink "BlockPapers$Workshop" (65 : Nat) "BlockPapers$Workshop$Hanging") ∈ lw_all := lw_g (lw_at lw_m2 158 rfl) rfl
theorem q474 : (Jvm.Cond.methodLinkNest "BlockPapers$Workshop" (67 : Nat) ({ cls := "BlockPapers$Workshop$Hanging", name := "<init>", desc := "(LBlockPapers$Workshop;)V" } : Jvm.MethodName) "BlockPapers") ∈ lw_tbl := lw_at lw_m2 160 rfl
theorem q483 : (Jvm.Cond.methodLink "BlockPapers$Workshop" (70 : Nat) ({ cls := "BlockPapers$Workshop$Hanging", name := "iterator", desc := "()Ljava/util/Iterator;" } : Jvm.MethodName)) ∈ lw_all := lw_g (lw_at lw_m2 169 rfl) rfl
theorem q503 : (Jvm.Cond.interfaceEntry "BlockPapers$Workshop" (74 : Nat)) ∈ lw_tbl := lw_at lw_m2 189 rfl
theorem q504 : (Jvm.Cond.methodLink "BlockPapers$Workshop" (74 : Nat) ({ cls := "java/util/Iterator", name := "hasNext", desc := "()Z" } : Jvm.MethodName)) ∈ lw_all := lw_g (lw_at lw_m2 190 rfl) rfl
theorem q505 : (Jvm.Cond.interfaceEntry "BlockPapers$Workshop" (80 : Nat)) ∈ lw_tbl := lw_at lw_m2 191 rfl
theorem q506 : (Jvm.Cond.methodLink "BlockPapers$Workshop" (80 : Nat) ({ cls := "java/util/Iterator", name := "next", desc := "()Ljava/lang/Object;" } : Jvm.MethodName)) ∈ lw_all := lw_g (lw_at lw_m2 192 rfl) rfl
theorem q507 : (Jvm.Cond.classLink "BlockPapers$Workshop" (84 : Nat) "BlockPapers$Drop") ∈ lw_all := lw_g (lw_at lw_m2 193 rfl) rfl
theorem q509 : (Jvm.Cond.instanceMethod ({ cls := "BlockPapers$Workshop", name := "ofRolls", desc := "(I)I" } : Jvm.MethodName)) ∈ lw_all := lw_g (lw_at lw_m2 195 rfl) rfl
theorem q510 : (Jvm.Cond.selects "BlockPapers$Workshop" ({ cls := "BlockPapers$Workshop", name := "ofRolls", desc := "(I)I" } : Jvm.MethodName) ({ cls := "BlockPapers$Workshop", name := "ofRolls", desc := "(I)I" } : Jvm.MethodName)) ∈ lw_all := lw_g (lw_at lw_m2 196 rfl) rfl
theorem q511 : (Jvm.Cond.code ({ cls := "BlockPapers$Workshop", name := "ofRolls", desc := "(I)I" } : Jvm.MethodName) prog_14_method_29_code (5 : Nat) (Option.some Jvm.ClassFile.FieldType.int)) ∈ lw_all := lw_g (lw_at lw_m2 197 rfl) rfl
theorem q512 : (Jvm.Cond.interfaceEntry "BlockPapers$Workshop" (34 : Nat)) ∈ lw_tbl := lw_at lw_m2 198 rfl
theorem q513 : (Jvm.Cond.methodLink "BlockPapers$Workshop" (34 : Nat) ({ cls := "java/util/List", name := "size", desc := "()I" } : Jvm.MethodName)) ∈ lw_all := lw_g (lw_at lw_m2 199 rfl) rfl
theorem q514 : (Jvm.Cond.interfaceEntry "BlockPapers$Workshop" (40 : Nat)) ∈ lw_tbl := lw_at lw_m2 200 rfl
theorem q515 : (Jvm.Cond.methodLink "BlockPapers$Workshop" (40 : Nat) ({ cls := "java/util/List", name := "get", desc := "(I)Ljava/lang/Object;" } : Jvm.MethodName)) ∈ lw_all := lw_g (lw_at lw_m2 201 rfl) rfl
theorem q516 : (Jvm.Cond.classLink "BlockPapers$Workshop" (63 : Nat) "BlockPapers$Roll") ∈ lw_all := lw_g (lw_at lw_m2 202 rfl) rfl
theorem q517 : (Jvm.Cond.methodLink "BlockPapers$Workshop" (209 : Nat) ({ cls := "BlockPapers$Roll", name := "left", desc := "()I" } : Jvm.MethodName)) ∈ lw_all := lw_g (lw_at lw_m2 203 rfl) rfl
theorem q541 : (Jvm.Cond.instanceMethod ({ cls := "BlockPapers$Workshop", name := "ofRooms", desc := "(I)I" } : Jvm.MethodName)) ∈ lw_all := lw_g (lw_at lw_m2 227 rfl) rfl
theorem q542 : (Jvm.Cond.selects "BlockPapers$Workshop" ({ cls := "BlockPapers$Workshop", name := "ofRooms", desc := "(I)I" } : Jvm.MethodName) ({ cls := "BlockPapers$Workshop", name := "ofRooms", desc := "(I)I" } : Jvm.MethodName)) ∈ lw_all := lw_g (lw_at lw_m2 228 rfl) rfl
theorem q543 : (Jvm.Cond.code ({ cls := "BlockPapers$Workshop", name := "ofRooms", desc := "(I)I" } : Jvm.MethodName) prog_14_method_30_code (5 : Nat) (Option.some Jvm.ClassFile.FieldType.int)) ∈ lw_all := lw_g (lw_at lw_m2 229 rfl) rfl
theorem q544 : (Jvm.Cond.classLink "BlockPapers$Workshop" (38 : Nat) "BlockPapers$Room") ∈ lw_all := lw_g (lw_at lw_m2 230 rfl) rfl
theorem q545 : (Jvm.Cond.methodLink "BlockPapers$Workshop" (217 : Nat) ({ cls := "BlockPapers$Room", name := "isFull", desc := "()Z" } : Jvm.MethodName)) ∈ lw_all := lw_g (lw_at lw_m2 231 rfl) rfl
theorem q560 : (Jvm.Cond.instanceMethod ({ cls := "BlockPapers$Workshop", name := "<init>", desc := "(LBlockPapers$Workshop;)V" } : Jvm.MethodName)) ∈ lw_all := lw_g (lw_at lw_m3 6 rfl) rfl
theorem q561 : (Jvm.Cond.code ({ cls := "BlockPapers$Workshop", name := "<init>", desc := "(LBlockPapers$Workshop;)V" } : Jvm.MethodName) prog_14_method_2_code (3 : Nat) (Option.none : Option Jvm.ClassFile.FieldType)) ∈ lw_all := lw_g (lw_at lw_m3 7 rfl) rfl
theorem q562 : (Jvm.Cond.methodLink "BlockPapers$Workshop" (27 : Nat) ({ cls := "BlockPapers$Workshop", name := "<init>", desc := "()V" } : Jvm.MethodName)) ∈ lw_all := lw_g (lw_at lw_m3 8 rfl) rfl
theorem q563 : (Jvm.Cond.interfaceEntry "BlockPapers$Workshop" (28 : Nat)) ∈ lw_tbl := lw_at lw_m3 9 rfl
theorem q564 : (Jvm.Cond.methodLink "BlockPapers$Workshop" (28 : Nat) ({ cls := "java/util/List", name := "addAll", desc := "(Ljava/util/Collection;)Z" } : Jvm.MethodName)) ∈ lw_all := lw_g (lw_at lw_m3 10 rfl) rfl
theorem q832 : (Jvm.Cond.selects "BlockPapers$Workshop" ({ cls := "java/lang/Object", name := "getClass", desc := "()Ljava/lang/Class;" } : Jvm.MethodName) ({ cls := "java/lang/Object", name := "getClass", desc := "()Ljava/lang/Class;" } : Jvm.MethodName)) ∈ lw_all := lw_g (lw_at lw_m4 38 rfl) rfl
theorem q864 : (Jvm.Cond.methodLink "BlockPapers$Workshop" (44 : Nat) ({ cls := "BlockPapers$Room", name := "<init>", desc := "(LBlockPapers$Room;)V" } : Jvm.MethodName)) ∈ lw_all := lw_g (lw_at lw_m4 70 rfl) rfl
theorem q874 : (Jvm.Cond.fieldLinkNest "BlockPapers$Workshop" (206 : Nat) "BlockPapers$Room" "height" "I" "BlockPapers") ∈ lw_tbl := lw_at lw_m4 80 rfl
theorem q877 : (Jvm.Cond.fieldLinkNest "BlockPapers$Workshop" (227 : Nat) "BlockPapers$Room" "needed" "I" "BlockPapers") ∈ lw_tbl := lw_at lw_m4 83 rfl
theorem q882 : (Jvm.Cond.fieldLinkNest "BlockPapers$Workshop" (175 : Nat) "BlockPapers$Room" "drops" "Ljava/util/List;" "BlockPapers") ∈ lw_tbl := lw_at lw_m4 88 rfl
theorem q886 : (Jvm.Cond.fieldLinkNest "BlockPapers$Workshop" (233 : Nat) "BlockPapers$Room" "waste" "I" "BlockPapers") ∈ lw_tbl := lw_at lw_m4 92 rfl
theorem q889 : (Jvm.Cond.fieldLinkNest "BlockPapers$Workshop" (255 : Nat) "BlockPapers$Room" "stripped" "I" "BlockPapers") ∈ lw_tbl := lw_at lw_m4 95 rfl
theorem q903 : (Jvm.Cond.interfaceEntry "BlockPapers$Workshop" (47 : Nat)) ∈ lw_tbl := lw_at lw_m4 109 rfl
theorem q904 : (Jvm.Cond.methodLink "BlockPapers$Workshop" (47 : Nat) ({ cls := "java/util/List", name := "add", desc := "(Ljava/lang/Object;)Z" } : Jvm.MethodName)) ∈ lw_all := lw_g (lw_at lw_m4 110 rfl) rfl
theorem q1085 : (Jvm.Cond.instanceMethod ({ cls := "BlockPapers$Workshop", name := "addBlock", desc := "(IZ)I" } : Jvm.MethodName)) ∈ lw_all := lw_g (lw_at lw_m5 51 rfl) rfl
theorem q1086 : (Jvm.Cond.selects "BlockPapers$Workshop" ({ cls := "BlockPapers$Workshop", name := "addBlock", desc := "(IZ)I" } : Jvm.MethodName) ({ cls := "BlockPapers$Workshop", name := "addBlock", desc := "(IZ)I" } : Jvm.MethodName)) ∈ lw_all := lw_g (lw_at lw_m5 52 rfl) rfl
theorem q1087 : (Jvm.Cond.code ({ cls := "BlockPapers$Workshop", name := "addBlock", desc := "(IZ)I" } : Jvm.MethodName) prog_14_method_8_code (3 : Nat) (Option.some Jvm.ClassFile.FieldType.int)) ∈ lw_all := lw_g (lw_at lw_m5 53 rfl) rfl
theorem q1088 : (Jvm.Cond.methodLinkNest "BlockPapers$Workshop" (51 : Nat) ({ cls := "BlockPapers", name := "inRange", desc := "(III)Z" } : Jvm.MethodName) "BlockPapers") ∈ lw_tbl := lw_at lw_m5 54 rfl
theorem q1089 : (Jvm.Cond.methodLinkNest "BlockPapers$Workshop" (90 : Nat) ({ cls := "BlockPapers", name := "require", desc := "(Z)V" } : Jvm.MethodName) "BlockPapers") ∈ lw_tbl := lw_at lw_m5 55 rfl
theorem q1090 : (Jvm.Cond.methodLinkNest "BlockPapers$Workshop" (93 : Nat) ({ cls := "BlockPapers", name := "allow", desc := "(ZII)V" } : Jvm.MethodName) "BlockPapers") ∈ lw_tbl := lw_at lw_m5 56 rfl
theorem q1120 : (Jvm.Cond.classLink "BlockPapers$Workshop" (59 : Nat) "BlockPapers$Block") ∈ lw_all := lw_g (lw_at lw_m5 86 rfl) rfl
theorem q1122 : (Jvm.Cond.methodLink "BlockPapers$Workshop" (97 : Nat) ({ cls := "BlockPapers$Block", name := "<init>", desc := "(IZ)V" } : Jvm.MethodName)) ∈ lw_all := lw_g (lw_at lw_m5 88 rfl) rfl
theorem q1134 : (Jvm.Cond.fieldLinkNest "BlockPapers$Workshop" (112 : Nat) "BlockPapers$Block" "wear" "I" "BlockPapers") ∈ lw_tbl := lw_at lw_m5 100 rfl
theorem q1144 : (Jvm.Cond.instanceMethod ({ cls := "BlockPapers$Workshop", name := "carve", desc := "(I)I" } : Jvm.MethodName)) ∈ lw_all := lw_g (lw_at lw_m5 110 rfl) rfl
theorem q1145 : (Jvm.Cond.selects "BlockPapers$Workshop" ({ cls := "BlockPapers$Workshop", name := "carve", desc := "(I)I" } : Jvm.MethodName) ({ cls := "BlockPapers$Workshop", name := "carve", desc := "(I)I" } : Jvm.MethodName)) ∈ lw_all := lw_g (lw_at lw_m5 111 rfl) rfl
theorem q1146 : (Jvm.Cond.code ({ cls := "BlockPapers$Workshop", name := "carve", desc := "(I)I" } : Jvm.MethodName) prog_14_method_9_code (4 : Nat) (Option.some Jvm.ClassFile.FieldType.int)) ∈ lw_all := lw_g (lw_at lw_m5 112 rfl) rfl
theorem q1147 : (Jvm.Cond.methodLink "BlockPapers$Workshop" (100 : Nat) ({ cls := "BlockPapers$Workshop", name := "block", desc := "(I)LBlockPapers$Block;" } : Jvm.MethodName)) ∈ lw_all := lw_g (lw_at lw_m5 113 rfl) rfl
theorem q1148 : (Jvm.Cond.instanceMethod ({ cls := "BlockPapers$Workshop", name := "block", desc := "(I)LBlockPapers$Block;" } : Jvm.MethodName)) ∈ lw_all := lw_g (lw_at lw_m5 114 rfl) rfl
theorem q1149 : (Jvm.Cond.selects "BlockPapers$Workshop" ({ cls := "BlockPapers$Workshop", name := "block", desc := "(I)LBlockPapers$Block;" } : Jvm.MethodName) ({ cls := "BlockPapers$Workshop", name := "block", desc := "(I)LBlockPapers$Block;" } : Jvm.MethodName)) ∈ lw_all := lw_g (lw_at lw_m5 115 rfl) rfl
theorem q1150 : (Jvm.Cond.code ({ cls := "BlockPapers$Workshop", name := "block", desc := "(I)LBlockPapers$Block;" } : Jvm.MethodName) prog_14_method_3_code (2 : Nat) (Option.some (Jvm.ClassFile.FieldType.object "BlockPapers$Block"))) ∈ lw_all := lw_g (lw_at lw_m5 116 rfl) rfl
theorem q1151 : (Jvm.Cond.methodLinkNest "BlockPapers$Workshop" (55 : Nat) ({ cls := "BlockPapers", name := "requireIndex", desc := "(Z)V" } : Jvm.MethodName) "BlockPapers") ∈ lw_tbl := lw_at lw_m5 117 rfl
theorem q1169 : (Jvm.Cond.methodLink "BlockPapers$Workshop" (104 : Nat) ({ cls := "BlockPapers$Block", name := "carved", desc := "()LBlockPapers$Block;" } : Jvm.MethodName)) ∈ lw_all := lw_g (lw_at lw_m5 135 rfl) rfl
theorem q1174 : (Jvm.Cond.interfaceEntry "BlockPapers$Workshop" (108 : Nat)) ∈ lw_tbl := lw_at lw_m5 140 rfl
theorem q1175 : (Jvm.Cond.methodLink "BlockPapers$Workshop" (108 : Nat) ({ cls := "java/util/List", name := "set", desc := "(ILjava/lang/Object;)Ljava/lang/Object;" } : Jvm.MethodName)) ∈ lw_all := lw_g (lw_at lw_m5 141 rfl) rfl
theorem q1184 : (Jvm.Cond.instanceMethod ({ cls := "BlockPapers$Workshop", name := "addInk", desc := "(III)I" } : Jvm.MethodName)) ∈ lw_all := lw_g (lw_at lw_m5 150 rfl) rfl
theorem q1185 : (Jvm.Cond.selects "BlockPapers$Workshop" ({ cls := "BlockPapers$Workshop", name := "addInk", desc := "(III)I" } : Jvm.MethodName) ({ cls := "BlockPapers$Workshop", name := "addInk", desc := "(III)I" } : Jvm.MethodName)) ∈ lw_all := lw_g (lw_at lw_m5 151 rfl) rfl
theorem q1186 : (Jvm.Cond.code ({ cls := "BlockPapers$Workshop", name := "addInk", desc := "(III)I" } : Jvm.MethodName) prog_14_method_10_code (4 : Nat) (Option.some Jvm.ClassFile.FieldType.int)) ∈ lw_all := lw_g (lw_at lw_m5 152 rfl) rfl
theorem q1187 : (Jvm.Cond.classLink "BlockPapers$Workshop" (61 : Nat) "BlockPapers$Ink") ∈ lw_all := lw_g (lw_at lw_m5 153 rfl) rfl
theorem q1189 : (Jvm.Cond.methodLink "BlockPapers$Workshop" (115 : Nat) ({ cls := "BlockPapers$Ink", name := "<init>", desc := "(III)V" } : Jvm.MethodName)) ∈ lw_all := lw_g (lw_at lw_m5 155 rfl) rfl
theorem q1194 : (Jvm.Cond.fieldLinkNest "BlockPapers$Workshop" (122 : Nat) "BlockPapers$Ink" "colour" "I" "BlockPapers") ∈ lw_tbl := lw_at lw_m5 160 rfl
theorem q1197 : (Jvm.Cond.fieldLinkNest "BlockPapers$Workshop" (131 : Nat) "BlockPapers$Ink" "shade" "I" "BlockPapers") ∈ lw_tbl := lw_at lw_m5 163 rfl
theorem q1200 : (Jvm.Cond.fieldLinkNest "BlockPapers$Workshop" (125 : Nat) "BlockPapers$Ink" "grams" "I" "BlockPapers") ∈ lw_tbl := lw_at lw_m5 166 rfl
theorem q1210 : (Jvm.Cond.instanceMethod ({ cls := "BlockPapers$Workshop", name := "mix", desc := "(III)I" } : Jvm.MethodName)) ∈ lw_all := lw_g (lw_at lw_m5 176 rfl) rfl
theorem q1211 : (Jvm.Cond.selects "BlockPapers$Workshop" ({ cls := "BlockPapers$Workshop", name := "mix", desc := "(III)I" } : Jvm.MethodName) ({ cls := "BlockPapers$Workshop", name := "mix", desc := "(III)I" } : Jvm.MethodName)) ∈ lw_all := lw_g (lw_at lw_m5 177 rfl) rfl
theorem q1212 : (Jvm.Cond.code ({ cls := "BlockPapers$Workshop", name := "mix", desc := "(III)I" } : Jvm.MethodName) prog_14_method_11_code (9 : Nat) (Option.some Jvm.ClassFile.FieldType.int)) ∈ lw_all := lw_g (lw_at lw_m5 178 rfl) rfl
theorem q1213 : (Jvm.Cond.methodLink "BlockPapers$Workshop" (118 : Nat) ({ cls := "BlockPapers$Workshop", name := "ink", desc := "(I)LBlockPapers$Ink;" } : Jvm.MethodName)) ∈ lw_all := lw_g (lw_at lw_m5 179 rfl) rfl
theorem q1214 : (Jvm.Cond.instanceMethod ({ cls := "BlockPapers$Workshop", name := "ink", desc := "(I)LBlockPapers$Ink;" } : Jvm.MethodName)) ∈ lw_all := lw_g (lw_at lw_m5 180 rfl) rfl
theorem q1215 : (Jvm.Cond.selects "BlockPapers$Workshop" ({ cls := "BlockPapers$Workshop", name := "ink", desc := "(I)LBlockPapers$Ink;" } : Jvm.MethodName) ({ cls := "BlockPapers$Workshop", name := "ink", desc := "(I)LBlockPapers$Ink;" } : Jvm.MethodName)) ∈ lw_all := lw_g (lw_at lw_m5 181 rfl) rfl
theorem q1216 : (Jvm.Cond.code ({ cls := "BlockPapers$Workshop", name := "ink", desc := "(I)LBlockPapers$Ink;" } : Jvm.MethodName) prog_14_method_4_code (2 : Nat) (Option.some (Jvm.ClassFile.FieldType.object "BlockPapers$Ink"))) ∈ lw_all := lw_g (lw_at lw_m5 182 rfl) rfl
theorem q1217 : (Jvm.Cond.methodLink "BlockPapers$Workshop" (128 : Nat) ({ cls := "BlockPapers$Ink", name := "less", desc := "(I)LBlockPapers$Ink;" } : Jvm.MethodName)) ∈ lw_all := lw_g (lw_at lw_m5 183 rfl) rfl
theorem q1223 : (Jvm.Cond.methodLink "BlockPapers$Workshop" (134 : Nat) ({ cls := "BlockPapers$Ink", name := "mixed", desc := "(II)LBlockPapers$Ink;" } : Jvm.MethodName)) ∈ lw_all := lw_g (lw_at lw_m5 189 rfl) rfl
theorem q1229 : (Jvm.Cond.instanceMethod ({ cls := "BlockPapers$Workshop", name := "print", desc := "(III)I" } : Jvm.MethodName)) ∈ lw_all := lw_g (lw_at lw_m5 195 rfl) rfl
theorem q1230 : (Jvm.Cond.selects "BlockPapers$Workshop" ({ cls := "BlockPapers$Workshop", name := "print", desc := "(III)I" } : Jvm.MethodName) ({ cls := "BlockPapers$Workshop", name := "print", desc := "(III)I" } : Jvm.MethodName)) ∈ lw_all := lw_g (lw_at lw_m5 196 rfl) rfl
theorem q1231 : (Jvm.Cond.code ({ cls := "BlockPapers$Workshop", name := "print", desc := "(III)I" } : Jvm.MethodName) prog_14_method_12_code (9 : Nat) (Option.some Jvm.ClassFile.FieldType.int)) ∈ lw_all := lw_g (lw_at lw_m5 197 rfl) rfl
theorem q1233 : (Jvm.Cond.methodLink "BlockPapers$Workshop" (138 : Nat) ({ cls := "BlockPapers$Roll", name := "<init>", desc := "(IIIII)V" } : Jvm.MethodName)) ∈ lw_all := lw_g (lw_at lw_m5 199 rfl) rfl
theorem q1242 : (Jvm.Cond.fieldLinkNest "BlockPapers$Workshop" (185 : Nat) "BlockPapers$Roll" "block" "I" "BlockPapers") ∈ lw_tbl := lw_at lw_m5 208 rfl
theorem q1246 : (Jvm.Cond.fieldLinkNest "BlockPapers$Workshop" (155 : Nat) "BlockPapers$Roll" "colour" "I" "BlockPapers") ∈ lw_tbl := lw_at lw_m5 212 rfl
theorem q1249 : (Jvm.Cond.fieldLinkNest "BlockPapers$Workshop" (154 : Nat) "BlockPapers$Roll" "shade" "I" "BlockPapers") ∈ lw_tbl := lw_at lw_m5 215 rfl
theorem q1252 : (Jvm.Cond.fieldLinkNest "BlockPapers$Workshop" (169 : Nat) "BlockPapers$Roll" "length" "I" "BlockPapers") ∈ lw_tbl := lw_at lw_m5 218 rfl
theorem q1256 : (Jvm.Cond.fieldLinkNest "BlockPapers$Workshop" (151 : Nat) "BlockPapers$Roll" "used" "I" "BlockPapers") ∈ lw_tbl := lw_at lw_m5 222 rfl
theorem q1259 : (Jvm.Cond.fieldLinkNest "BlockPapers$Workshop" (147 : Nat) "BlockPapers$Roll" "isBack" "Z" "BlockPapers") ∈ lw_tbl := lw_at lw_m5 225 rfl
theorem q1276 : (Jvm.Cond.methodLink "BlockPapers$Workshop" (141 : Nat) ({ cls := "BlockPapers$Block", name := "worn", desc := "(I)LBlockPapers$Block;" } : Jvm.MethodName)) ∈ lw_all := lw_g (lw_at lw_m6 2 rfl) rfl
theorem q1282 : (Jvm.Cond.instanceMethod ({ cls := "BlockPapers$Workshop", name := "giveBack", desc := "(I)I" } : Jvm.MethodName)) ∈ lw_all := lw_g (lw_at lw_m6 8 rfl) rfl
theorem q1283 : (Jvm.Cond.selects "BlockPapers$Workshop" ({ cls := "BlockPapers$Workshop", name := "giveBack", desc := "(I)I" } : Jvm.MethodName) ({ cls := "BlockPapers$Workshop", name := "giveBack", desc := "(I)I" } : Jvm.MethodName)) ∈ lw_all := lw_g (lw_at lw_m6 9 rfl) rfl
theorem q1284 : (Jvm.Cond.code ({ cls := "BlockPapers$Workshop", name := "giveBack", desc := "(I)I" } : Jvm.MethodName) prog_14_method_14_code (5 : Nat) (Option.some Jvm.ClassFile.FieldType.int)) ∈ lw_all := lw_g (lw_at lw_m6 10 rfl) rfl
theorem q1285 : (Jvm.Cond.methodLink "BlockPapers$Workshop" (144 : Nat) ({ cls := "BlockPapers$Workshop", name := "roll", desc := "(I)LBlockPapers$Roll;" } : Jvm.MethodName)) ∈ lw_all := lw_g (lw_at lw_m6 11 rfl) rfl
theorem q1286 : (Jvm.Cond.instanceMethod ({ cls := "BlockPapers$Workshop", name := "roll", desc := "(I)LBlockPapers$Roll;" } : Jvm.MethodName)) ∈ lw_all := lw_g (lw_at lw_m6 12 rfl) rfl
theorem q1287 : (Jvm.Cond.selects "BlockPapers$Workshop" ({ cls := "BlockPapers$Workshop", name := "roll", desc := "(I)LBlockPapers$Roll;" } : Jvm.MethodName) ({ cls := "BlockPapers$Workshop", name := "roll", desc := "(I)LBlockPapers$Roll;" } : Jvm.MethodName)) ∈ lw_all := lw_g (lw_at lw_m6 13 rfl) rfl
theorem q1288 : (Jvm.Cond.code ({ cls := "BlockPapers$Workshop", name := "roll", desc := "(I)LBlockPapers$Roll;" } : Jvm.MethodName) prog_14_method_5_code (2 : Nat) (Option.some (Jvm.ClassFile.FieldType.object "BlockPapers$Roll"))) ∈ lw_all := lw_g (lw_at lw_m6 14 rfl) rfl
theorem q1289 : (Jvm.Cond.methodLink "BlockPapers$Workshop" (156 : Nat) ({ cls := "BlockPapers$Workshop", name := "latest", desc := "(I)I" } : Jvm.MethodName)) ∈ lw_all := lw_g (lw_at lw_m6 15 rfl) rfl
theorem q1290 : (Jvm.Cond.instanceMethod ({ cls := "BlockPapers$Workshop", name := "latest", desc := "(I)I" } : Jvm.MethodName)) ∈ lw_all := lw_g (lw_at lw_m6 16 rfl) rfl
theorem q1291 : (Jvm.Cond.selects "BlockPapers$Workshop" ({ cls := "BlockPapers$Workshop", name := "latest", desc := "(I)I" } : Jvm.MethodName) ({ cls := "BlockPapers$Workshop", name := "latest", desc := "(I)I" } : Jvm.MethodName)) ∈ lw_all := lw_g (lw_at lw_m6 17 rfl) rfl
theorem q1292 : (Jvm.Cond.code ({ cls := "BlockPapers$Workshop", name := "latest", desc := "(I)I" } : Jvm.MethodName) prog_14_method_13_code (4 : Nat) (Option.some Jvm.ClassFile.FieldType.int)) ∈ lw_all := lw_g (lw_at lw_m6 18 rfl) rfl
theorem q1293 : (Jvm.Cond.methodLink "BlockPapers$Workshop" (160 : Nat) ({ cls := "java/lang/Math", name := "abs", desc := "(I)I" } : Jvm.MethodName)) ∈ lw_all := lw_g (lw_at lw_m6 19 rfl) rfl
theorem q1296 : (Jvm.Cond.methodLink "BlockPapers$Workshop" (165 : Nat) ({ cls := "BlockPapers$Roll", name := "back", desc := "()LBlockPapers$Roll;" } : Jvm.MethodName)) ∈ lw_all := lw_g (lw_at lw_m6 22 rfl) rfl
theorem q1302 : (Jvm.Cond.instanceMethod ({ cls := "BlockPapers$Workshop", name := "addRoom", desc := "(II)I" } : Jvm.MethodName)) ∈ lw_all := lw_g (lw_at lw_m6 28 rfl) rfl
theorem q1303 : (Jvm.Cond.selects "BlockPapers$Workshop" ({ cls := "BlockPapers$Workshop", name := "addRoom", desc := "(II)I" } : Jvm.MethodName) ({ cls := "BlockPapers$Workshop", name := "addRoom", desc := "(II)I" } : Jvm.MethodName)) ∈ lw_all := lw_g (lw_at lw_m6 29 rfl) rfl
theorem q1304 : (Jvm.Cond.code ({ cls := "BlockPapers$Workshop", name := "addRoom", desc := "(II)I" } : Jvm.MethodName) prog_14_method_15_code (3 : Nat) (Option.some Jvm.ClassFile.FieldType.int)) ∈ lw_all := lw_g (lw_at lw_m6 30 rfl) rfl
theorem q1305 : (Jvm.Cond.methodLink "BlockPapers$Workshop" (172 : Nat) ({ cls := "BlockPapers$Room", name := "<init>", desc := "(II)V" } : Jvm.MethodName)) ∈ lw_all := lw_g (lw_at lw_m6 31 rfl) rfl
theorem q1307 : (Jvm.Cond.instanceMethod ({ cls := "BlockPapers$Workshop", name := "hang", desc := "(II)I" } : Jvm.MethodName)) ∈ lw_all := lw_g (lw_at lw_m6 33 rfl) rfl
theorem q1308 : (Jvm.Cond.selects "BlockPapers$Workshop" ({ cls := "BlockPapers$Workshop", name := "hang", desc := "(II)I" } : Jvm.MethodName) ({ cls := "BlockPapers$Workshop", name := "hang", desc := "(II)I" } : Jvm.MethodName)) ∈ lw_all := lw_g (lw_at lw_m6 34 rfl) rfl
theorem q1309 : (Jvm.Cond.code ({ cls := "BlockPapers$Workshop", name := "hang", desc := "(II)I" } : Jvm.MethodName) prog_14_method_24_code (6 : Nat) (Option.some Jvm.ClassFile.FieldType.int)) ∈ lw_all := lw_g (lw_at lw_m6 35 rfl) rfl
theorem q1310 : (Jvm.Cond.methodLink "BlockPapers$Workshop" (238 : Nat) ({ cls := "BlockPapers$Workshop", name := "room", desc := "(I)LBlockPapers$Room;" } : Jvm.MethodName)) ∈ lw_all := lw_g (lw_at lw_m6 36 rfl) rfl
theorem q1311 : (Jvm.Cond.instanceMethod ({ cls := "BlockPapers$Workshop", name := "room", desc := "(I)LBlockPapers$Room;" } : Jvm.MethodName)) ∈ lw_all := lw_g (lw_at lw_m6 37 rfl) rfl
theorem q1312 : (Jvm.Cond.selects "BlockPapers$Workshop" ({ cls := "BlockPapers$Workshop", name := "room", desc := "(I)LBlockPapers$Room;" } : Jvm.MethodName) ({ cls := "BlockPapers$Workshop", name := "room", desc := "(I)LBlockPapers$Room;" } : Jvm.MethodName)) ∈ lw_all := lw_g (lw_at lw_m6 38 rfl) rfl
theorem q1313 : (Jvm.Cond.code ({ cls := "BlockPapers$Workshop", name := "room", desc := "(I)LBlockPapers$Room;" } : Jvm.MethodName) prog_14_method_6_code (2 : Nat) (Option.some (Jvm.ClassFile.FieldType.object "BlockPapers$Room"))) ∈ lw_all := lw_g (lw_at lw_m6 39 rfl) rfl
theorem q1314 : (Jvm.Cond.methodLink "BlockPapers$Workshop" (242 : Nat) ({ cls := "BlockPapers$Workshop", name := "reason", desc := "(LBlockPapers$Room;LBlockPapers$Roll;)I" } : Jvm.MethodName)) ∈ lw_all := lw_g (lw_at lw_m6 40 rfl) rfl
theorem q1315 : (Jvm.Cond.instanceMethod ({ cls := "BlockPapers$Workshop", name := "reason", desc := "(LBlockPapers$Room;LBlockPapers$Roll;)I" } : Jvm.MethodName)) ∈ lw_all := lw_g (lw_at lw_m6 41 rfl) rfl
theorem q1316 : (Jvm.Cond.selects "BlockPapers$Workshop" ({ cls := "BlockPapers$Workshop", name := "reason", desc := "(LBlockPapers$Room;LBlockPapers$Roll;)I" } : Jvm.MethodName) ({ cls := "BlockPapers$Workshop", name := "reason", desc := "(LBlockPapers$Room;LBlockPapers$Roll;)I" } : Jvm.MethodName)) ∈ lw_all := lw_g (lw_at lw_m6 42 rfl) rfl
theorem q1317 : (Jvm.Cond.code ({ cls := "BlockPapers$Workshop", name := "reason", desc := "(LBlockPapers$Room;LBlockPapers$Roll;)I" } : Jvm.MethodName) prog_14_method_21_code (4 : Nat) (Option.some Jvm.ClassFile.FieldType.int)) ∈ lw_all := lw_g (lw_at lw_m6 43 rfl) rfl
theorem q1318 : (Jvm.Cond.methodLink "BlockPapers$Workshop" (181 : Nat) ({ cls := "BlockPapers$Workshop", name := "first", desc := "(LBlockPapers$Room;)LBlockPapers$Roll;" } : Jvm.MethodName)) ∈ lw_all := lw_g (lw_at lw_m6 44 rfl) rfl
theorem q1319 : (Jvm.Cond.instanceMethod ({ cls := "BlockPapers$Workshop", name := "first", desc := "(LBlockPapers$Room;)LBlockPapers$Roll;" } : Jvm.MethodName)) ∈ lw_all := lw_g (lw_at lw_m6 45 rfl) rfl
theorem q1320 : (Jvm.Cond.selects "BlockPapers$Workshop" ({ cls := "BlockPapers$Workshop", name := "first", desc := "(LBlockPapers$Room;)LBlockPapers$Roll;" } : Jvm.MethodName) ({ cls := "BlockPapers$Workshop", name := "first", desc := "(LBlockPapers$Room;)LBlockPapers$Roll;" } : Jvm.MethodName)) ∈ lw_all := lw_g (lw_at lw_m6 46 rfl) rfl
theorem q1321 : (Jvm.Cond.code ({ cls := "BlockPapers$Workshop", name := "first", desc := "(LBlockPapers$Room;)LBlockPapers$Roll;" } : Jvm.MethodName) prog_14_method_16_code (2 : Nat) (Option.some (Jvm.ClassFile.FieldType.object "BlockPapers$Roll"))) ∈ lw_all := lw_g (lw_at lw_m6 47 rfl) rfl
theorem q1322 : (Jvm.Cond.interfaceEntry "BlockPapers$Workshop" (178 : Nat)) ∈ lw_tbl := lw_at lw_m6 48 rfl
theorem q1323 : (Jvm.Cond.methodLink "BlockPapers$Workshop" (178 : Nat) ({ cls := "java/util/List", name := "isEmpty", desc := "()Z" } : Jvm.MethodName)) ∈ lw_all := lw_g (lw_at lw_m6 49 rfl) rfl
theorem q1331 : (Jvm.Cond.methodLink "BlockPapers$Workshop" (220 : Nat) ({ cls := "BlockPapers$Workshop", name := "unlike", desc := "(LBlockPapers$Room;LBlockPapers$Roll;)I" } : Jvm.MethodName)) ∈ lw_all := lw_g (lw_at lw_m6 57 rfl) rfl
theorem q1332 : (Jvm.Cond.privateMethod ({ cls := "BlockPapers$Workshop", name := "unlike", desc := "(LBlockPapers$Room;LBlockPapers$Roll;)I" } : Jvm.MethodName)) ∈ lw_tbl := lw_at lw_m6 58 rfl
theorem q1333 : (Jvm.Cond.instanceMethod ({ cls := "BlockPapers$Workshop", name := "unlike", desc := "(LBlockPapers$Room;LBlockPapers$Roll;)I" } : Jvm.MethodName)) ∈ lw_all := lw_g (lw_at lw_m6 59 rfl) rfl
theorem q1334 : (Jvm.Cond.code ({ cls := "BlockPapers$Workshop", name := "unlike", desc := "(LBlockPapers$Room;LBlockPapers$Roll;)I" } : Jvm.MethodName) prog_14_method_20_code (3 : Nat) (Option.some Jvm.ClassFile.FieldType.int)) ∈ lw_all := lw_g (lw_at lw_m6 60 rfl) rfl
theorem q1335 : (Jvm.Cond.methodLink "BlockPapers$Workshop" (212 : Nat) ({ cls := "BlockPapers$Room", name := "last", desc := "()LBlockPapers$Drop;" } : Jvm.MethodName)) ∈ lw_all := lw_g (lw_at lw_m6 61 rfl) rfl
theorem q1342 : (Jvm.Cond.methodLink "BlockPapers$Workshop" (224 : Nat) ({ cls := "BlockPapers$Workshop", name := "missing", desc := "(LBlockPapers$Room;LBlockPapers$Roll;)I" } : Jvm.MethodName)) ∈ lw_all := lw_g (lw_at lw_m6 68 rfl) rfl
theorem q1343 : (Jvm.Cond.privateMethod ({ cls := "BlockPapers$Workshop", name := "missing", desc := "(LBlockPapers$Room;LBlockPapers$Roll;)I" } : Jvm.MethodName)) ∈ lw_tbl := lw_at lw_m6 69 rfl
theorem q1344 : (Jvm.Cond.instanceMethod ({ cls := "BlockPapers$Workshop", name := "missing", desc := "(LBlockPapers$Room;LBlockPapers$Roll;)I" } : Jvm.MethodName)) ∈ lw_all := lw_g (lw_at lw_m6 70 rfl) rfl
theorem q1345 : (Jvm.Cond.code ({ cls := "BlockPapers$Workshop", name := "missing", desc := "(LBlockPapers$Room;LBlockPapers$Roll;)I" } : Jvm.MethodName) prog_14_method_19_code (3 : Nat) (Option.some Jvm.ClassFile.FieldType.int)) ∈ lw_all := lw_g (lw_at lw_m6 71 rfl) rfl
theorem q1346 : (Jvm.Cond.methodLink "BlockPapers$Workshop" (199 : Nat) ({ cls := "BlockPapers$Workshop", name := "begin", desc := "(LBlockPapers$Room;I)I" } : Jvm.MethodName)) ∈ lw_all := lw_g (lw_at lw_m6 72 rfl) rfl
theorem q1347 : (Jvm.Cond.instanceMethod ({ cls := "BlockPapers$Workshop", name := "begin", desc := "(LBlockPapers$Room;I)I" } : Jvm.MethodName)) ∈ lw_all := lw_g (lw_at lw_m6 73 rfl) rfl
theorem q1348 : (Jvm.Cond.selects "BlockPapers$Workshop" ({ cls := "BlockPapers$Workshop", name := "begin", desc := "(LBlockPapers$Room;I)I" } : Jvm.MethodName) ({ cls := "BlockPapers$Workshop", name := "begin", desc := "(LBlockPapers$Room;I)I" } : Jvm.MethodName)) ∈ lw_all := lw_g (lw_at lw_m6 74 rfl) rfl
theorem q1349 : (Jvm.Cond.code ({ cls := "BlockPapers$Workshop", name := "begin", desc := "(LBlockPapers$Room;I)I" } : Jvm.MethodName) prog_14_method_17_code (3 : Nat) (Option.some Jvm.ClassFile.FieldType.int)) ∈ lw_all := lw_g (lw_at lw_m6 75 rfl) rfl
theorem q1350 : (Jvm.Cond.methodLink "BlockPapers$Workshop" (190 : Nat) ({ cls := "BlockPapers$Block", name := "begin", desc := "(II)I" } : Jvm.MethodName)) ∈ lw_all := lw_g (lw_at lw_m6 76 rfl) rfl
theorem q1372 : (Jvm.Cond.methodLink "BlockPapers$Workshop" (202 : Nat) ({ cls := "BlockPapers$Workshop", name := "waste", desc := "(LBlockPapers$Roll;II)I" } : Jvm.MethodName)) ∈ lw_all := lw_g (lw_at lw_m6 98 rfl) rfl
theorem q1373 : (Jvm.Cond.privateMethod ({ cls := "BlockPapers$Workshop", name := "waste", desc := "(LBlockPapers$Roll;II)I" } : Jvm.MethodName)) ∈ lw_tbl := lw_at lw_m6 99 rfl
theorem q1374 : (Jvm.Cond.instanceMethod ({ cls := "BlockPapers$Workshop", name := "waste", desc := "(LBlockPapers$Roll;II)I" } : Jvm.MethodName)) ∈ lw_all := lw_g (lw_at lw_m6 100 rfl) rfl
theorem q1375 : (Jvm.Cond.code ({ cls := "BlockPapers$Workshop", name := "waste", desc := "(LBlockPapers$Roll;II)I" } : Jvm.MethodName) prog_14_method_18_code (5 : Nat) (Option.some Jvm.ClassFile.FieldType.int)) ∈ lw_all := lw_g (lw_at lw_m6 101 rfl) rfl
theorem q1384 : (Jvm.Cond.methodLink "BlockPapers$Workshop" (245 : Nat) ({ cls := "BlockPapers$Workshop", name := "detail", desc := "(LBlockPapers$Room;II)I" } : Jvm.MethodName)) ∈ lw_all := lw_g (lw_at lw_m6 110 rfl) rfl
theorem q1385 : (Jvm.Cond.instanceMethod ({ cls := "BlockPapers$Workshop", name := "detail", desc := "(LBlockPapers$Room;II)I" } : Jvm.MethodName)) ∈ lw_all := lw_g (lw_at lw_m6 111 rfl) rfl
theorem q1386 : (Jvm.Cond.selects "BlockPapers$Workshop" ({ cls := "BlockPapers$Workshop", name := "detail", desc := "(LBlockPapers$Room;II)I" } : Jvm.MethodName) ({ cls := "BlockPapers$Workshop", name := "detail", desc := "(LBlockPapers$Room;II)I" } : Jvm.MethodName)) ∈ lw_all := lw_g (lw_at lw_m6 112 rfl) rfl
theorem q1387 : (Jvm.Cond.code ({ cls := "BlockPapers$Workshop", name := "detail", desc := "(LBlockPapers$Room;II)I" } : Jvm.MethodName) prog_14_method_22_code (5 : Nat) (Option.some Jvm.ClassFile.FieldType.int)) ∈ lw_all := lw_g (lw_at lw_m6 113 rfl) rfl
theorem q1388 : (Jvm.Cond.methodLink "BlockPapers$Workshop" (249 : Nat) ({ cls := "BlockPapers$Workshop", name := "hang", desc := "(LBlockPapers$Room;I)I" } : Jvm.MethodName)) ∈ lw_all := lw_g (lw_at lw_m6 114 rfl) rfl
theorem q1389 : (Jvm.Cond.privateMethod ({ cls := "BlockPapers$Workshop", name := "hang", desc := "(LBlockPapers$Room;I)I" } : Jvm.MethodName)) ∈ lw_tbl := lw_at lw_m6 115 rfl
theorem q1390 : (Jvm.Cond.instanceMethod ({ cls := "BlockPapers$Workshop", name := "hang", desc := "(LBlockPapers$Room;I)I" } : Jvm.MethodName)) ∈ lw_all := lw_g (lw_at lw_m6 116 rfl) rfl
theorem q1391 : (Jvm.Cond.code ({ cls := "BlockPapers$Workshop", name := "hang", desc := "(LBlockPapers$Room;I)I" } : Jvm.MethodName) prog_14_method_23_code (7 : Nat) (Option.some Jvm.ClassFile.FieldType.int)) ∈ lw_all := lw_g (lw_at lw_m6 117 rfl) rfl
theorem q1393 : (Jvm.Cond.methodLink "BlockPapers$Workshop" (230 : Nat) ({ cls := "BlockPapers$Drop", name := "<init>", desc := "(IIII)V" } : Jvm.MethodName)) ∈ lw_all := lw_g (lw_at lw_m6 119 rfl) rfl
theorem q1398 : (Jvm.Cond.fieldLinkNest "BlockPapers$Workshop" (86 : Nat) "BlockPapers$Drop" "roll" "I" "BlockPapers") ∈ lw_tbl := lw_at lw_m6 124 rfl
theorem q1401 : (Jvm.Cond.fieldLinkNest "BlockPapers$Workshop" (187 : Nat) "BlockPapers$Drop" "begin" "I" "BlockPapers") ∈ lw_tbl := lw_at lw_m6 127 rfl
theorem q1404 : (Jvm.Cond.fieldLinkNest "BlockPapers$Workshop" (216 : Nat) "BlockPapers$Drop" "shade" "I" "BlockPapers") ∈ lw_tbl := lw_at lw_m6 130 rfl
theorem q1417 : (Jvm.Cond.methodLink "BlockPapers$Workshop" (235 : Nat) ({ cls := "BlockPapers$Roll", name := "cut", desc := "(I)LBlockPapers$Roll;" } : Jvm.MethodName)) ∈ lw_all := lw_g (lw_at lw_m6 143 rfl) rfl
theorem q1422 : (Jvm.Cond.instanceMethod ({ cls := "BlockPapers$Workshop", name := "strip", desc := "(I)I" } : Jvm.MethodName)) ∈ lw_all := lw_g (lw_at lw_m6 148 rfl) rfl
theorem q1423 : (Jvm.Cond.selects "BlockPapers$Workshop" ({ cls := "BlockPapers$Workshop", name := "strip", desc := "(I)I" } : Jvm.MethodName) ({ cls := "BlockPapers$Workshop", name := "strip", desc := "(I)I" } : Jvm.MethodName)) ∈ lw_all := lw_g (lw_at lw_m6 149 rfl) rfl
theorem q1424 : (Jvm.Cond.code ({ cls := "BlockPapers$Workshop", name := "strip", desc := "(I)I" } : Jvm.MethodName) prog_14_method_25_code (4 : Nat) (Option.some Jvm.ClassFile.FieldType.int)) ∈ lw_all := lw_g (lw_at lw_m6 150 rfl) rfl
theorem q1425 : (Jvm.Cond.interfaceEntry "BlockPapers$Workshop" (252 : Nat)) ∈ lw_tbl := lw_at lw_m6 151 rfl
theorem q1426 : (Jvm.Cond.methodLink "BlockPapers$Workshop" (252 : Nat) ({ cls := "java/util/List", name := "remove", desc := "(I)Ljava/lang/Object;" } : Jvm.MethodName)) ∈ lw_all := lw_g (lw_at lw_m6 152 rfl) rfl
theorem q1439 : (Jvm.Cond.instanceMethod ({ cls := "BlockPapers$Workshop", name := "finish", desc := "(I)I" } : Jvm.MethodName)) ∈ lw_all := lw_g (lw_at lw_m6 165 rfl) rfl
theorem q1440 : (Jvm.Cond.selects "BlockPapers$Workshop" ({ cls := "BlockPapers$Workshop", name := "finish", desc := "(I)I" } : Jvm.MethodName) ({ cls := "BlockPapers$Workshop", name := "finish", desc := "(I)I" } : Jvm.MethodName)) ∈ lw_all := lw_g (lw_at lw_m6 166 rfl) rfl
theorem q1441 : (Jvm.Cond.code ({ cls := "BlockPapers$Workshop", name := "finish", desc := "(I)I" } : Jvm.MethodName) prog_14_method_27_code (6 : Nat) (Option.some Jvm.ClassFile.FieldType.int)) ∈ lw_all := lw_g (lw_at lw_m6 167 rfl) rfl
theorem q1442 : (Jvm.Cond.methodLink "BlockPapers$Workshop" (270 : Nat) ({ cls := "BlockPapers$Workshop", name := "best", desc := "(LBlockPapers$Room;)I" } : Jvm.MethodName)) ∈ lw_all := lw_g (lw_at lw_m6 168 rfl) rfl
theorem q1443 : (Jvm.Cond.instanceMethod ({ cls := "BlockPapers$Workshop", name := "best", desc := "(LBlockPapers$Room;)I" } : Jvm.MethodName)) ∈ lw_all := lw_g (lw_at lw_m6 169 rfl) rfl
theorem q1444 : (Jvm.Cond.selects "BlockPapers$Workshop" ({ cls := "BlockPapers$Workshop", name := "best", desc := "(LBlockPapers$Room;)I" } : Jvm.MethodName) ({ cls := "BlockPapers$Workshop", name := "best", desc := "(LBlockPapers$Room;)I" } : Jvm.MethodName)) ∈ lw_all := lw_g (lw_at lw_m6 170 rfl) rfl
theorem q1445 : (Jvm.Cond.code ({ cls := "BlockPapers$Workshop", name := "best", desc := "(LBlockPapers$Room;)I" } : Jvm.MethodName) prog_14_method_26_code (5 : Nat) (Option.some Jvm.ClassFile.FieldType.int)) ∈ lw_all := lw_g (lw_at lw_m6 171 rfl) rfl
theorem q1446 : (Jvm.Cond.classLink "BlockPapers$Workshop" (258 : Nat) "BlockPapers$Workshop$1Offer") ∈ lw_all := lw_g (lw_at lw_m6 172 rfl) rfl
theorem q1448 : (Jvm.Cond.methodLink "BlockPapers$Workshop" (260 : Nat) ({ cls := "BlockPapers$Workshop$1Offer", name := "<init>", desc := "(LBlockPapers$Workshop;ILBlockPapers$Room;)V" } : Jvm.MethodName)) ∈ lw_all := lw_g (lw_at lw_m6 174 rfl) rfl
theorem q1461 : (Jvm.Cond.fieldLinkNest "BlockPapers$Workshop" (267 : Nat) "BlockPapers$Workshop$1Offer" "number" "I" "BlockPapers") ∈ lw_tbl := lw_at lw_m6 187 rfl
theorem q1477 : (Jvm.Cond.methodLink "BlockPapers$Workshop" (263 : Nat) ({ cls := "BlockPapers$Workshop$1Offer", name := "isBetter", desc := "(LBlockPapers$Workshop$1Offer;)Z" } : Jvm.MethodName)) ∈ lw_all := lw_g (lw_at lw_m6 203 rfl) rfl
theorem q1715 : (Jvm.Cond.instanceMethod ({ cls := "BlockPapers$Workshop", name := "drops", desc := "(LBlockPapers$Room;LBlockPapers$Roll;)I" } : Jvm.MethodName)) ∈ lw_all := lw_g (lw_at lw_m7 201 rfl) rfl
theorem q1716 : (Jvm.Cond.selects "BlockPapers$Workshop" ({ cls := "BlockPapers$Workshop", name := "drops", desc := "(LBlockPapers$Room;LBlockPapers$Roll;)I" } : Jvm.MethodName) ({ cls := "BlockPapers$Workshop", name := "drops", desc := "(LBlockPapers$Room;LBlockPapers$Roll;)I" } : Jvm.MethodName)) ∈ lw_all := lw_g (lw_at lw_m7 202 rfl) rfl
theorem q1717 : (Jvm.Cond.code ({ cls := "BlockPapers$Workshop", name := "drops", desc := "(LBlockPapers$Room;LBlockPapers$Roll;)I" } : Jvm.MethodName) prog_14_method_28_code (9 : Nat) (Option.some Jvm.ClassFile.FieldType.int)) ∈ lw_all := lw_g (lw_at lw_m7 203 rfl) rfl
theorem q2702 : (Jvm.Cond.castable "BlockPapers$Workshop" "java/lang/Object") ∈ lw_tbl := lw_at lw_m11 228 rfl
theorem in_X2 : ∀ w ∈ wsX20, w ∈ lw_all := lw_in wsX20 [174, 176, 178, 180] (by decide +kernel) (by decide +kernel)
/-! BlockPapers$Named -/
set_option maxRecDepth 100000
def RX4 : String := "BlockPapers$Named"
def TX4 : u_T := fun k => match k with
  | 0 => ("BlockPapers$Named", "name", "Ljava/lang/String;", true)
  | 1 => ("BlockPapers$Named", "one", "I", true)
  | 2 => ("BlockPapers$Named", "other", "I", true)
  | _ => ("BlockPapers$Named", "third", "I", true)
def tyX4 : Nat → FieldType := fun k => match k with
  | 0 => .object "java/lang/String"
  | 1 => .int
  | 2 => .int
  | _ => .int
abbrev wsX40 : List Cond := u_ws RX4 TX4 4
theorem nmX4 : ∀ a, a < 4 → ∀ b, b < 4 → a ≠ b → (TX4 a).2.1 ≠ (TX4 b).2.1 := by decide +kernel
theorem tyX4_ok : ∀ k, k < 4 → parseFieldDescriptor (TX4 k).2.2.1 = some (tyX4 k) := by decide +kernel
abbrev cX4_init : ByteArray := prog_9_method_2_code
def yX4_init : MethodName := ⟨RX4, "<init>", "(Ljava/lang/String;II)V"⟩
def dkwX4_init_0 : List UInt8 := [42, 43, 28, 29, 3, 183, 0, 1, 177]
abbrev dktX4_init_0 : List UInt8 := dkwX4_init_0 ++ []
theorem dksX4_init_0 : cX4_init.data.toList.drop 0 = dktX4_init_0 := by decide +kernel
theorem dX4_init_0 : decode cX4_init 0 = .ok (.aload_n 0, 1) := dk_42 (dk_at dksX4_init_0 0 rfl rfl)
theorem dX4_init_1 : decode cX4_init 1 = .ok (.aload_n 1, 1) := dk_43 (dk_at dksX4_init_0 1 rfl rfl)
theorem dX4_init_2 : decode cX4_init 2 = .ok (.iload_n 2, 1) := dk_28 (dk_at dksX4_init_0 2 rfl rfl)
theorem dX4_init_3 : decode cX4_init 3 = .ok (.iload_n 3, 1) := dk_29 (dk_at dksX4_init_0 3 rfl rfl)
theorem dX4_init_4 : decode cX4_init 4 = .ok (.iconst 0, 1) := dk_3 (dk_at dksX4_init_0 4 rfl rfl)
theorem dX4_init_5 : decode cX4_init 5 = .ok (.invokespecial 1, 3) := dk_183 0 1 (dk_at dksX4_init_0 5 rfl rfl)
theorem dX4_init_8 : decode cX4_init 8 = .ok (.return_, 1) := dk_177 (dk_at dksX4_init_0 8 rfl rfl)
abbrev cX4_init_2 : ByteArray := prog_9_method_3_code
def yX4_init_2 : MethodName := ⟨RX4, "<init>", "(Ljava/lang/String;III)V"⟩
def dkwX4_init_2_1 : List UInt8 := [181, 0, 23, 177]
abbrev dktX4_init_2_1 : List UInt8 := dkwX4_init_2_1 ++ []
def dkwX4_init_2_0 : List UInt8 := [42, 183, 0, 7, 42, 43, 181, 0, 12, 42, 28, 181, 0, 16, 42, 29, 181, 0, 20, 42, 21, 4]
abbrev dktX4_init_2_0 : List UInt8 := dkwX4_init_2_0 ++ dktX4_init_2_1
theorem dksX4_init_2_0 : cX4_init_2.data.toList.drop 0 = dktX4_init_2_0 := by decide +kernel
theorem dksX4_init_2_1 : cX4_init_2.data.toList.drop 22 = dktX4_init_2_1 := dk_seg dksX4_init_2_0 22 rfl rfl
theorem dX4_init_2_0 : decode cX4_init_2 0 = .ok (.aload_n 0, 1) := dk_42 (dk_at dksX4_init_2_0 0 rfl rfl)
theorem dX4_init_2_1 : decode cX4_init_2 1 = .ok (.invokespecial 7, 3) := dk_183 0 7 (dk_at dksX4_init_2_0 1 rfl rfl)
theorem dX4_init_2_4 : decode cX4_init_2 4 = .ok (.aload_n 0, 1) := dk_42 (dk_at dksX4_init_2_0 4 rfl rfl)
theorem dX4_init_2_5 : decode cX4_init_2 5 = .ok (.aload_n 1, 1) := dk_43 (dk_at dksX4_init_2_0 5 rfl rfl)
theorem dX4_init_2_6 : decode cX4_init_2 6 = .ok (.putfield 12, 3) := dk_181 0 12 (dk_at dksX4_init_2_0 6 rfl rfl)
theorem dX4_init_2_9 : decode cX4_init_2 9 = .ok (.aload_n 0, 1) := dk_42 (dk_at dksX4_init_2_0 9 rfl rfl)
theorem dX4_init_2_10 : decode cX4_init_2 10 = .ok (.iload_n 2, 1) := dk_28 (dk_at dksX4_init_2_0 10 rfl rfl)
theorem dX4_init_2_11 : decode cX4_init_2 11 = .ok (.putfield 16, 3) := dk_181 0 16 (dk_at dksX4_init_2_0 11 rfl rfl)
theorem dX4_init_2_14 : decode cX4_init_2 14 = .ok (.aload_n 0, 1) := dk_42 (dk_at dksX4_init_2_0 14 rfl rfl)
theorem dX4_init_2_15 : decode cX4_init_2 15 = .ok (.iload_n 3, 1) := dk_29 (dk_at dksX4_init_2_0 15 rfl rfl)
theorem dX4_init_2_16 : decode cX4_init_2 16 = .ok (.putfield 20, 3) := dk_181 0 20 (dk_at dksX4_init_2_0 16 rfl rfl)
theorem dX4_init_2_19 : decode cX4_init_2 19 = .ok (.aload_n 0, 1) := dk_42 (dk_at dksX4_init_2_0 19 rfl rfl)
theorem dX4_init_2_20 : decode cX4_init_2 20 = .ok (.iload 4, 2) := dk_21 4 (dk_at dksX4_init_2_0 20 rfl rfl)
theorem dX4_init_2_22 : decode cX4_init_2 22 = .ok (.putfield 23, 3) := dk_181 0 23 (dk_at dksX4_init_2_1 0 rfl rfl)
theorem dX4_init_2_25 : decode cX4_init_2 25 = .ok (.return_, 1) := dk_177 (dk_at dksX4_init_2_1 3 rfl rfl)
abbrev cX4_done : ByteArray := prog_9_method_4_code
def yX4_done : MethodName := ⟨RX4, "done", "(LBlockPapers$Workshop;)I"⟩
def dkwX4_done_15 : List UInt8 := [167, 0, 11, 43, 42, 180, 0, 16, 182, 0, 82, 172]
abbrev dktX4_done_15 : List UInt8 := dkwX4_done_15 ++ []
def dkwX4_done_14 : List UInt8 := [43, 42, 180, 0, 16, 42, 180, 0, 20, 182, 0, 78, 167, 0, 22, 43, 42, 180, 0, 16, 182, 0, 80]
abbrev dktX4_done_14 : List UInt8 := dkwX4_done_14 ++ dktX4_done_15
def dkwX4_done_13 : List UInt8 := [180, 0, 16, 182, 0, 71, 167, 0, 52, 43, 42, 180, 0, 16, 42, 180, 0, 20, 182, 0, 74, 167, 0, 37]
abbrev dktX4_done_13 : List UInt8 := dkwX4_done_13 ++ dktX4_done_14
def dkwX4_done_12 : List UInt8 := [167, 0, 82, 43, 42, 180, 0, 16, 42, 180, 0, 20, 42, 180, 0, 23, 182, 0, 69, 167, 0, 63, 43, 42]
abbrev dktX4_done_12 : List UInt8 := dkwX4_done_12 ++ dktX4_done_13
def dkwX4_done_11 : List UInt8 := [182, 0, 63, 167, 0, 101, 43, 42, 180, 0, 16, 42, 180, 0, 20, 42, 180, 0, 23, 182, 0, 67]
abbrev dktX4_done_11 : List UInt8 := dkwX4_done_11 ++ dktX4_done_12
def dkwX4_done_10 : List UInt8 := [43, 42, 180, 0, 16, 182, 0, 60, 167, 0, 120, 43, 42, 180, 0, 16, 42, 180, 0, 20, 42, 180, 0, 23]
abbrev dktX4_done_10 : List UInt8 := dkwX4_done_10 ++ dktX4_done_11
def dkwX4_done_9 : List UInt8 := [43, 42, 180, 0, 16, 42, 180, 0, 20, 4, 160, 0, 7, 4, 167, 0, 4, 3, 182, 0, 54, 167, 0, 131]
abbrev dktX4_done_9 : List UInt8 := dkwX4_done_9 ++ dktX4_done_10
def dkwX4_done_8 : List UInt8 := [170, 0, 0, 0, 193, 0, 0, 0, 0, 0, 0, 0, 8, 0, 0, 0, 49, 0, 0, 0, 73, 0, 0, 0, 84, 0, 0, 0, 103, 0, 0, 0, 122, 0, 0, 0, 141, 0, 0, 0, 152, 0, 0, 0, 167, 0, 0, 0, 182]
abbrev dktX4_done_8 : List UInt8 := dkwX4_done_8 ++ dktX4_done_9
def dkwX4_done_7 : List UInt8 := [182, 0, 34, 153, 0, 6, 16, 8, 62, 29]
abbrev dktX4_done_7 : List UInt8 := dkwX4_done_7 ++ dktX4_done_8
def dkwX4_done_6 : List UInt8 := [62, 167, 0, 30, 44, 18, 50, 182, 0, 34, 153, 0, 21, 16, 7, 62, 167, 0, 15, 44, 18, 52]
abbrev dktX4_done_6 : List UInt8 := dkwX4_done_6 ++ dktX4_done_7
def dkwX4_done_5 : List UInt8 := [18, 46, 182, 0, 34, 153, 0, 50, 8, 62, 167, 0, 45, 44, 18, 48, 182, 0, 34, 153, 0, 36, 16, 6]
abbrev dktX4_done_5 : List UInt8 := dkwX4_done_5 ++ dktX4_done_6
def dkwX4_done_4 : List UInt8 := [153, 0, 78, 6, 62, 167, 0, 73, 44, 18, 44, 182, 0, 34, 153, 0, 64, 7, 62, 167, 0, 59, 44]
abbrev dktX4_done_4 : List UInt8 := dkwX4_done_4 ++ dktX4_done_5
def dkwX4_done_3 : List UInt8 := [62, 167, 0, 101, 44, 18, 40, 182, 0, 34, 153, 0, 92, 5, 62, 167, 0, 87, 44, 18, 42, 182, 0, 34]
abbrev dktX4_done_3 : List UInt8 := dkwX4_done_3 ++ dktX4_done_4
def dkwX4_done_2 : List UInt8 := [44, 18, 32, 182, 0, 34, 153, 0, 120, 3, 62, 167, 0, 115, 44, 18, 38, 182, 0, 34, 153, 0, 106, 4]
abbrev dktX4_done_2 : List UInt8 := dkwX4_done_2 ++ dktX4_done_3
def dkwX4_done_1 : List UInt8 := [171, 0, 0, 0, 207, 0, 0, 0, 9, 0, 1, 151, 230, 0, 0, 0, 109, 0, 1, 166, 92, 0, 0, 0, 123, 0, 46, 4, 231, 0, 0, 0, 151, 0, 48, 192, 114, 0, 0, 0, 180, 0, 53, 128, 219, 0, 0, 0, 165, 5, 151, 196, 141, 0, 0, 0, 81, 5, 160, 233, 131, 0, 0, 0, 95, 6, 95, 178, 173, 0, 0, 0, 137, 6, 139, 3, 24, 0, 0, 0, 195]
abbrev dktX4_done_1 : List UInt8 := dkwX4_done_1 ++ dktX4_done_2
def dkwX4_done_0 : List UInt8 := [42, 180, 0, 12, 77, 2, 62, 44, 182, 0, 26]
abbrev dktX4_done_0 : List UInt8 := dkwX4_done_0 ++ dktX4_done_1
theorem dksX4_done_0 : cX4_done.data.toList.drop 0 = dktX4_done_0 := by decide +kernel
theorem dksX4_done_1 : cX4_done.data.toList.drop 11 = dktX4_done_1 := dk_seg dksX4_done_0 11 rfl rfl
theorem dksX4_done_2 : cX4_done.data.toList.drop 92 = dktX4_done_2 := dk_seg dksX4_done_1 81 rfl rfl
theorem dksX4_done_3 : cX4_done.data.toList.drop 116 = dktX4_done_3 := dk_seg dksX4_done_2 24 rfl rfl
theorem dksX4_done_4 : cX4_done.data.toList.drop 140 = dktX4_done_4 := dk_seg dksX4_done_3 24 rfl rfl
theorem dksX4_done_5 : cX4_done.data.toList.drop 163 = dktX4_done_5 := dk_seg dksX4_done_4 23 rfl rfl
theorem dksX4_done_6 : cX4_done.data.toList.drop 187 = dktX4_done_6 := dk_seg dksX4_done_5 24 rfl rfl
theorem dksX4_done_7 : cX4_done.data.toList.drop 209 = dktX4_done_7 := dk_seg dksX4_done_6 22 rfl rfl
theorem dksX4_done_8 : cX4_done.data.toList.drop 219 = dktX4_done_8 := dk_seg dksX4_done_7 10 rfl rfl
theorem dksX4_done_9 : cX4_done.data.toList.drop 268 = dktX4_done_9 := dk_seg dksX4_done_8 49 rfl rfl
theorem dksX4_done_10 : cX4_done.data.toList.drop 292 = dktX4_done_10 := dk_seg dksX4_done_9 24 rfl rfl
theorem dksX4_done_11 : cX4_done.data.toList.drop 316 = dktX4_done_11 := dk_seg dksX4_done_10 24 rfl rfl
theorem dksX4_done_12 : cX4_done.data.toList.drop 338 = dktX4_done_12 := dk_seg dksX4_done_11 22 rfl rfl
theorem dksX4_done_13 : cX4_done.data.toList.drop 362 = dktX4_done_13 := dk_seg dksX4_done_12 24 rfl rfl
theorem dksX4_done_14 : cX4_done.data.toList.drop 386 = dktX4_done_14 := dk_seg dksX4_done_13 24 rfl rfl
theorem dksX4_done_15 : cX4_done.data.toList.drop 409 = dktX4_done_15 := dk_seg dksX4_done_14 23 rfl rfl
theorem dX4_done_0 : decode cX4_done 0 = .ok (.aload_n 0, 1) := dk_42 (dk_at dksX4_done_0 0 rfl rfl)
theorem dX4_done_1 : decode cX4_done 1 = .ok (.getfield 12, 3) := dk_180 0 12 (dk_at dksX4_done_0 1 rfl rfl)
theorem dX4_done_4 : decode cX4_done 4 = .ok (.astore_n 2, 1) := dk_77 (dk_at dksX4_done_0 4 rfl rfl)
theorem dX4_done_5 : decode cX4_done 5 = .ok (.iconst (-1), 1) := dk_2 (dk_at dksX4_done_0 5 rfl rfl)
theorem dX4_done_6 : decode cX4_done 6 = .ok (.istore_n 3, 1) := dk_62 (dk_at dksX4_done_0 6 rfl rfl)
theorem dX4_done_7 : decode cX4_done 7 = .ok (.aload_n 2, 1) := dk_44 (dk_at dksX4_done_0 7 rfl rfl)
theorem dX4_done_8 : decode cX4_done 8 = .ok (.invokevirtual 26, 3) := dk_182 0 26 (dk_at dksX4_done_0 8 rfl rfl)
theorem dX4_done_11 : decode cX4_done 11 = .ok (.lookupswitch 207 #[(104422, 109), (108124, 123), (3015911, 151), (3194994, 180), (3506395, 165), (93832333, 81), (94431619, 95), (106934957, 137), (109773592, 195)], 81) := by decide +kernel
theorem dX4_done_92 : decode cX4_done 92 = .ok (.aload_n 2, 1) := dk_44 (dk_at dksX4_done_2 0 rfl rfl)
theorem dX4_done_93 : decode cX4_done 93 = .ok (.ldc 32, 2) := dk_18 32 (dk_at dksX4_done_2 1 rfl rfl)
theorem dX4_done_95 : decode cX4_done 95 = .ok (.invokevirtual 34, 3) := dk_182 0 34 (dk_at dksX4_done_2 3 rfl rfl)
theorem dX4_done_98 : decode cX4_done 98 = .ok (.ifCond .eq 120, 3) := dk_153 0 120 (dk_at dksX4_done_2 6 rfl rfl)
theorem dX4_done_101 : decode cX4_done 101 = .ok (.iconst 0, 1) := dk_3 (dk_at dksX4_done_2 9 rfl rfl)
theorem dX4_done_102 : decode cX4_done 102 = .ok (.istore_n 3, 1) := dk_62 (dk_at dksX4_done_2 10 rfl rfl)
theorem dX4_done_103 : decode cX4_done 103 = .ok (.goto 115, 3) := dk_167 0 115 (dk_at dksX4_done_2 11 rfl rfl)
theorem dX4_done_106 : decode cX4_done 106 = .ok (.aload_n 2, 1) := dk_44 (dk_at dksX4_done_2 14 rfl rfl)
theorem dX4_done_107 : decode cX4_done 107 = .ok (.ldc 38, 2) := dk_18 38 (dk_at dksX4_done_2 15 rfl rfl)
theorem dX4_done_109 : decode cX4_done 109 = .ok (.invokevirtual 34, 3) := dk_182 0 34 (dk_at dksX4_done_2 17 rfl rfl)
theorem dX4_done_112 : decode cX4_done 112 = .ok (.ifCond .eq 106, 3) := dk_153 0 106 (dk_at dksX4_done_2 20 rfl rfl)
theorem dX4_done_115 : decode cX4_done 115 = .ok (.iconst 1, 1) := dk_4 (dk_at dksX4_done_2 23 rfl rfl)
theorem dX4_done_116 : decode cX4_done 116 = .ok (.istore_n 3, 1) := dk_62 (dk_at dksX4_done_3 0 rfl rfl)
theorem dX4_done_117 : decode cX4_done 117 = .ok (.goto 101, 3) := dk_167 0 101 (dk_at dksX4_done_3 1 rfl rfl)
theorem dX4_done_120 : decode cX4_done 120 = .ok (.aload_n 2, 1) := dk_44 (dk_at dksX4_done_3 4 rfl rfl)
theorem dX4_done_121 : decode cX4_done 121 = .ok (.ldc 40, 2) := dk_18 40 (dk_at dksX4_done_3 5 rfl rfl)
theorem dX4_done_123 : decode cX4_done 123 = .ok (.invokevirtual 34, 3) := dk_182 0 34 (dk_at dksX4_done_3 7 rfl rfl)
theorem dX4_done_126 : decode cX4_done 126 = .ok (.ifCond .eq 92, 3) := dk_153 0 92 (dk_at dksX4_done_3 10 rfl rfl)
theorem dX4_done_129 : decode cX4_done 129 = .ok (.iconst 2, 1) := dk_5 (dk_at dksX4_done_3 13 rfl rfl)
theorem dX4_done_130 : decode cX4_done 130 = .ok (.istore_n 3, 1) := dk_62 (dk_at dksX4_done_3 14 rfl rfl)
theorem dX4_done_131 : decode cX4_done 131 = .ok (.goto 87, 3) := dk_167 0 87 (dk_at dksX4_done_3 15 rfl rfl)
theorem dX4_done_134 : decode cX4_done 134 = .ok (.aload_n 2, 1) := dk_44 (dk_at dksX4_done_3 18 rfl rfl)
theorem dX4_done_135 : decode cX4_done 135 = .ok (.ldc 42, 2) := dk_18 42 (dk_at dksX4_done_3 19 rfl rfl)
theorem dX4_done_137 : decode cX4_done 137 = .ok (.invokevirtual 34, 3) := dk_182 0 34 (dk_at dksX4_done_3 21 rfl rfl)
theorem dX4_done_140 : decode cX4_done 140 = .ok (.ifCond .eq 78, 3) := dk_153 0 78 (dk_at dksX4_done_4 0 rfl rfl)
theorem dX4_done_143 : decode cX4_done 143 = .ok (.iconst 3, 1) := dk_6 (dk_at dksX4_done_4 3 rfl rfl)
theorem dX4_done_144 : decode cX4_done 144 = .ok (.istore_n 3, 1) := dk_62 (dk_at dksX4_done_4 4 rfl rfl)
theorem dX4_done_145 : decode cX4_done 145 = .ok (.goto 73, 3) := dk_167 0 73 (dk_at dksX4_done_4 5 rfl rfl)
theorem dX4_done_148 : decode cX4_done 148 = .ok (.aload_n 2, 1) := dk_44 (dk_at dksX4_done_4 8 rfl rfl)
theorem dX4_done_149 : decode cX4_done 149 = .ok (.ldc 44, 2) := dk_18 44 (dk_at dksX4_done_4 9 rfl rfl)
theorem dX4_done_151 : decode cX4_done 151 = .ok (.invokevirtual 34, 3) := dk_182 0 34 (dk_at dksX4_done_4 11 rfl rfl)
theorem dX4_done_154 : decode cX4_done 154 = .ok (.ifCond .eq 64, 3) := dk_153 0 64 (dk_at dksX4_done_4 14 rfl rfl)
theorem dX4_done_157 : decode cX4_done 157 = .ok (.iconst 4, 1) := dk_7 (dk_at dksX4_done_4 17 rfl rfl)
theorem dX4_done_158 : decode cX4_done 158 = .ok (.istore_n 3, 1) := dk_62 (dk_at dksX4_done_4 18 rfl rfl)
theorem dX4_done_159 : decode cX4_done 159 = .ok (.goto 59, 3) := dk_167 0 59 (dk_at dksX4_done_4 19 rfl rfl)
theorem dX4_done_162 : decode cX4_done 162 = .ok (.aload_n 2, 1) := dk_44 (dk_at dksX4_done_4 22 rfl rfl)
theorem dX4_done_163 : decode cX4_done 163 = .ok (.ldc 46, 2) := dk_18 46 (dk_at dksX4_done_5 0 rfl rfl)
theorem dX4_done_165 : decode cX4_done 165 = .ok (.invokevirtual 34, 3) := dk_182 0 34 (dk_at dksX4_done_5 2 rfl rfl)
theorem dX4_done_168 : decode cX4_done 168 = .ok (.ifCond .eq 50, 3) := dk_153 0 50 (dk_at dksX4_done_5 5 rfl rfl)
theorem dX4_done_171 : decode cX4_done 171 = .ok (.iconst 5, 1) := dk_8 (dk_at dksX4_done_5 8 rfl rfl)
theorem dX4_done_172 : decode cX4_done 172 = .ok (.istore_n 3, 1) := dk_62 (dk_at dksX4_done_5 9 rfl rfl)
theorem dX4_done_173 : decode cX4_done 173 = .ok (.goto 45, 3) := dk_167 0 45 (dk_at dksX4_done_5 10 rfl rfl)
theorem dX4_done_176 : decode cX4_done 176 = .ok (.aload_n 2, 1) := dk_44 (dk_at dksX4_done_5 13 rfl rfl)
theorem dX4_done_177 : decode cX4_done 177 = .ok (.ldc 48, 2) := dk_18 48 (dk_at dksX4_done_5 14 rfl rfl)
theorem dX4_done_179 : decode cX4_done 179 = .ok (.invokevirtual 34, 3) := dk_182 0 34 (dk_at dksX4_done_5 16 rfl rfl)
theorem dX4_done_182 : decode cX4_done 182 = .ok (.ifCond .eq 36, 3) := dk_153 0 36 (dk_at dksX4_done_5 19 rfl rfl)
theorem dX4_done_185 : decode cX4_done 185 = .ok (.bipush 6, 2) := dk_16 6 (dk_at dksX4_done_5 22 rfl rfl)
theorem dX4_done_187 : decode cX4_done 187 = .ok (.istore_n 3, 1) := dk_62 (dk_at dksX4_done_6 0 rfl rfl)
theorem dX4_done_188 : decode cX4_done 188 = .ok (.goto 30, 3) := dk_167 0 30 (dk_at dksX4_done_6 1 rfl rfl)
theorem dX4_done_191 : decode cX4_done 191 = .ok (.aload_n 2, 1) := dk_44 (dk_at dksX4_done_6 4 rfl rfl)
theorem dX4_done_192 : decode cX4_done 192 = .ok (.ldc 50, 2) := dk_18 50 (dk_at dksX4_done_6 5 rfl rfl)
theorem dX4_done_194 : decode cX4_done 194 = .ok (.invokevirtual 34, 3) := dk_182 0 34 (dk_at dksX4_done_6 7 rfl rfl)
theorem dX4_done_197 : decode cX4_done 197 = .ok (.ifCond .eq 21, 3) := dk_153 0 21 (dk_at dksX4_done_6 10 rfl rfl)
theorem dX4_done_200 : decode cX4_done 200 = .ok (.bipush 7, 2) := dk_16 7 (dk_at dksX4_done_6 13 rfl rfl)
theorem dX4_done_202 : decode cX4_done 202 = .ok (.istore_n 3, 1) := dk_62 (dk_at dksX4_done_6 15 rfl rfl)
theorem dX4_done_203 : decode cX4_done 203 = .ok (.goto 15, 3) := dk_167 0 15 (dk_at dksX4_done_6 16 rfl rfl)
theorem dX4_done_206 : decode cX4_done 206 = .ok (.aload_n 2, 1) := dk_44 (dk_at dksX4_done_6 19 rfl rfl)
theorem dX4_done_207 : decode cX4_done 207 = .ok (.ldc 52, 2) := dk_18 52 (dk_at dksX4_done_6 20 rfl rfl)
theorem dX4_done_209 : decode cX4_done 209 = .ok (.invokevirtual 34, 3) := dk_182 0 34 (dk_at dksX4_done_7 0 rfl rfl)
theorem dX4_done_212 : decode cX4_done 212 = .ok (.ifCond .eq 6, 3) := dk_153 0 6 (dk_at dksX4_done_7 3 rfl rfl)
theorem dX4_done_215 : decode cX4_done 215 = .ok (.bipush 8, 2) := dk_16 8 (dk_at dksX4_done_7 6 rfl rfl)
theorem dX4_done_217 : decode cX4_done 217 = .ok (.istore_n 3, 1) := dk_62 (dk_at dksX4_done_7 8 rfl rfl)
theorem dX4_done_218 : decode cX4_done 218 = .ok (.iload_n 3, 1) := dk_29 (dk_at dksX4_done_7 9 rfl rfl)
theorem dX4_done_219 : decode cX4_done 219 = .ok (.tableswitch 193 0 8 #[49, 73, 84, 103, 122, 141, 152, 167, 182], 49) := by decide +kernel
theorem dX4_done_268 : decode cX4_done 268 = .ok (.aload_n 1, 1) := dk_43 (dk_at dksX4_done_9 0 rfl rfl)
theorem dX4_done_269 : decode cX4_done 269 = .ok (.aload_n 0, 1) := dk_42 (dk_at dksX4_done_9 1 rfl rfl)
theorem dX4_done_270 : decode cX4_done 270 = .ok (.getfield 16, 3) := dk_180 0 16 (dk_at dksX4_done_9 2 rfl rfl)
theorem dX4_done_273 : decode cX4_done 273 = .ok (.aload_n 0, 1) := dk_42 (dk_at dksX4_done_9 5 rfl rfl)
theorem dX4_done_274 : decode cX4_done 274 = .ok (.getfield 20, 3) := dk_180 0 20 (dk_at dksX4_done_9 6 rfl rfl)
theorem dX4_done_277 : decode cX4_done 277 = .ok (.iconst 1, 1) := dk_4 (dk_at dksX4_done_9 9 rfl rfl)
theorem dX4_done_278 : decode cX4_done 278 = .ok (.if_icmp .ne 7, 3) := dk_160 0 7 (dk_at dksX4_done_9 10 rfl rfl)
theorem dX4_done_281 : decode cX4_done 281 = .ok (.iconst 1, 1) := dk_4 (dk_at dksX4_done_9 13 rfl rfl)
theorem dX4_done_282 : decode cX4_done 282 = .ok (.goto 4, 3) := dk_167 0 4 (dk_at dksX4_done_9 14 rfl rfl)
theorem dX4_done_285 : decode cX4_done 285 = .ok (.iconst 0, 1) := dk_3 (dk_at dksX4_done_9 17 rfl rfl)
theorem dX4_done_286 : decode cX4_done 286 = .ok (.invokevirtual 54, 3) := dk_182 0 54 (dk_at dksX4_done_9 18 rfl rfl)
theorem dX4_done_289 : decode cX4_done 289 = .ok (.goto 131, 3) := dk_167 0 131 (dk_at dksX4_done_9 21 rfl rfl)
theorem dX4_done_292 : decode cX4_done 292 = .ok (.aload_n 1, 1) := dk_43 (dk_at dksX4_done_10 0 rfl rfl)
theorem dX4_done_293 : decode cX4_done 293 = .ok (.aload_n 0, 1) := dk_42 (dk_at dksX4_done_10 1 rfl rfl)
theorem dX4_done_294 : decode cX4_done 294 = .ok (.getfield 16, 3) := dk_180 0 16 (dk_at dksX4_done_10 2 rfl rfl)
theorem dX4_done_297 : decode cX4_done 297 = .ok (.invokevirtual 60, 3) := dk_182 0 60 (dk_at dksX4_done_10 5 rfl rfl)
theorem dX4_done_300 : decode cX4_done 300 = .ok (.goto 120, 3) := dk_167 0 120 (dk_at dksX4_done_10 8 rfl rfl)
theorem dX4_done_303 : decode cX4_done 303 = .ok (.aload_n 1, 1) := dk_43 (dk_at dksX4_done_10 11 rfl rfl)
theorem dX4_done_304 : decode cX4_done 304 = .ok (.aload_n 0, 1) := dk_42 (dk_at dksX4_done_10 12 rfl rfl)
theorem dX4_done_305 : decode cX4_done 305 = .ok (.getfield 16, 3) := dk_180 0 16 (dk_at dksX4_done_10 13 rfl rfl)
theorem dX4_done_308 : decode cX4_done 308 = .ok (.aload_n 0, 1) := dk_42 (dk_at dksX4_done_10 16 rfl rfl)
theorem dX4_done_309 : decode cX4_done 309 = .ok (.getfield 20, 3) := dk_180 0 20 (dk_at dksX4_done_10 17 rfl rfl)
theorem dX4_done_312 : decode cX4_done 312 = .ok (.aload_n 0, 1) := dk_42 (dk_at dksX4_done_10 20 rfl rfl)
theorem dX4_done_313 : decode cX4_done 313 = .ok (.getfield 23, 3) := dk_180 0 23 (dk_at dksX4_done_10 21 rfl rfl)
theorem dX4_done_316 : decode cX4_done 316 = .ok (.invokevirtual 63, 3) := dk_182 0 63 (dk_at dksX4_done_11 0 rfl rfl)
theorem dX4_done_319 : decode cX4_done 319 = .ok (.goto 101, 3) := dk_167 0 101 (dk_at dksX4_done_11 3 rfl rfl)
theorem dX4_done_322 : decode cX4_done 322 = .ok (.aload_n 1, 1) := dk_43 (dk_at dksX4_done_11 6 rfl rfl)
theorem dX4_done_323 : decode cX4_done 323 = .ok (.aload_n 0, 1) := dk_42 (dk_at dksX4_done_11 7 rfl rfl)
theorem dX4_done_324 : decode cX4_done 324 = .ok (.getfield 16, 3) := dk_180 0 16 (dk_at dksX4_done_11 8 rfl rfl)
theorem dX4_done_327 : decode cX4_done 327 = .ok (.aload_n 0, 1) := dk_42 (dk_at dksX4_done_11 11 rfl rfl)
theorem dX4_done_328 : decode cX4_done 328 = .ok (.getfield 20, 3) := dk_180 0 20 (dk_at dksX4_done_11 12 rfl rfl)
theorem dX4_done_331 : decode cX4_done 331 = .ok (.aload_n 0, 1) := dk_42 (dk_at dksX4_done_11 15 rfl rfl)
theorem dX4_done_332 : decode cX4_done 332 = .ok (.getfield 23, 3) := dk_180 0 23 (dk_at dksX4_done_11 16 rfl rfl)
theorem dX4_done_335 : decode cX4_done 335 = .ok (.invokevirtual 67, 3) := dk_182 0 67 (dk_at dksX4_done_11 19 rfl rfl)
theorem dX4_done_338 : decode cX4_done 338 = .ok (.goto 82, 3) := dk_167 0 82 (dk_at dksX4_done_12 0 rfl rfl)
theorem dX4_done_341 : decode cX4_done 341 = .ok (.aload_n 1, 1) := dk_43 (dk_at dksX4_done_12 3 rfl rfl)
theorem dX4_done_342 : decode cX4_done 342 = .ok (.aload_n 0, 1) := dk_42 (dk_at dksX4_done_12 4 rfl rfl)
theorem dX4_done_343 : decode cX4_done 343 = .ok (.getfield 16, 3) := dk_180 0 16 (dk_at dksX4_done_12 5 rfl rfl)
theorem dX4_done_346 : decode cX4_done 346 = .ok (.aload_n 0, 1) := dk_42 (dk_at dksX4_done_12 8 rfl rfl)
theorem dX4_done_347 : decode cX4_done 347 = .ok (.getfield 20, 3) := dk_180 0 20 (dk_at dksX4_done_12 9 rfl rfl)
theorem dX4_done_350 : decode cX4_done 350 = .ok (.aload_n 0, 1) := dk_42 (dk_at dksX4_done_12 12 rfl rfl)
theorem dX4_done_351 : decode cX4_done 351 = .ok (.getfield 23, 3) := dk_180 0 23 (dk_at dksX4_done_12 13 rfl rfl)
theorem dX4_done_354 : decode cX4_done 354 = .ok (.invokevirtual 69, 3) := dk_182 0 69 (dk_at dksX4_done_12 16 rfl rfl)
theorem dX4_done_357 : decode cX4_done 357 = .ok (.goto 63, 3) := dk_167 0 63 (dk_at dksX4_done_12 19 rfl rfl)
theorem dX4_done_360 : decode cX4_done 360 = .ok (.aload_n 1, 1) := dk_43 (dk_at dksX4_done_12 22 rfl rfl)
theorem dX4_done_361 : decode cX4_done 361 = .ok (.aload_n 0, 1) := dk_42 (dk_at dksX4_done_12 23 rfl rfl)
theorem dX4_done_362 : decode cX4_done 362 = .ok (.getfield 16, 3) := dk_180 0 16 (dk_at dksX4_done_13 0 rfl rfl)
theorem dX4_done_365 : decode cX4_done 365 = .ok (.invokevirtual 71, 3) := dk_182 0 71 (dk_at dksX4_done_13 3 rfl rfl)
theorem dX4_done_368 : decode cX4_done 368 = .ok (.goto 52, 3) := dk_167 0 52 (dk_at dksX4_done_13 6 rfl rfl)
theorem dX4_done_371 : decode cX4_done 371 = .ok (.aload_n 1, 1) := dk_43 (dk_at dksX4_done_13 9 rfl rfl)
theorem dX4_done_372 : decode cX4_done 372 = .ok (.aload_n 0, 1) := dk_42 (dk_at dksX4_done_13 10 rfl rfl)
theorem dX4_done_373 : decode cX4_done 373 = .ok (.getfield 16, 3) := dk_180 0 16 (dk_at dksX4_done_13 11 rfl rfl)
theorem dX4_done_376 : decode cX4_done 376 = .ok (.aload_n 0, 1) := dk_42 (dk_at dksX4_done_13 14 rfl rfl)
theorem dX4_done_377 : decode cX4_done 377 = .ok (.getfield 20, 3) := dk_180 0 20 (dk_at dksX4_done_13 15 rfl rfl)
theorem dX4_done_380 : decode cX4_done 380 = .ok (.invokevirtual 74, 3) := dk_182 0 74 (dk_at dksX4_done_13 18 rfl rfl)
theorem dX4_done_383 : decode cX4_done 383 = .ok (.goto 37, 3) := dk_167 0 37 (dk_at dksX4_done_13 21 rfl rfl)
theorem dX4_done_386 : decode cX4_done 386 = .ok (.aload_n 1, 1) := dk_43 (dk_at dksX4_done_14 0 rfl rfl)
theorem dX4_done_387 : decode cX4_done 387 = .ok (.aload_n 0, 1) := dk_42 (dk_at dksX4_done_14 1 rfl rfl)
theorem dX4_done_388 : decode cX4_done 388 = .ok (.getfield 16, 3) := dk_180 0 16 (dk_at dksX4_done_14 2 rfl rfl)
theorem dX4_done_391 : decode cX4_done 391 = .ok (.aload_n 0, 1) := dk_42 (dk_at dksX4_done_14 5 rfl rfl)
theorem dX4_done_392 : decode cX4_done 392 = .ok (.getfield 20, 3) := dk_180 0 20 (dk_at dksX4_done_14 6 rfl rfl)
theorem dX4_done_395 : decode cX4_done 395 = .ok (.invokevirtual 78, 3) := dk_182 0 78 (dk_at dksX4_done_14 9 rfl rfl)
theorem dX4_done_398 : decode cX4_done 398 = .ok (.goto 22, 3) := dk_167 0 22 (dk_at dksX4_done_14 12 rfl rfl)
theorem dX4_done_401 : decode cX4_done 401 = .ok (.aload_n 1, 1) := dk_43 (dk_at dksX4_done_14 15 rfl rfl)
theorem dX4_done_402 : decode cX4_done 402 = .ok (.aload_n 0, 1) := dk_42 (dk_at dksX4_done_14 16 rfl rfl)
theorem dX4_done_403 : decode cX4_done 403 = .ok (.getfield 16, 3) := dk_180 0 16 (dk_at dksX4_done_14 17 rfl rfl)
theorem dX4_done_406 : decode cX4_done 406 = .ok (.invokevirtual 80, 3) := dk_182 0 80 (dk_at dksX4_done_14 20 rfl rfl)
theorem dX4_done_409 : decode cX4_done 409 = .ok (.goto 11, 3) := dk_167 0 11 (dk_at dksX4_done_15 0 rfl rfl)
theorem dX4_done_412 : decode cX4_done 412 = .ok (.aload_n 1, 1) := dk_43 (dk_at dksX4_done_15 3 rfl rfl)
theorem dX4_done_413 : decode cX4_done 413 = .ok (.aload_n 0, 1) := dk_42 (dk_at dksX4_done_15 4 rfl rfl)
theorem dX4_done_414 : decode cX4_done 414 = .ok (.getfield 16, 3) := dk_180 0 16 (dk_at dksX4_done_15 5 rfl rfl)
theorem dX4_done_417 : decode cX4_done 417 = .ok (.invokevirtual 82, 3) := dk_182 0 82 (dk_at dksX4_done_15 8 rfl rfl)
theorem dX4_done_420 : decode cX4_done 420 = .ok (.ireturn, 1) := dk_172 (dk_at dksX4_done_15 11 rfl rfl)
abbrev cX4_init_3 : ByteArray := prog_9_method_1_code
def yX4_init_3 : MethodName := ⟨RX4, "<init>", "(Ljava/lang/String;I)V"⟩
def dkwX4_init_3_0 : List UInt8 := [42, 43, 28, 3, 3, 183, 0, 1, 177]
abbrev dktX4_init_3_0 : List UInt8 := dkwX4_init_3_0 ++ []
theorem dksX4_init_3_0 : cX4_init_3.data.toList.drop 0 = dktX4_init_3_0 := by decide +kernel
theorem dX4_init_3_0 : decode cX4_init_3 0 = .ok (.aload_n 0, 1) := dk_42 (dk_at dksX4_init_3_0 0 rfl rfl)
theorem dX4_init_3_1 : decode cX4_init_3 1 = .ok (.aload_n 1, 1) := dk_43 (dk_at dksX4_init_3_0 1 rfl rfl)
theorem dX4_init_3_2 : decode cX4_init_3 2 = .ok (.iload_n 2, 1) := dk_28 (dk_at dksX4_init_3_0 2 rfl rfl)
theorem dX4_init_3_3 : decode cX4_init_3 3 = .ok (.iconst 0, 1) := dk_3 (dk_at dksX4_init_3_0 3 rfl rfl)
theorem dX4_init_3_4 : decode cX4_init_3 4 = .ok (.iconst 0, 1) := dk_3 (dk_at dksX4_init_3_0 4 rfl rfl)
theorem dX4_init_3_5 : decode cX4_init_3 5 = .ok (.invokespecial 1, 3) := dk_183 0 1 (dk_at dksX4_init_3_0 5 rfl rfl)
theorem dX4_init_3_8 : decode cX4_init_3 8 = .ok (.return_, 1) := dk_177 (dk_at dksX4_init_3_0 8 rfl rfl)
theorem q86 : (Jvm.Cond.initialized "BlockPapers$Named") ∈ lw_all := lw_g (lw_at lw_m1 12 rfl) rfl
theorem q828 : (Jvm.Cond.selects "BlockPapers$Named" ({ cls := "java/lang/Object", name := "getClass", desc := "()Ljava/lang/Class;" } : Jvm.MethodName) ({ cls := "java/lang/Object", name := "getClass", desc := "()Ljava/lang/Class;" } : Jvm.MethodName)) ∈ lw_all := lw_g (lw_at lw_m4 34 rfl) rfl
theorem q930 : (Jvm.Cond.instantiable "BlockPapers$Named" (4 : Nat)) ∈ lw_all := lw_g (lw_at lw_m4 136 rfl) rfl
theorem q933 : (Jvm.Cond.instanceMethod ({ cls := "BlockPapers$Named", name := "<init>", desc := "(Ljava/lang/String;II)V" } : Jvm.MethodName)) ∈ lw_all := lw_g (lw_at lw_m4 139 rfl) rfl
theorem q934 : (Jvm.Cond.code ({ cls := "BlockPapers$Named", name := "<init>", desc := "(Ljava/lang/String;II)V" } : Jvm.MethodName) prog_9_method_2_code (4 : Nat) (Option.none : Option Jvm.ClassFile.FieldType)) ∈ lw_all := lw_g (lw_at lw_m4 140 rfl) rfl
theorem q935 : (Jvm.Cond.methodLink "BlockPapers$Named" (1 : Nat) ({ cls := "BlockPapers$Named", name := "<init>", desc := "(Ljava/lang/String;III)V" } : Jvm.MethodName)) ∈ lw_all := lw_g (lw_at lw_m4 141 rfl) rfl
theorem q936 : (Jvm.Cond.instanceMethod ({ cls := "BlockPapers$Named", name := "<init>", desc := "(Ljava/lang/String;III)V" } : Jvm.MethodName)) ∈ lw_all := lw_g (lw_at lw_m4 142 rfl) rfl
theorem q937 : (Jvm.Cond.code ({ cls := "BlockPapers$Named", name := "<init>", desc := "(Ljava/lang/String;III)V" } : Jvm.MethodName) prog_9_method_3_code (5 : Nat) (Option.none : Option Jvm.ClassFile.FieldType)) ∈ lw_all := lw_g (lw_at lw_m4 143 rfl) rfl
theorem q938 : (Jvm.Cond.methodLink "BlockPapers$Named" (7 : Nat) ({ cls := "java/lang/Object", name := "<init>", desc := "()V" } : Jvm.MethodName)) ∈ lw_all := lw_g (lw_at lw_m4 144 rfl) rfl
theorem q939 : (Jvm.Cond.fieldLink "BlockPapers$Named" (12 : Nat) "BlockPapers$Named" "name" "Ljava/lang/String;") ∈ lw_all := lw_g (lw_at lw_m4 145 rfl) rfl
theorem q940 : (Jvm.Cond.fieldLink "BlockPapers$Named" (16 : Nat) "BlockPapers$Named" "one" "I") ∈ lw_all := lw_g (lw_at lw_m4 146 rfl) rfl
theorem q941 : (Jvm.Cond.fieldLink "BlockPapers$Named" (20 : Nat) "BlockPapers$Named" "other" "I") ∈ lw_all := lw_g (lw_at lw_m4 147 rfl) rfl
theorem q942 : (Jvm.Cond.fieldLink "BlockPapers$Named" (23 : Nat) "BlockPapers$Named" "third" "I") ∈ lw_all := lw_g (lw_at lw_m4 148 rfl) rfl
theorem q943 : (Jvm.Cond.laysFinal "BlockPapers$Named" "BlockPapers$Named" "name" "Ljava/lang/String;") ∈ lw_all := lw_g (lw_at lw_m4 149 rfl) rfl
theorem q944 : (Jvm.Cond.soleField "BlockPapers$Named" "name") ∈ lw_all := lw_g (lw_at lw_m4 150 rfl) rfl
theorem q945 : (Jvm.Cond.laysFinal "BlockPapers$Named" "BlockPapers$Named" "one" "I") ∈ lw_all := lw_g (lw_at lw_m4 151 rfl) rfl
theorem q946 : (Jvm.Cond.soleField "BlockPapers$Named" "one") ∈ lw_all := lw_g (lw_at lw_m4 152 rfl) rfl
theorem q947 : (Jvm.Cond.laysFinal "BlockPapers$Named" "BlockPapers$Named" "other" "I") ∈ lw_all := lw_g (lw_at lw_m4 153 rfl) rfl
theorem q948 : (Jvm.Cond.soleField "BlockPapers$Named" "other") ∈ lw_all := lw_g (lw_at lw_m4 154 rfl) rfl
theorem q949 : (Jvm.Cond.laysFinal "BlockPapers$Named" "BlockPapers$Named" "third" "I") ∈ lw_all := lw_g (lw_at lw_m4 155 rfl) rfl
theorem q950 : (Jvm.Cond.soleField "BlockPapers$Named" "third") ∈ lw_all := lw_g (lw_at lw_m4 156 rfl) rfl
theorem q951 : (Jvm.Cond.superclass "BlockPapers$Named" "java/lang/Object") ∈ lw_all := lw_g (lw_at lw_m4 157 rfl) rfl
theorem q1000 : (Jvm.Cond.castable "BlockPapers$Named" "BlockPapers$Deed") ∈ lw_tbl := lw_at lw_m4 206 rfl
theorem q1001 : (Jvm.Cond.selects "BlockPapers$Named" ({ cls := "BlockPapers$Deed", name := "done", desc := "(LBlockPapers$Workshop;)I" } : Jvm.MethodName) ({ cls := "BlockPapers$Named", name := "done", desc := "(LBlockPapers$Workshop;)I" } : Jvm.MethodName)) ∈ lw_all := lw_g (lw_at lw_m4 207 rfl) rfl
theorem q1002 : (Jvm.Cond.unhidden "BlockPapers$Named" "done" "(LBlockPapers$Workshop;)I") ∈ lw_tbl := lw_at lw_m4 208 rfl
theorem q1003 : (Jvm.Cond.instanceMethod ({ cls := "BlockPapers$Named", name := "done", desc := "(LBlockPapers$Workshop;)I" } : Jvm.MethodName)) ∈ lw_all := lw_g (lw_at lw_m4 209 rfl) rfl
theorem q1004 : (Jvm.Cond.publicMethod ({ cls := "BlockPapers$Named", name := "done", desc := "(LBlockPapers$Workshop;)I" } : Jvm.MethodName)) ∈ lw_tbl := lw_at lw_m4 210 rfl
theorem q1005 : (Jvm.Cond.code ({ cls := "BlockPapers$Named", name := "done", desc := "(LBlockPapers$Workshop;)I" } : Jvm.MethodName) prog_9_method_4_code (4 : Nat) (Option.some Jvm.ClassFile.FieldType.int)) ∈ lw_all := lw_g (lw_at lw_m4 211 rfl) rfl
theorem q1006 : (Jvm.Cond.methodLink "BlockPapers$Named" (26 : Nat) ({ cls := "java/lang/String", name := "hashCode", desc := "()I" } : Jvm.MethodName)) ∈ lw_all := lw_g (lw_at lw_m4 212 rfl) rfl
theorem q1067 : (Jvm.Cond.stringRef "BlockPapers$Named" (32 : Nat) "block") ∈ lw_tbl := lw_at lw_m5 33 rfl
theorem q1068 : (Jvm.Cond.methodLink "BlockPapers$Named" (34 : Nat) ({ cls := "java/lang/String", name := "equals", desc := "(Ljava/lang/Object;)Z" } : Jvm.MethodName)) ∈ lw_all := lw_g (lw_at lw_m5 34 rfl) rfl
theorem q1076 : (Jvm.Cond.stringRef "BlockPapers$Named" (38 : Nat) "carve") ∈ lw_tbl := lw_at lw_m5 42 rfl
theorem q1077 : (Jvm.Cond.stringRef "BlockPapers$Named" (40 : Nat) "ink") ∈ lw_tbl := lw_at lw_m5 43 rfl
theorem q1078 : (Jvm.Cond.stringRef "BlockPapers$Named" (42 : Nat) "mix") ∈ lw_tbl := lw_at lw_m5 44 rfl
theorem q1079 : (Jvm.Cond.stringRef "BlockPapers$Named" (44 : Nat) "print") ∈ lw_tbl := lw_at lw_m5 45 rfl
theorem q1080 : (Jvm.Cond.stringRef "BlockPapers$Named" (46 : Nat) "back") ∈ lw_tbl := lw_at lw_m5 46 rfl
theorem q1081 : (Jvm.Cond.stringRef "BlockPapers$Named" (48 : Nat) "room") ∈ lw_tbl := lw_at lw_m5 47 rfl
theorem q1082 : (Jvm.Cond.stringRef "BlockPapers$Named" (50 : Nat) "hang") ∈ lw_tbl := lw_at lw_m5 48 rfl
theorem q1083 : (Jvm.Cond.stringRef "BlockPapers$Named" (52 : Nat) "strip") ∈ lw_tbl := lw_at lw_m5 49 rfl
theorem q1084 : (Jvm.Cond.methodLink "BlockPapers$Named" (54 : Nat) ({ cls := "BlockPapers$Workshop", name := "addBlock", desc := "(IZ)I" } : Jvm.MethodName)) ∈ lw_all := lw_g (lw_at lw_m5 50 rfl) rfl
theorem q1143 : (Jvm.Cond.methodLink "BlockPapers$Named" (60 : Nat) ({ cls := "BlockPapers$Workshop", name := "carve", desc := "(I)I" } : Jvm.MethodName)) ∈ lw_all := lw_g (lw_at lw_m5 109 rfl) rfl
theorem q1183 : (Jvm.Cond.methodLink "BlockPapers$Named" (63 : Nat) ({ cls := "BlockPapers$Workshop", name := "addInk", desc := "(III)I" } : Jvm.MethodName)) ∈ lw_all := lw_g (lw_at lw_m5 149 rfl) rfl
theorem q1209 : (Jvm.Cond.methodLink "BlockPapers$Named" (67 : Nat) ({ cls := "BlockPapers$Workshop", name := "mix", desc := "(III)I" } : Jvm.MethodName)) ∈ lw_all := lw_g (lw_at lw_m5 175 rfl) rfl
theorem q1228 : (Jvm.Cond.methodLink "BlockPapers$Named" (69 : Nat) ({ cls := "BlockPapers$Workshop", name := "print", desc := "(III)I" } : Jvm.MethodName)) ∈ lw_all := lw_g (lw_at lw_m5 194 rfl) rfl
theorem q1281 : (Jvm.Cond.methodLink "BlockPapers$Named" (71 : Nat) ({ cls := "BlockPapers$Workshop", name := "giveBack", desc := "(I)I" } : Jvm.MethodName)) ∈ lw_all := lw_g (lw_at lw_m6 7 rfl) rfl
theorem q1301 : (Jvm.Cond.methodLink "BlockPapers$Named" (74 : Nat) ({ cls := "BlockPapers$Workshop", name := "addRoom", desc := "(II)I" } : Jvm.MethodName)) ∈ lw_all := lw_g (lw_at lw_m6 27 rfl) rfl
theorem q1306 : (Jvm.Cond.methodLink "BlockPapers$Named" (78 : Nat) ({ cls := "BlockPapers$Workshop", name := "hang", desc := "(II)I" } : Jvm.MethodName)) ∈ lw_all := lw_g (lw_at lw_m6 32 rfl) rfl
theorem q1421 : (Jvm.Cond.methodLink "BlockPapers$Named" (80 : Nat) ({ cls := "BlockPapers$Workshop", name := "strip", desc := "(I)I" } : Jvm.MethodName)) ∈ lw_all := lw_g (lw_at lw_m6 147 rfl) rfl
theorem q1438 : (Jvm.Cond.methodLink "BlockPapers$Named" (82 : Nat) ({ cls := "BlockPapers$Workshop", name := "finish", desc := "(I)I" } : Jvm.MethodName)) ∈ lw_all := lw_g (lw_at lw_m6 164 rfl) rfl
theorem q1578 : (Jvm.Cond.instanceMethod ({ cls := "BlockPapers$Named", name := "<init>", desc := "(Ljava/lang/String;I)V" } : Jvm.MethodName)) ∈ lw_all := lw_g (lw_at lw_m7 64 rfl) rfl
theorem q1579 : (Jvm.Cond.code ({ cls := "BlockPapers$Named", name := "<init>", desc := "(Ljava/lang/String;I)V" } : Jvm.MethodName) prog_9_method_1_code (3 : Nat) (Option.none : Option Jvm.ClassFile.FieldType)) ∈ lw_all := lw_g (lw_at lw_m7 65 rfl) rfl
theorem q2707 : (Jvm.Cond.castable "BlockPapers$Named" "java/lang/Object") ∈ lw_tbl := lw_at lw_m11 233 rfl
theorem in_X4 : ∀ w ∈ wsX40, w ∈ lw_all := lw_in wsX40 [943, 945, 947, 949] (by decide +kernel) (by decide +kernel)
/-! BlockPapers$Room -/
set_option maxRecDepth 100000
def RX5 : String := "BlockPapers$Room"
def TX5 : u_T := fun k => match k with
  | 0 => ("BlockPapers$Room", "height", "I", true)
  | 1 => ("BlockPapers$Room", "needed", "I", true)
  | 2 => ("BlockPapers$Room", "drops", "Ljava/util/List;", true)
  | 3 => ("BlockPapers$Room", "waste", "I", false)
  | _ => ("BlockPapers$Room", "stripped", "I", false)
def tyX5 : Nat → FieldType := fun k => match k with
  | 0 => .int
  | 1 => .int
  | 2 => .object "java/util/List"
  | 3 => .int
  | _ => .int
abbrev wsX50 : List Cond := u_ws RX5 TX5 5
theorem nmX5 : ∀ a, a < 5 → ∀ b, b < 5 → a ≠ b → (TX5 a).2.1 ≠ (TX5 b).2.1 := by decide +kernel
theorem tyX5_ok : ∀ k, k < 5 → parseFieldDescriptor (TX5 k).2.2.1 = some (tyX5 k) := by decide +kernel
abbrev cX5_isFull : ByteArray := prog_13_method_3_code
def yX5_isFull : MethodName := ⟨RX5, "isFull", "()Z"⟩
def dkwX5_isFull_0 : List UInt8 := [42, 180, 0, 10, 185, 0, 38, 1, 0, 42, 180, 0, 20, 160, 0, 7, 4, 167, 0, 4, 3, 172]
abbrev dktX5_isFull_0 : List UInt8 := dkwX5_isFull_0 ++ []
theorem dksX5_isFull_0 : cX5_isFull.data.toList.drop 0 = dktX5_isFull_0 := by decide +kernel
theorem dX5_isFull_0 : decode cX5_isFull 0 = .ok (.aload_n 0, 1) := dk_42 (dk_at dksX5_isFull_0 0 rfl rfl)
theorem dX5_isFull_1 : decode cX5_isFull 1 = .ok (.getfield 10, 3) := dk_180 0 10 (dk_at dksX5_isFull_0 1 rfl rfl)
theorem dX5_isFull_4 : decode cX5_isFull 4 = .ok (.invokeinterface 38 1, 5) := by decide +kernel
theorem dX5_isFull_9 : decode cX5_isFull 9 = .ok (.aload_n 0, 1) := dk_42 (dk_at dksX5_isFull_0 9 rfl rfl)
theorem dX5_isFull_10 : decode cX5_isFull 10 = .ok (.getfield 20, 3) := dk_180 0 20 (dk_at dksX5_isFull_0 10 rfl rfl)
theorem dX5_isFull_13 : decode cX5_isFull 13 = .ok (.if_icmp .ne 7, 3) := dk_160 0 7 (dk_at dksX5_isFull_0 13 rfl rfl)
theorem dX5_isFull_16 : decode cX5_isFull 16 = .ok (.iconst 1, 1) := dk_4 (dk_at dksX5_isFull_0 16 rfl rfl)
theorem dX5_isFull_17 : decode cX5_isFull 17 = .ok (.goto 4, 3) := dk_167 0 4 (dk_at dksX5_isFull_0 17 rfl rfl)
theorem dX5_isFull_20 : decode cX5_isFull 20 = .ok (.iconst 0, 1) := dk_3 (dk_at dksX5_isFull_0 20 rfl rfl)
theorem dX5_isFull_21 : decode cX5_isFull 21 = .ok (.ireturn, 1) := dk_172 (dk_at dksX5_isFull_0 21 rfl rfl)
abbrev cX5_init : ByteArray := prog_13_method_2_code
def yX5_init : MethodName := ⟨RX5, "<init>", "(LBlockPapers$Room;)V"⟩
def dkwX5_init_1 : List UInt8 := [185, 0, 26, 2, 0, 87, 42, 43, 180, 0, 32, 181, 0, 32, 42, 43, 180, 0, 35, 181, 0, 35, 177]
abbrev dktX5_init_1 : List UInt8 := dkwX5_init_1 ++ []
def dkwX5_init_0 : List UInt8 := [42, 43, 180, 0, 16, 43, 180, 0, 20, 183, 0, 23, 42, 180, 0, 10, 43, 180, 0, 10]
abbrev dktX5_init_0 : List UInt8 := dkwX5_init_0 ++ dktX5_init_1
theorem dksX5_init_0 : cX5_init.data.toList.drop 0 = dktX5_init_0 := by decide +kernel
theorem dksX5_init_1 : cX5_init.data.toList.drop 20 = dktX5_init_1 := dk_seg dksX5_init_0 20 rfl rfl
theorem dX5_init_0 : decode cX5_init 0 = .ok (.aload_n 0, 1) := dk_42 (dk_at dksX5_init_0 0 rfl rfl)
theorem dX5_init_1 : decode cX5_init 1 = .ok (.aload_n 1, 1) := dk_43 (dk_at dksX5_init_0 1 rfl rfl)
theorem dX5_init_2 : decode cX5_init 2 = .ok (.getfield 16, 3) := dk_180 0 16 (dk_at dksX5_init_0 2 rfl rfl)
theorem dX5_init_5 : decode cX5_init 5 = .ok (.aload_n 1, 1) := dk_43 (dk_at dksX5_init_0 5 rfl rfl)
theorem dX5_init_6 : decode cX5_init 6 = .ok (.getfield 20, 3) := dk_180 0 20 (dk_at dksX5_init_0 6 rfl rfl)
theorem dX5_init_9 : decode cX5_init 9 = .ok (.invokespecial 23, 3) := dk_183 0 23 (dk_at dksX5_init_0 9 rfl rfl)
theorem dX5_init_12 : decode cX5_init 12 = .ok (.aload_n 0, 1) := dk_42 (dk_at dksX5_init_0 12 rfl rfl)
theorem dX5_init_13 : decode cX5_init 13 = .ok (.getfield 10, 3) := dk_180 0 10 (dk_at dksX5_init_0 13 rfl rfl)
theorem dX5_init_16 : decode cX5_init 16 = .ok (.aload_n 1, 1) := dk_43 (dk_at dksX5_init_0 16 rfl rfl)
theorem dX5_init_17 : decode cX5_init 17 = .ok (.getfield 10, 3) := dk_180 0 10 (dk_at dksX5_init_0 17 rfl rfl)
theorem dX5_init_20 : decode cX5_init 20 = .ok (.invokeinterface 26 2, 5) := by decide +kernel
theorem dX5_init_25 : decode cX5_init 25 = .ok (.pop, 1) := dk_87 (dk_at dksX5_init_1 5 rfl rfl)
theorem dX5_init_26 : decode cX5_init 26 = .ok (.aload_n 0, 1) := dk_42 (dk_at dksX5_init_1 6 rfl rfl)
theorem dX5_init_27 : decode cX5_init 27 = .ok (.aload_n 1, 1) := dk_43 (dk_at dksX5_init_1 7 rfl rfl)
theorem dX5_init_28 : decode cX5_init 28 = .ok (.getfield 32, 3) := dk_180 0 32 (dk_at dksX5_init_1 8 rfl rfl)
theorem dX5_init_31 : decode cX5_init 31 = .ok (.putfield 32, 3) := dk_181 0 32 (dk_at dksX5_init_1 11 rfl rfl)
theorem dX5_init_34 : decode cX5_init 34 = .ok (.aload_n 0, 1) := dk_42 (dk_at dksX5_init_1 14 rfl rfl)
theorem dX5_init_35 : decode cX5_init 35 = .ok (.aload_n 1, 1) := dk_43 (dk_at dksX5_init_1 15 rfl rfl)
theorem dX5_init_36 : decode cX5_init 36 = .ok (.getfield 35, 3) := dk_180 0 35 (dk_at dksX5_init_1 16 rfl rfl)
theorem dX5_init_39 : decode cX5_init 39 = .ok (.putfield 35, 3) := dk_181 0 35 (dk_at dksX5_init_1 19 rfl rfl)
theorem dX5_init_42 : decode cX5_init 42 = .ok (.return_, 1) := dk_177 (dk_at dksX5_init_1 22 rfl rfl)
abbrev cX5_init_2 : ByteArray := prog_13_method_1_code
def yX5_init_2 : MethodName := ⟨RX5, "<init>", "(II)V"⟩
def dkwX5_init_2_1 : List UInt8 := [181, 0, 20, 177]
abbrev dktX5_init_2_1 : List UInt8 := dkwX5_init_2_1 ++ []
def dkwX5_init_2_0 : List UInt8 := [42, 183, 0, 1, 42, 187, 0, 7, 89, 183, 0, 9, 181, 0, 10, 42, 27, 181, 0, 16, 42, 28]
abbrev dktX5_init_2_0 : List UInt8 := dkwX5_init_2_0 ++ dktX5_init_2_1
theorem dksX5_init_2_0 : cX5_init_2.data.toList.drop 0 = dktX5_init_2_0 := by decide +kernel
theorem dksX5_init_2_1 : cX5_init_2.data.toList.drop 22 = dktX5_init_2_1 := dk_seg dksX5_init_2_0 22 rfl rfl
theorem dX5_init_2_0 : decode cX5_init_2 0 = .ok (.aload_n 0, 1) := dk_42 (dk_at dksX5_init_2_0 0 rfl rfl)
theorem dX5_init_2_1 : decode cX5_init_2 1 = .ok (.invokespecial 1, 3) := dk_183 0 1 (dk_at dksX5_init_2_0 1 rfl rfl)
theorem dX5_init_2_4 : decode cX5_init_2 4 = .ok (.aload_n 0, 1) := dk_42 (dk_at dksX5_init_2_0 4 rfl rfl)
theorem dX5_init_2_5 : decode cX5_init_2 5 = .ok (.new 7, 3) := dk_187 0 7 (dk_at dksX5_init_2_0 5 rfl rfl)
theorem dX5_init_2_8 : decode cX5_init_2 8 = .ok (.dup, 1) := dk_89 (dk_at dksX5_init_2_0 8 rfl rfl)
theorem dX5_init_2_9 : decode cX5_init_2 9 = .ok (.invokespecial 9, 3) := dk_183 0 9 (dk_at dksX5_init_2_0 9 rfl rfl)
theorem dX5_init_2_12 : decode cX5_init_2 12 = .ok (.putfield 10, 3) := dk_181 0 10 (dk_at dksX5_init_2_0 12 rfl rfl)
theorem dX5_init_2_15 : decode cX5_init_2 15 = .ok (.aload_n 0, 1) := dk_42 (dk_at dksX5_init_2_0 15 rfl rfl)
theorem dX5_init_2_16 : decode cX5_init_2 16 = .ok (.iload_n 1, 1) := dk_27 (dk_at dksX5_init_2_0 16 rfl rfl)
theorem dX5_init_2_17 : decode cX5_init_2 17 = .ok (.putfield 16, 3) := dk_181 0 16 (dk_at dksX5_init_2_0 17 rfl rfl)
theorem dX5_init_2_20 : decode cX5_init_2 20 = .ok (.aload_n 0, 1) := dk_42 (dk_at dksX5_init_2_0 20 rfl rfl)
theorem dX5_init_2_21 : decode cX5_init_2 21 = .ok (.iload_n 2, 1) := dk_28 (dk_at dksX5_init_2_0 21 rfl rfl)
theorem dX5_init_2_22 : decode cX5_init_2 22 = .ok (.putfield 20, 3) := dk_181 0 20 (dk_at dksX5_init_2_1 0 rfl rfl)
theorem dX5_init_2_25 : decode cX5_init_2 25 = .ok (.return_, 1) := dk_177 (dk_at dksX5_init_2_1 3 rfl rfl)
abbrev cX5_last : ByteArray := prog_13_method_4_code
def yX5_last : MethodName := ⟨RX5, "last", "()LBlockPapers$Drop;"⟩
def dkwX5_last_0 : List UInt8 := [42, 180, 0, 10, 42, 180, 0, 10, 185, 0, 38, 1, 0, 4, 100, 185, 0, 42, 2, 0, 192, 0, 46, 176]
abbrev dktX5_last_0 : List UInt8 := dkwX5_last_0 ++ []
theorem dksX5_last_0 : cX5_last.data.toList.drop 0 = dktX5_last_0 := by decide +kernel
theorem dX5_last_0 : decode cX5_last 0 = .ok (.aload_n 0, 1) := dk_42 (dk_at dksX5_last_0 0 rfl rfl)
theorem dX5_last_1 : decode cX5_last 1 = .ok (.getfield 10, 3) := dk_180 0 10 (dk_at dksX5_last_0 1 rfl rfl)
theorem dX5_last_4 : decode cX5_last 4 = .ok (.aload_n 0, 1) := dk_42 (dk_at dksX5_last_0 4 rfl rfl)
theorem dX5_last_5 : decode cX5_last 5 = .ok (.getfield 10, 3) := dk_180 0 10 (dk_at dksX5_last_0 5 rfl rfl)
theorem dX5_last_8 : decode cX5_last 8 = .ok (.invokeinterface 38 1, 5) := by decide +kernel
theorem dX5_last_13 : decode cX5_last 13 = .ok (.iconst 1, 1) := dk_4 (dk_at dksX5_last_0 13 rfl rfl)
theorem dX5_last_14 : decode cX5_last 14 = .ok (.isub, 1) := dk_100 (dk_at dksX5_last_0 14 rfl rfl)
theorem dX5_last_15 : decode cX5_last 15 = .ok (.invokeinterface 42 2, 5) := by decide +kernel
theorem dX5_last_20 : decode cX5_last 20 = .ok (.checkcast 46, 3) := dk_192 0 46 (dk_at dksX5_last_0 20 rfl rfl)
theorem dX5_last_23 : decode cX5_last 23 = .ok (.areturn, 1) := dk_176 (dk_at dksX5_last_0 23 rfl rfl)
theorem q99 : (Jvm.Cond.initialized "BlockPapers$Room") ∈ lw_all := lw_g (lw_at lw_m1 25 rfl) rfl
theorem q546 : (Jvm.Cond.instanceMethod ({ cls := "BlockPapers$Room", name := "isFull", desc := "()Z" } : Jvm.MethodName)) ∈ lw_all := lw_g (lw_at lw_m2 232 rfl) rfl
theorem q547 : (Jvm.Cond.selects "BlockPapers$Room" ({ cls := "BlockPapers$Room", name := "isFull", desc := "()Z" } : Jvm.MethodName) ({ cls := "BlockPapers$Room", name := "isFull", desc := "()Z" } : Jvm.MethodName)) ∈ lw_all := lw_g (lw_at lw_m2 233 rfl) rfl
theorem q548 : (Jvm.Cond.code ({ cls := "BlockPapers$Room", name := "isFull", desc := "()Z" } : Jvm.MethodName) prog_13_method_3_code (1 : Nat) (Option.some Jvm.ClassFile.FieldType.boolean)) ∈ lw_all := lw_g (lw_at lw_m2 234 rfl) rfl
theorem q549 : (Jvm.Cond.interfaceEntry "BlockPapers$Room" (38 : Nat)) ∈ lw_tbl := lw_at lw_m2 235 rfl
theorem q550 : (Jvm.Cond.methodLink "BlockPapers$Room" (38 : Nat) ({ cls := "java/util/List", name := "size", desc := "()I" } : Jvm.MethodName)) ∈ lw_all := lw_g (lw_at lw_m2 236 rfl) rfl
theorem q831 : (Jvm.Cond.selects "BlockPapers$Room" ({ cls := "java/lang/Object", name := "getClass", desc := "()Ljava/lang/Class;" } : Jvm.MethodName) ({ cls := "java/lang/Object", name := "getClass", desc := "()Ljava/lang/Class;" } : Jvm.MethodName)) ∈ lw_all := lw_g (lw_at lw_m4 37 rfl) rfl
theorem q863 : (Jvm.Cond.instantiable "BlockPapers$Room" (5 : Nat)) ∈ lw_all := lw_g (lw_at lw_m4 69 rfl) rfl
theorem q865 : (Jvm.Cond.instanceMethod ({ cls := "BlockPapers$Room", name := "<init>", desc := "(LBlockPapers$Room;)V" } : Jvm.MethodName)) ∈ lw_all := lw_g (lw_at lw_m4 71 rfl) rfl
theorem q866 : (Jvm.Cond.code ({ cls := "BlockPapers$Room", name := "<init>", desc := "(LBlockPapers$Room;)V" } : Jvm.MethodName) prog_13_method_2_code (2 : Nat) (Option.none : Option Jvm.ClassFile.FieldType)) ∈ lw_all := lw_g (lw_at lw_m4 72 rfl) rfl
theorem q867 : (Jvm.Cond.methodLink "BlockPapers$Room" (23 : Nat) ({ cls := "BlockPapers$Room", name := "<init>", desc := "(II)V" } : Jvm.MethodName)) ∈ lw_all := lw_g (lw_at lw_m4 73 rfl) rfl
theorem q868 : (Jvm.Cond.instanceMethod ({ cls := "BlockPapers$Room", name := "<init>", desc := "(II)V" } : Jvm.MethodName)) ∈ lw_all := lw_g (lw_at lw_m4 74 rfl) rfl
theorem q869 : (Jvm.Cond.code ({ cls := "BlockPapers$Room", name := "<init>", desc := "(II)V" } : Jvm.MethodName) prog_13_method_1_code (3 : Nat) (Option.none : Option Jvm.ClassFile.FieldType)) ∈ lw_all := lw_g (lw_at lw_m4 75 rfl) rfl
theorem q870 : (Jvm.Cond.methodLink "BlockPapers$Room" (1 : Nat) ({ cls := "java/lang/Object", name := "<init>", desc := "()V" } : Jvm.MethodName)) ∈ lw_all := lw_g (lw_at lw_m4 76 rfl) rfl
theorem q871 : (Jvm.Cond.classLink "BlockPapers$Room" (7 : Nat) "java/util/ArrayList") ∈ lw_all := lw_g (lw_at lw_m4 77 rfl) rfl
theorem q872 : (Jvm.Cond.methodLink "BlockPapers$Room" (9 : Nat) ({ cls := "java/util/ArrayList", name := "<init>", desc := "()V" } : Jvm.MethodName)) ∈ lw_all := lw_g (lw_at lw_m4 78 rfl) rfl
theorem q873 : (Jvm.Cond.fieldLink "BlockPapers$Room" (16 : Nat) "BlockPapers$Room" "height" "I") ∈ lw_all := lw_g (lw_at lw_m4 79 rfl) rfl
theorem q876 : (Jvm.Cond.fieldLink "BlockPapers$Room" (20 : Nat) "BlockPapers$Room" "needed" "I") ∈ lw_all := lw_g (lw_at lw_m4 82 rfl) rfl
theorem q879 : (Jvm.Cond.fieldLink "BlockPapers$Room" (10 : Nat) "BlockPapers$Room" "drops" "Ljava/util/List;") ∈ lw_all := lw_g (lw_at lw_m4 85 rfl) rfl
theorem q884 : (Jvm.Cond.fieldLink "BlockPapers$Room" (32 : Nat) "BlockPapers$Room" "waste" "I") ∈ lw_all := lw_g (lw_at lw_m4 90 rfl) rfl
theorem q887 : (Jvm.Cond.fieldLink "BlockPapers$Room" (35 : Nat) "BlockPapers$Room" "stripped" "I") ∈ lw_all := lw_g (lw_at lw_m4 93 rfl) rfl
theorem q890 : (Jvm.Cond.laysFinal "BlockPapers$Room" "BlockPapers$Room" "height" "I") ∈ lw_all := lw_g (lw_at lw_m4 96 rfl) rfl
theorem q891 : (Jvm.Cond.soleField "BlockPapers$Room" "height") ∈ lw_all := lw_g (lw_at lw_m4 97 rfl) rfl
theorem q892 : (Jvm.Cond.laysFinal "BlockPapers$Room" "BlockPapers$Room" "needed" "I") ∈ lw_all := lw_g (lw_at lw_m4 98 rfl) rfl
theorem q893 : (Jvm.Cond.soleField "BlockPapers$Room" "needed") ∈ lw_all := lw_g (lw_at lw_m4 99 rfl) rfl
theorem q894 : (Jvm.Cond.laysFinal "BlockPapers$Room" "BlockPapers$Room" "drops" "Ljava/util/List;") ∈ lw_all := lw_g (lw_at lw_m4 100 rfl) rfl
theorem q895 : (Jvm.Cond.soleField "BlockPapers$Room" "drops") ∈ lw_all := lw_g (lw_at lw_m4 101 rfl) rfl
theorem q896 : (Jvm.Cond.lays "BlockPapers$Room" "BlockPapers$Room" "waste" "I") ∈ lw_all := lw_g (lw_at lw_m4 102 rfl) rfl
theorem q897 : (Jvm.Cond.soleField "BlockPapers$Room" "waste") ∈ lw_all := lw_g (lw_at lw_m4 103 rfl) rfl
theorem q898 : (Jvm.Cond.lays "BlockPapers$Room" "BlockPapers$Room" "stripped" "I") ∈ lw_all := lw_g (lw_at lw_m4 104 rfl) rfl
theorem q899 : (Jvm.Cond.soleField "BlockPapers$Room" "stripped") ∈ lw_all := lw_g (lw_at lw_m4 105 rfl) rfl
theorem q900 : (Jvm.Cond.superclass "BlockPapers$Room" "java/lang/Object") ∈ lw_all := lw_g (lw_at lw_m4 106 rfl) rfl
theorem q901 : (Jvm.Cond.interfaceEntry "BlockPapers$Room" (26 : Nat)) ∈ lw_tbl := lw_at lw_m4 107 rfl
theorem q902 : (Jvm.Cond.methodLink "BlockPapers$Room" (26 : Nat) ({ cls := "java/util/List", name := "addAll", desc := "(Ljava/util/Collection;)Z" } : Jvm.MethodName)) ∈ lw_all := lw_g (lw_at lw_m4 108 rfl) rfl
theorem q1336 : (Jvm.Cond.instanceMethod ({ cls := "BlockPapers$Room", name := "last", desc := "()LBlockPapers$Drop;" } : Jvm.MethodName)) ∈ lw_all := lw_g (lw_at lw_m6 62 rfl) rfl
theorem q1337 : (Jvm.Cond.selects "BlockPapers$Room" ({ cls := "BlockPapers$Room", name := "last", desc := "()LBlockPapers$Drop;" } : Jvm.MethodName) ({ cls := "BlockPapers$Room", name := "last", desc := "()LBlockPapers$Drop;" } : Jvm.MethodName)) ∈ lw_all := lw_g (lw_at lw_m6 63 rfl) rfl
theorem q1338 : (Jvm.Cond.code ({ cls := "BlockPapers$Room", name := "last", desc := "()LBlockPapers$Drop;" } : Jvm.MethodName) prog_13_method_4_code (1 : Nat) (Option.some (Jvm.ClassFile.FieldType.object "BlockPapers$Drop"))) ∈ lw_all := lw_g (lw_at lw_m6 64 rfl) rfl
theorem q1339 : (Jvm.Cond.interfaceEntry "BlockPapers$Room" (42 : Nat)) ∈ lw_tbl := lw_at lw_m6 65 rfl
theorem q1340 : (Jvm.Cond.methodLink "BlockPapers$Room" (42 : Nat) ({ cls := "java/util/List", name := "get", desc := "(I)Ljava/lang/Object;" } : Jvm.MethodName)) ∈ lw_all := lw_g (lw_at lw_m6 66 rfl) rfl
theorem q1341 : (Jvm.Cond.classLink "BlockPapers$Room" (46 : Nat) "BlockPapers$Drop") ∈ lw_all := lw_g (lw_at lw_m6 67 rfl) rfl
theorem q2710 : (Jvm.Cond.castable "BlockPapers$Room" "java/lang/Object") ∈ lw_tbl := lw_at lw_m11 236 rfl
theorem in_X5 : ∀ w ∈ wsX50, w ∈ lw_all := lw_in wsX50 [890, 892, 894, 896, 898] (by decide +kernel) (by decide +kernel)
/-! BlockPapers$All -/
set_option maxRecDepth 100000
def RX6 : String := "BlockPapers$All"
def TX6 : u_T := fun k => match k with
  | _ => ("BlockPapers$All", "commands", "Ljava/util/List;", true)
def tyX6 : Nat → FieldType := fun k => match k with
  | _ => .object "java/util/List"
abbrev wsX60 : List Cond := u_ws RX6 TX6 1
theorem nmX6 : ∀ a, a < 1 → ∀ b, b < 1 → a ≠ b → (TX6 a).2.1 ≠ (TX6 b).2.1 := by decide +kernel
theorem tyX6_ok : ∀ k, k < 1 → parseFieldDescriptor (TX6 k).2.2.1 = some (tyX6 k) := by decide +kernel
abbrev cX6_done : ByteArray := prog_2_method_3_code
def yX6_done : MethodName := ⟨RX6, "done", "(LBlockPapers$Workshop;)I"⟩
def dkwX6_done_2 : List UInt8 := [172]
abbrev dktX6_done_2 : List UInt8 := dkwX6_done_2 ++ []
def dkwX6_done_1 : List UInt8 := [185, 0, 42, 1, 0, 192, 0, 16, 58, 4, 25, 4, 43, 28, 184, 0, 46, 132, 2, 1, 167, 255, 226, 28]
abbrev dktX6_done_1 : List UInt8 := dkwX6_done_1 ++ dktX6_done_2
def dkwX6_done_0 : List UInt8 := [3, 61, 42, 180, 0, 9, 185, 0, 30, 1, 0, 78, 45, 185, 0, 36, 1, 0, 153, 0, 27, 45]
abbrev dktX6_done_0 : List UInt8 := dkwX6_done_0 ++ dktX6_done_1
theorem dksX6_done_0 : cX6_done.data.toList.drop 0 = dktX6_done_0 := by decide +kernel
theorem dksX6_done_1 : cX6_done.data.toList.drop 22 = dktX6_done_1 := dk_seg dksX6_done_0 22 rfl rfl
theorem dksX6_done_2 : cX6_done.data.toList.drop 46 = dktX6_done_2 := dk_seg dksX6_done_1 24 rfl rfl
theorem dX6_done_0 : decode cX6_done 0 = .ok (.iconst 0, 1) := dk_3 (dk_at dksX6_done_0 0 rfl rfl)
theorem dX6_done_1 : decode cX6_done 1 = .ok (.istore_n 2, 1) := dk_61 (dk_at dksX6_done_0 1 rfl rfl)
theorem dX6_done_2 : decode cX6_done 2 = .ok (.aload_n 0, 1) := dk_42 (dk_at dksX6_done_0 2 rfl rfl)
theorem dX6_done_3 : decode cX6_done 3 = .ok (.getfield 9, 3) := dk_180 0 9 (dk_at dksX6_done_0 3 rfl rfl)
theorem dX6_done_6 : decode cX6_done 6 = .ok (.invokeinterface 30 1, 5) := by decide +kernel
theorem dX6_done_11 : decode cX6_done 11 = .ok (.astore_n 3, 1) := dk_78 (dk_at dksX6_done_0 11 rfl rfl)
theorem dX6_done_12 : decode cX6_done 12 = .ok (.aload_n 3, 1) := dk_45 (dk_at dksX6_done_0 12 rfl rfl)
theorem dX6_done_13 : decode cX6_done 13 = .ok (.invokeinterface 36 1, 5) := by decide +kernel
theorem dX6_done_18 : decode cX6_done 18 = .ok (.ifCond .eq 27, 3) := dk_153 0 27 (dk_at dksX6_done_0 18 rfl rfl)
theorem dX6_done_21 : decode cX6_done 21 = .ok (.aload_n 3, 1) := dk_45 (dk_at dksX6_done_0 21 rfl rfl)
theorem dX6_done_22 : decode cX6_done 22 = .ok (.invokeinterface 42 1, 5) := by decide +kernel
theorem dX6_done_27 : decode cX6_done 27 = .ok (.checkcast 16, 3) := dk_192 0 16 (dk_at dksX6_done_1 5 rfl rfl)
theorem dX6_done_30 : decode cX6_done 30 = .ok (.astore 4, 2) := dk_58 4 (dk_at dksX6_done_1 8 rfl rfl)
theorem dX6_done_32 : decode cX6_done 32 = .ok (.aload 4, 2) := dk_25 4 (dk_at dksX6_done_1 10 rfl rfl)
theorem dX6_done_34 : decode cX6_done 34 = .ok (.aload_n 1, 1) := dk_43 (dk_at dksX6_done_1 12 rfl rfl)
theorem dX6_done_35 : decode cX6_done 35 = .ok (.iload_n 2, 1) := dk_28 (dk_at dksX6_done_1 13 rfl rfl)
theorem dX6_done_36 : decode cX6_done 36 = .ok (.invokestatic 46, 3) := dk_184 0 46 (dk_at dksX6_done_1 14 rfl rfl)
theorem dX6_done_39 : decode cX6_done 39 = .ok (.iinc 2 1, 3) := dk_132 2 1 (dk_at dksX6_done_1 17 rfl rfl)
theorem dX6_done_42 : decode cX6_done 42 = .ok (.goto (-30), 3) := dk_167 255 226 (dk_at dksX6_done_1 20 rfl rfl)
theorem dX6_done_45 : decode cX6_done 45 = .ok (.iload_n 2, 1) := dk_28 (dk_at dksX6_done_1 23 rfl rfl)
theorem dX6_done_46 : decode cX6_done 46 = .ok (.ireturn, 1) := dk_172 (dk_at dksX6_done_2 0 rfl rfl)
abbrev cX6_does : ByteArray := prog_2_method_2_code
def yX6_does : MethodName := ⟨RX6, "does", "(LBlockPapers$Deed;LBlockPapers$Workshop;I)V"⟩
def dkwX6_does_1 : List UInt8 := [78, 187, 0, 21, 89, 16, 20, 28, 45, 183, 0, 23, 191, 177]
abbrev dktX6_does_1 : List UInt8 := dkwX6_does_1 ++ []
def dkwX6_does_0 : List UInt8 := [42, 43, 185, 0, 15, 2, 0, 62, 167, 0, 29, 78, 187, 0, 21, 89, 16, 20, 28, 45, 183, 0, 23, 191]
abbrev dktX6_does_0 : List UInt8 := dkwX6_does_0 ++ dktX6_does_1
theorem dksX6_does_0 : cX6_does.data.toList.drop 0 = dktX6_does_0 := by decide +kernel
theorem dksX6_does_1 : cX6_does.data.toList.drop 24 = dktX6_does_1 := dk_seg dksX6_does_0 24 rfl rfl
theorem dX6_does_0 : decode cX6_does 0 = .ok (.aload_n 0, 1) := dk_42 (dk_at dksX6_does_0 0 rfl rfl)
theorem dX6_does_1 : decode cX6_does 1 = .ok (.aload_n 1, 1) := dk_43 (dk_at dksX6_does_0 1 rfl rfl)
theorem dX6_does_2 : decode cX6_does 2 = .ok (.invokeinterface 15 2, 5) := by decide +kernel
theorem dX6_does_7 : decode cX6_does 7 = .ok (.istore_n 3, 1) := dk_62 (dk_at dksX6_does_0 7 rfl rfl)
theorem dX6_does_8 : decode cX6_does 8 = .ok (.goto 29, 3) := dk_167 0 29 (dk_at dksX6_does_0 8 rfl rfl)
theorem dX6_does_11 : decode cX6_does 11 = .ok (.astore_n 3, 1) := dk_78 (dk_at dksX6_does_0 11 rfl rfl)
theorem dX6_does_12 : decode cX6_does 12 = .ok (.new 21, 3) := dk_187 0 21 (dk_at dksX6_does_0 12 rfl rfl)
theorem dX6_does_15 : decode cX6_does 15 = .ok (.dup, 1) := dk_89 (dk_at dksX6_does_0 15 rfl rfl)
theorem dX6_does_16 : decode cX6_does 16 = .ok (.bipush 20, 2) := dk_16 20 (dk_at dksX6_does_0 16 rfl rfl)
theorem dX6_does_18 : decode cX6_does 18 = .ok (.iload_n 2, 1) := dk_28 (dk_at dksX6_does_0 18 rfl rfl)
theorem dX6_does_19 : decode cX6_does 19 = .ok (.aload_n 3, 1) := dk_45 (dk_at dksX6_does_0 19 rfl rfl)
theorem dX6_does_20 : decode cX6_does 20 = .ok (.invokespecial 23, 3) := dk_183 0 23 (dk_at dksX6_does_0 20 rfl rfl)
theorem dX6_does_23 : decode cX6_does 23 = .ok (.athrow, 1) := dk_191 (dk_at dksX6_does_0 23 rfl rfl)
theorem dX6_does_24 : decode cX6_does 24 = .ok (.astore_n 3, 1) := dk_78 (dk_at dksX6_does_1 0 rfl rfl)
theorem dX6_does_25 : decode cX6_does 25 = .ok (.new 21, 3) := dk_187 0 21 (dk_at dksX6_does_1 1 rfl rfl)
theorem dX6_does_28 : decode cX6_does 28 = .ok (.dup, 1) := dk_89 (dk_at dksX6_does_1 4 rfl rfl)
theorem dX6_does_29 : decode cX6_does 29 = .ok (.bipush 20, 2) := dk_16 20 (dk_at dksX6_does_1 5 rfl rfl)
theorem dX6_does_31 : decode cX6_does 31 = .ok (.iload_n 2, 1) := dk_28 (dk_at dksX6_does_1 7 rfl rfl)
theorem dX6_does_32 : decode cX6_does 32 = .ok (.aload_n 3, 1) := dk_45 (dk_at dksX6_does_1 8 rfl rfl)
theorem dX6_does_33 : decode cX6_does 33 = .ok (.invokespecial 23, 3) := dk_183 0 23 (dk_at dksX6_does_1 9 rfl rfl)
theorem dX6_does_36 : decode cX6_does 36 = .ok (.athrow, 1) := dk_191 (dk_at dksX6_does_1 12 rfl rfl)
theorem dX6_does_37 : decode cX6_does 37 = .ok (.return_, 1) := dk_177 (dk_at dksX6_does_1 13 rfl rfl)
abbrev cX6_init : ByteArray := prog_2_method_1_code
def yX6_init : MethodName := ⟨RX6, "<init>", "(Ljava/util/List;)V"⟩
def dkwX6_init_0 : List UInt8 := [42, 183, 0, 3, 42, 43, 181, 0, 9, 177]
abbrev dktX6_init_0 : List UInt8 := dkwX6_init_0 ++ []
theorem dksX6_init_0 : cX6_init.data.toList.drop 0 = dktX6_init_0 := by decide +kernel
theorem dX6_init_0 : decode cX6_init 0 = .ok (.aload_n 0, 1) := dk_42 (dk_at dksX6_init_0 0 rfl rfl)
theorem dX6_init_1 : decode cX6_init 1 = .ok (.invokespecial 3, 3) := dk_183 0 3 (dk_at dksX6_init_0 1 rfl rfl)
theorem dX6_init_4 : decode cX6_init 4 = .ok (.aload_n 0, 1) := dk_42 (dk_at dksX6_init_0 4 rfl rfl)
theorem dX6_init_5 : decode cX6_init 5 = .ok (.aload_n 1, 1) := dk_43 (dk_at dksX6_init_0 5 rfl rfl)
theorem dX6_init_6 : decode cX6_init 6 = .ok (.putfield 9, 3) := dk_181 0 9 (dk_at dksX6_init_0 6 rfl rfl)
theorem dX6_init_9 : decode cX6_init 9 = .ok (.return_, 1) := dk_177 (dk_at dksX6_init_0 9 rfl rfl)
theorem q103 : (Jvm.Cond.initialized "BlockPapers$All") ∈ lw_all := lw_g (lw_at lw_m1 29 rfl) rfl
theorem q822 : (Jvm.Cond.selects "BlockPapers$All" ({ cls := "java/lang/Object", name := "getClass", desc := "()Ljava/lang/Class;" } : Jvm.MethodName) ({ cls := "java/lang/Object", name := "getClass", desc := "()Ljava/lang/Class;" } : Jvm.MethodName)) ∈ lw_all := lw_g (lw_at lw_m4 28 rfl) rfl
theorem q961 : (Jvm.Cond.castable "BlockPapers$All" "BlockPapers$Deed") ∈ lw_tbl := lw_at lw_m4 167 rfl
theorem q962 : (Jvm.Cond.selects "BlockPapers$All" ({ cls := "BlockPapers$Deed", name := "done", desc := "(LBlockPapers$Workshop;)I" } : Jvm.MethodName) ({ cls := "BlockPapers$All", name := "done", desc := "(LBlockPapers$Workshop;)I" } : Jvm.MethodName)) ∈ lw_all := lw_g (lw_at lw_m4 168 rfl) rfl
theorem q963 : (Jvm.Cond.unhidden "BlockPapers$All" "done" "(LBlockPapers$Workshop;)I") ∈ lw_tbl := lw_at lw_m4 169 rfl
theorem q964 : (Jvm.Cond.instanceMethod ({ cls := "BlockPapers$All", name := "done", desc := "(LBlockPapers$Workshop;)I" } : Jvm.MethodName)) ∈ lw_all := lw_g (lw_at lw_m4 170 rfl) rfl
theorem q965 : (Jvm.Cond.publicMethod ({ cls := "BlockPapers$All", name := "done", desc := "(LBlockPapers$Workshop;)I" } : Jvm.MethodName)) ∈ lw_tbl := lw_at lw_m4 171 rfl
theorem q966 : (Jvm.Cond.code ({ cls := "BlockPapers$All", name := "done", desc := "(LBlockPapers$Workshop;)I" } : Jvm.MethodName) prog_2_method_3_code (5 : Nat) (Option.some Jvm.ClassFile.FieldType.int)) ∈ lw_all := lw_g (lw_at lw_m4 172 rfl) rfl
theorem q967 : (Jvm.Cond.interfaceEntry "BlockPapers$All" (30 : Nat)) ∈ lw_tbl := lw_at lw_m4 173 rfl
theorem q968 : (Jvm.Cond.methodLink "BlockPapers$All" (30 : Nat) ({ cls := "java/util/List", name := "iterator", desc := "()Ljava/util/Iterator;" } : Jvm.MethodName)) ∈ lw_all := lw_g (lw_at lw_m4 174 rfl) rfl
theorem q969 : (Jvm.Cond.interfaceEntry "BlockPapers$All" (36 : Nat)) ∈ lw_tbl := lw_at lw_m4 175 rfl
theorem q970 : (Jvm.Cond.methodLink "BlockPapers$All" (36 : Nat) ({ cls := "java/util/Iterator", name := "hasNext", desc := "()Z" } : Jvm.MethodName)) ∈ lw_all := lw_g (lw_at lw_m4 176 rfl) rfl
theorem q971 : (Jvm.Cond.interfaceEntry "BlockPapers$All" (42 : Nat)) ∈ lw_tbl := lw_at lw_m4 177 rfl
theorem q972 : (Jvm.Cond.methodLink "BlockPapers$All" (42 : Nat) ({ cls := "java/util/Iterator", name := "next", desc := "()Ljava/lang/Object;" } : Jvm.MethodName)) ∈ lw_all := lw_g (lw_at lw_m4 178 rfl) rfl
theorem q973 : (Jvm.Cond.classLink "BlockPapers$All" (16 : Nat) "BlockPapers$Deed") ∈ lw_all := lw_g (lw_at lw_m4 179 rfl) rfl
theorem q974 : (Jvm.Cond.methodLink "BlockPapers$All" (46 : Nat) ({ cls := "BlockPapers$All", name := "does", desc := "(LBlockPapers$Deed;LBlockPapers$Workshop;I)V" } : Jvm.MethodName)) ∈ lw_all := lw_g (lw_at lw_m4 180 rfl) rfl
theorem q975 : (Jvm.Cond.static ({ cls := "BlockPapers$All", name := "does", desc := "(LBlockPapers$Deed;LBlockPapers$Workshop;I)V" } : Jvm.MethodName)) ∈ lw_all := lw_g (lw_at lw_m4 181 rfl) rfl
theorem q976 : (Jvm.Cond.codeWith ({ cls := "BlockPapers$All", name := "does", desc := "(LBlockPapers$Deed;LBlockPapers$Workshop;I)V" } : Jvm.MethodName) prog_2_method_2_code (4 : Nat) (Option.none : Option Jvm.ClassFile.FieldType) [((0 : Nat), (8 : Nat), (11 : Nat), (21 : Nat)), ((0 : Nat), (8 : Nat), (24 : Nat), (26 : Nat)), ((0 : Nat), (8 : Nat), (24 : Nat), (28 : Nat))]) ∈ lw_all := lw_g (lw_at lw_m4 182 rfl) rfl
theorem q977 : (Jvm.Cond.classLink "BlockPapers$All" (21 : Nat) "BlockPapers$Failure") ∈ lw_all := lw_g (lw_at lw_m4 183 rfl) rfl
theorem q978 : (Jvm.Cond.classLink "BlockPapers$All" (26 : Nat) "java/lang/IndexOutOfBoundsException") ∈ lw_all := lw_g (lw_at lw_m4 184 rfl) rfl
theorem q997 : (Jvm.Cond.classLink "BlockPapers$All" (28 : Nat) "java/lang/IllegalArgumentException") ∈ lw_all := lw_g (lw_at lw_m4 203 rfl) rfl
theorem q998 : (Jvm.Cond.interfaceEntry "BlockPapers$All" (15 : Nat)) ∈ lw_tbl := lw_at lw_m4 204 rfl
theorem q999 : (Jvm.Cond.methodLink "BlockPapers$All" (15 : Nat) ({ cls := "BlockPapers$Deed", name := "done", desc := "(LBlockPapers$Workshop;)I" } : Jvm.MethodName)) ∈ lw_all := lw_g (lw_at lw_m4 205 rfl) rfl
theorem q1481 : (Jvm.Cond.methodLink "BlockPapers$All" (23 : Nat) ({ cls := "BlockPapers$Failure", name := "<init>", desc := "(IILjava/lang/Throwable;)V" } : Jvm.MethodName)) ∈ lw_all := lw_g (lw_at lw_m6 207 rfl) rfl
theorem q2161 : (Jvm.Cond.instantiable "BlockPapers$All" (1 : Nat)) ∈ lw_all := lw_g (lw_at lw_m9 167 rfl) rfl
theorem q2163 : (Jvm.Cond.instanceMethod ({ cls := "BlockPapers$All", name := "<init>", desc := "(Ljava/util/List;)V" } : Jvm.MethodName)) ∈ lw_all := lw_g (lw_at lw_m9 169 rfl) rfl
theorem q2164 : (Jvm.Cond.code ({ cls := "BlockPapers$All", name := "<init>", desc := "(Ljava/util/List;)V" } : Jvm.MethodName) prog_2_method_1_code (2 : Nat) (Option.none : Option Jvm.ClassFile.FieldType)) ∈ lw_all := lw_g (lw_at lw_m9 170 rfl) rfl
theorem q2165 : (Jvm.Cond.methodLink "BlockPapers$All" (3 : Nat) ({ cls := "java/lang/Object", name := "<init>", desc := "()V" } : Jvm.MethodName)) ∈ lw_all := lw_g (lw_at lw_m9 171 rfl) rfl
theorem q2166 : (Jvm.Cond.fieldLink "BlockPapers$All" (9 : Nat) "BlockPapers$All" "commands" "Ljava/util/List;") ∈ lw_all := lw_g (lw_at lw_m9 172 rfl) rfl
theorem q2167 : (Jvm.Cond.laysFinal "BlockPapers$All" "BlockPapers$All" "commands" "Ljava/util/List;") ∈ lw_all := lw_g (lw_at lw_m9 173 rfl) rfl
theorem q2168 : (Jvm.Cond.soleField "BlockPapers$All" "commands") ∈ lw_all := lw_g (lw_at lw_m9 174 rfl) rfl
theorem q2169 : (Jvm.Cond.superclass "BlockPapers$All" "java/lang/Object") ∈ lw_all := lw_g (lw_at lw_m9 175 rfl) rfl
theorem q2730 : (Jvm.Cond.castable "BlockPapers$All" "java/lang/Object") ∈ lw_tbl := lw_at lw_m12 16 rfl
theorem in_X6 : ∀ w ∈ wsX60, w ∈ lw_all := lw_in wsX60 [2167] (by decide +kernel) (by decide +kernel)
/-! BlockPapers$Failure -/
set_option maxRecDepth 100000
def RX7 : String := "BlockPapers$Failure"
def TX7 : u_T := fun k => match k with
  | 0 => ("java/lang/Throwable", "cause", "Ljava/lang/Throwable;", false)
  | 1 => ("java/lang/Throwable", "stackTrace", "[Ljava/lang/StackTraceElement;", false)
  | 2 => ("java/lang/Throwable", "suppressedExceptions", "Ljava/util/List;", false)
  | 3 => ("java/lang/Throwable", "detailMessage", "Ljava/lang/String;", false)
  | 4 => ("java/lang/Throwable", "backtrace", "Ljava/lang/Object;", false)
  | 5 => ("java/lang/Throwable", "depth", "I", false)
  | 6 => ("BlockPapers$Failure", "reason", "I", true)
  | _ => ("BlockPapers$Failure", "detail", "I", true)
def tyX7 : Nat → FieldType := fun k => match k with
  | 0 => .object "java/lang/Throwable"
  | 1 => .array (.object "java/lang/StackTraceElement")
  | 2 => .object "java/util/List"
  | 3 => .object "java/lang/String"
  | 4 => .object "java/lang/Object"
  | 5 => .int
  | 6 => .int
  | _ => .int
abbrev wsX70 : List Cond := u_ws RX7 TX7 8
theorem nmX7 : ∀ a, a < 8 → ∀ b, b < 8 → a ≠ b → (TX7 a).2.1 ≠ (TX7 b).2.1 := by decide +kernel
theorem tyX7_ok : ∀ k, k < 8 → parseFieldDescriptor (TX7 k).2.2.1 = some (tyX7 k) := by decide +kernel
abbrev cX7_init : ByteArray := prog_6_method_1_code
def yX7_init : MethodName := ⟨RX7, "<init>", "(II)V"⟩
def dkwX7_init_0 : List UInt8 := [42, 1, 1, 3, 3, 183, 0, 1, 42, 27, 181, 0, 7, 42, 28, 181, 0, 13, 177]
abbrev dktX7_init_0 : List UInt8 := dkwX7_init_0 ++ []
theorem dksX7_init_0 : cX7_init.data.toList.drop 0 = dktX7_init_0 := by decide +kernel
theorem dX7_init_0 : decode cX7_init 0 = .ok (.aload_n 0, 1) := dk_42 (dk_at dksX7_init_0 0 rfl rfl)
theorem dX7_init_1 : decode cX7_init 1 = .ok (.aconst_null, 1) := dk_1 (dk_at dksX7_init_0 1 rfl rfl)
theorem dX7_init_2 : decode cX7_init 2 = .ok (.aconst_null, 1) := dk_1 (dk_at dksX7_init_0 2 rfl rfl)
theorem dX7_init_3 : decode cX7_init 3 = .ok (.iconst 0, 1) := dk_3 (dk_at dksX7_init_0 3 rfl rfl)
theorem dX7_init_4 : decode cX7_init 4 = .ok (.iconst 0, 1) := dk_3 (dk_at dksX7_init_0 4 rfl rfl)
theorem dX7_init_5 : decode cX7_init 5 = .ok (.invokespecial 1, 3) := dk_183 0 1 (dk_at dksX7_init_0 5 rfl rfl)
theorem dX7_init_8 : decode cX7_init 8 = .ok (.aload_n 0, 1) := dk_42 (dk_at dksX7_init_0 8 rfl rfl)
theorem dX7_init_9 : decode cX7_init 9 = .ok (.iload_n 1, 1) := dk_27 (dk_at dksX7_init_0 9 rfl rfl)
theorem dX7_init_10 : decode cX7_init 10 = .ok (.putfield 7, 3) := dk_181 0 7 (dk_at dksX7_init_0 10 rfl rfl)
theorem dX7_init_13 : decode cX7_init 13 = .ok (.aload_n 0, 1) := dk_42 (dk_at dksX7_init_0 13 rfl rfl)
theorem dX7_init_14 : decode cX7_init 14 = .ok (.iload_n 2, 1) := dk_28 (dk_at dksX7_init_0 14 rfl rfl)
theorem dX7_init_15 : decode cX7_init 15 = .ok (.putfield 13, 3) := dk_181 0 13 (dk_at dksX7_init_0 15 rfl rfl)
theorem dX7_init_18 : decode cX7_init 18 = .ok (.return_, 1) := dk_177 (dk_at dksX7_init_0 18 rfl rfl)
abbrev cX7_init_2 : ByteArray := prog_6_method_2_code
def yX7_init_2 : MethodName := ⟨RX7, "<init>", "(IILjava/lang/Throwable;)V"⟩
def dkwX7_init_2_0 : List UInt8 := [42, 1, 45, 3, 3, 183, 0, 1, 42, 27, 181, 0, 7, 42, 28, 181, 0, 13, 177]
abbrev dktX7_init_2_0 : List UInt8 := dkwX7_init_2_0 ++ []
theorem dksX7_init_2_0 : cX7_init_2.data.toList.drop 0 = dktX7_init_2_0 := by decide +kernel
theorem dX7_init_2_0 : decode cX7_init_2 0 = .ok (.aload_n 0, 1) := dk_42 (dk_at dksX7_init_2_0 0 rfl rfl)
theorem dX7_init_2_1 : decode cX7_init_2 1 = .ok (.aconst_null, 1) := dk_1 (dk_at dksX7_init_2_0 1 rfl rfl)
theorem dX7_init_2_2 : decode cX7_init_2 2 = .ok (.aload_n 3, 1) := dk_45 (dk_at dksX7_init_2_0 2 rfl rfl)
theorem dX7_init_2_3 : decode cX7_init_2 3 = .ok (.iconst 0, 1) := dk_3 (dk_at dksX7_init_2_0 3 rfl rfl)
theorem dX7_init_2_4 : decode cX7_init_2 4 = .ok (.iconst 0, 1) := dk_3 (dk_at dksX7_init_2_0 4 rfl rfl)
theorem dX7_init_2_5 : decode cX7_init_2 5 = .ok (.invokespecial 1, 3) := dk_183 0 1 (dk_at dksX7_init_2_0 5 rfl rfl)
theorem dX7_init_2_8 : decode cX7_init_2 8 = .ok (.aload_n 0, 1) := dk_42 (dk_at dksX7_init_2_0 8 rfl rfl)
theorem dX7_init_2_9 : decode cX7_init_2 9 = .ok (.iload_n 1, 1) := dk_27 (dk_at dksX7_init_2_0 9 rfl rfl)
theorem dX7_init_2_10 : decode cX7_init_2 10 = .ok (.putfield 7, 3) := dk_181 0 7 (dk_at dksX7_init_2_0 10 rfl rfl)
theorem dX7_init_2_13 : decode cX7_init_2 13 = .ok (.aload_n 0, 1) := dk_42 (dk_at dksX7_init_2_0 13 rfl rfl)
theorem dX7_init_2_14 : decode cX7_init_2 14 = .ok (.iload_n 2, 1) := dk_28 (dk_at dksX7_init_2_0 14 rfl rfl)
theorem dX7_init_2_15 : decode cX7_init_2 15 = .ok (.putfield 13, 3) := dk_181 0 13 (dk_at dksX7_init_2_0 15 rfl rfl)
theorem dX7_init_2_18 : decode cX7_init_2 18 = .ok (.return_, 1) := dk_177 (dk_at dksX7_init_2_0 18 rfl rfl)
abbrev cX7_behind : ByteArray := prog_6_method_3_code
def yX7_behind : MethodName := ⟨RX7, "behind", "(I)LBlockPapers$Failure;"⟩
def dkwX7_behind_1 : List UInt8 := [27, 4, 100, 182, 0, 20, 167, 0, 4, 1, 176]
abbrev dktX7_behind_1 : List UInt8 := dkwX7_behind_1 ++ []
def dkwX7_behind_0 : List UInt8 := [27, 154, 0, 5, 42, 176, 42, 182, 0, 16, 78, 45, 193, 0, 8, 153, 0, 18, 45, 192, 0, 8, 77, 44]
abbrev dktX7_behind_0 : List UInt8 := dkwX7_behind_0 ++ dktX7_behind_1
theorem dksX7_behind_0 : cX7_behind.data.toList.drop 0 = dktX7_behind_0 := by decide +kernel
theorem dksX7_behind_1 : cX7_behind.data.toList.drop 24 = dktX7_behind_1 := dk_seg dksX7_behind_0 24 rfl rfl
theorem dX7_behind_0 : decode cX7_behind 0 = .ok (.iload_n 1, 1) := dk_27 (dk_at dksX7_behind_0 0 rfl rfl)
theorem dX7_behind_1 : decode cX7_behind 1 = .ok (.ifCond .ne 5, 3) := dk_154 0 5 (dk_at dksX7_behind_0 1 rfl rfl)
theorem dX7_behind_4 : decode cX7_behind 4 = .ok (.aload_n 0, 1) := dk_42 (dk_at dksX7_behind_0 4 rfl rfl)
theorem dX7_behind_5 : decode cX7_behind 5 = .ok (.areturn, 1) := dk_176 (dk_at dksX7_behind_0 5 rfl rfl)
theorem dX7_behind_6 : decode cX7_behind 6 = .ok (.aload_n 0, 1) := dk_42 (dk_at dksX7_behind_0 6 rfl rfl)
theorem dX7_behind_7 : decode cX7_behind 7 = .ok (.invokevirtual 16, 3) := dk_182 0 16 (dk_at dksX7_behind_0 7 rfl rfl)
theorem dX7_behind_10 : decode cX7_behind 10 = .ok (.astore_n 3, 1) := dk_78 (dk_at dksX7_behind_0 10 rfl rfl)
theorem dX7_behind_11 : decode cX7_behind 11 = .ok (.aload_n 3, 1) := dk_45 (dk_at dksX7_behind_0 11 rfl rfl)
theorem dX7_behind_12 : decode cX7_behind 12 = .ok (.instanceof 8, 3) := dk_193 0 8 (dk_at dksX7_behind_0 12 rfl rfl)
theorem dX7_behind_15 : decode cX7_behind 15 = .ok (.ifCond .eq 18, 3) := dk_153 0 18 (dk_at dksX7_behind_0 15 rfl rfl)
theorem dX7_behind_18 : decode cX7_behind 18 = .ok (.aload_n 3, 1) := dk_45 (dk_at dksX7_behind_0 18 rfl rfl)
theorem dX7_behind_19 : decode cX7_behind 19 = .ok (.checkcast 8, 3) := dk_192 0 8 (dk_at dksX7_behind_0 19 rfl rfl)
theorem dX7_behind_22 : decode cX7_behind 22 = .ok (.astore_n 2, 1) := dk_77 (dk_at dksX7_behind_0 22 rfl rfl)
theorem dX7_behind_23 : decode cX7_behind 23 = .ok (.aload_n 2, 1) := dk_44 (dk_at dksX7_behind_0 23 rfl rfl)
theorem dX7_behind_24 : decode cX7_behind 24 = .ok (.iload_n 1, 1) := dk_27 (dk_at dksX7_behind_1 0 rfl rfl)
theorem dX7_behind_25 : decode cX7_behind 25 = .ok (.iconst 1, 1) := dk_4 (dk_at dksX7_behind_1 1 rfl rfl)
theorem dX7_behind_26 : decode cX7_behind 26 = .ok (.isub, 1) := dk_100 (dk_at dksX7_behind_1 2 rfl rfl)
theorem dX7_behind_27 : decode cX7_behind 27 = .ok (.invokevirtual 20, 3) := dk_182 0 20 (dk_at dksX7_behind_1 3 rfl rfl)
theorem dX7_behind_30 : decode cX7_behind 30 = .ok (.goto 4, 3) := dk_167 0 4 (dk_at dksX7_behind_1 6 rfl rfl)
theorem dX7_behind_33 : decode cX7_behind 33 = .ok (.aconst_null, 1) := dk_1 (dk_at dksX7_behind_1 9 rfl rfl)
theorem dX7_behind_34 : decode cX7_behind 34 = .ok (.areturn, 1) := dk_176 (dk_at dksX7_behind_1 10 rfl rfl)
theorem q106 : (Jvm.Cond.initialized "BlockPapers$Failure") ∈ lw_all := lw_g (lw_at lw_m1 32 rfl) rfl
theorem q305 : (Jvm.Cond.selects "BlockPapers$Failure" ({ cls := "java/lang/Throwable", name := "fillInStackTrace", desc := "()Ljava/lang/Throwable;" } : Jvm.MethodName) ({ cls := "java/lang/Throwable", name := "fillInStackTrace", desc := "()Ljava/lang/Throwable;" } : Jvm.MethodName)) ∈ lw_all := lw_g (lw_at lw_m1 231 rfl) rfl
theorem q825 : (Jvm.Cond.selects "BlockPapers$Failure" ({ cls := "java/lang/Object", name := "getClass", desc := "()Ljava/lang/Class;" } : Jvm.MethodName) ({ cls := "java/lang/Object", name := "getClass", desc := "()Ljava/lang/Class;" } : Jvm.MethodName)) ∈ lw_all := lw_g (lw_at lw_m4 31 rfl) rfl
theorem q1093 : (Jvm.Cond.instantiable "BlockPapers$Failure" (8 : Nat)) ∈ lw_all := lw_g (lw_at lw_m5 59 rfl) rfl
theorem q1094 : (Jvm.Cond.castable "BlockPapers$Failure" "BlockPapers$Failure") ∈ lw_tbl := lw_at lw_m5 60 rfl
theorem q1095 : (Jvm.Cond.selects "BlockPapers$Failure" ({ cls := "java/lang/Throwable", name := "fillInStackTrace", desc := "(I)Ljava/lang/Throwable;" } : Jvm.MethodName) ({ cls := "java/lang/Throwable", name := "fillInStackTrace", desc := "(I)Ljava/lang/Throwable;" } : Jvm.MethodName)) ∈ lw_all := lw_g (lw_at lw_m5 61 rfl) rfl
theorem q1096 : (Jvm.Cond.lays "BlockPapers$Failure" "java/lang/Throwable" "cause" "Ljava/lang/Throwable;") ∈ lw_all := lw_g (lw_at lw_m5 62 rfl) rfl
theorem q1097 : (Jvm.Cond.lays "BlockPapers$Failure" "java/lang/Throwable" "stackTrace" "[Ljava/lang/StackTraceElement;") ∈ lw_all := lw_g (lw_at lw_m5 63 rfl) rfl
theorem q1098 : (Jvm.Cond.lays "BlockPapers$Failure" "java/lang/Throwable" "suppressedExceptions" "Ljava/util/List;") ∈ lw_all := lw_g (lw_at lw_m5 64 rfl) rfl
theorem q1099 : (Jvm.Cond.lays "BlockPapers$Failure" "java/lang/Throwable" "detailMessage" "Ljava/lang/String;") ∈ lw_all := lw_g (lw_at lw_m5 65 rfl) rfl
theorem q1100 : (Jvm.Cond.lays "BlockPapers$Failure" "java/lang/Throwable" "backtrace" "Ljava/lang/Object;") ∈ lw_all := lw_g (lw_at lw_m5 66 rfl) rfl
theorem q1102 : (Jvm.Cond.instanceMethod ({ cls := "BlockPapers$Failure", name := "<init>", desc := "(II)V" } : Jvm.MethodName)) ∈ lw_all := lw_g (lw_at lw_m5 68 rfl) rfl
theorem q1103 : (Jvm.Cond.code ({ cls := "BlockPapers$Failure", name := "<init>", desc := "(II)V" } : Jvm.MethodName) prog_6_method_1_code (3 : Nat) (Option.none : Option Jvm.ClassFile.FieldType)) ∈ lw_all := lw_g (lw_at lw_m5 69 rfl) rfl
theorem q1104 : (Jvm.Cond.methodLink "BlockPapers$Failure" (1 : Nat) ({ cls := "java/lang/Exception", name := "<init>", desc := "(Ljava/lang/String;Ljava/lang/Throwable;ZZ)V" } : Jvm.MethodName)) ∈ lw_all := lw_g (lw_at lw_m5 70 rfl) rfl
theorem q1110 : (Jvm.Cond.fieldLink "BlockPapers$Failure" (7 : Nat) "BlockPapers$Failure" "reason" "I") ∈ lw_all := lw_g (lw_at lw_m5 76 rfl) rfl
theorem q1112 : (Jvm.Cond.fieldLink "BlockPapers$Failure" (13 : Nat) "BlockPapers$Failure" "detail" "I") ∈ lw_all := lw_g (lw_at lw_m5 78 rfl) rfl
theorem q1114 : (Jvm.Cond.laysFinal "BlockPapers$Failure" "BlockPapers$Failure" "reason" "I") ∈ lw_all := lw_g (lw_at lw_m5 80 rfl) rfl
theorem q1115 : (Jvm.Cond.soleField "BlockPapers$Failure" "reason") ∈ lw_all := lw_g (lw_at lw_m5 81 rfl) rfl
theorem q1116 : (Jvm.Cond.laysFinal "BlockPapers$Failure" "BlockPapers$Failure" "detail" "I") ∈ lw_all := lw_g (lw_at lw_m5 82 rfl) rfl
theorem q1117 : (Jvm.Cond.soleField "BlockPapers$Failure" "detail") ∈ lw_all := lw_g (lw_at lw_m5 83 rfl) rfl
theorem q1118 : (Jvm.Cond.lays "BlockPapers$Failure" "java/lang/Throwable" "depth" "I") ∈ lw_all := lw_g (lw_at lw_m5 84 rfl) rfl
theorem q1119 : (Jvm.Cond.superclass "BlockPapers$Failure" "java/lang/Exception") ∈ lw_all := lw_g (lw_at lw_m5 85 rfl) rfl
theorem q1482 : (Jvm.Cond.instanceMethod ({ cls := "BlockPapers$Failure", name := "<init>", desc := "(IILjava/lang/Throwable;)V" } : Jvm.MethodName)) ∈ lw_all := lw_g (lw_at lw_m6 208 rfl) rfl
theorem q1483 : (Jvm.Cond.code ({ cls := "BlockPapers$Failure", name := "<init>", desc := "(IILjava/lang/Throwable;)V" } : Jvm.MethodName) prog_6_method_2_code (4 : Nat) (Option.none : Option Jvm.ClassFile.FieldType)) ∈ lw_all := lw_g (lw_at lw_m6 209 rfl) rfl
theorem q2185 : (Jvm.Cond.instanceMethod ({ cls := "BlockPapers$Failure", name := "behind", desc := "(I)LBlockPapers$Failure;" } : Jvm.MethodName)) ∈ lw_all := lw_g (lw_at lw_m9 191 rfl) rfl
theorem q2186 : (Jvm.Cond.selects "BlockPapers$Failure" ({ cls := "BlockPapers$Failure", name := "behind", desc := "(I)LBlockPapers$Failure;" } : Jvm.MethodName) ({ cls := "BlockPapers$Failure", name := "behind", desc := "(I)LBlockPapers$Failure;" } : Jvm.MethodName)) ∈ lw_all := lw_g (lw_at lw_m9 192 rfl) rfl
theorem q2187 : (Jvm.Cond.code ({ cls := "BlockPapers$Failure", name := "behind", desc := "(I)LBlockPapers$Failure;" } : Jvm.MethodName) prog_6_method_3_code (4 : Nat) (Option.some (Jvm.ClassFile.FieldType.object "BlockPapers$Failure"))) ∈ lw_all := lw_g (lw_at lw_m9 193 rfl) rfl
theorem q2188 : (Jvm.Cond.methodLink "BlockPapers$Failure" (16 : Nat) ({ cls := "BlockPapers$Failure", name := "getCause", desc := "()Ljava/lang/Throwable;" } : Jvm.MethodName)) ∈ lw_all := lw_g (lw_at lw_m9 194 rfl) rfl
theorem q2189 : (Jvm.Cond.sameMethod "BlockPapers$Failure" "java/lang/Throwable" "getCause" "()Ljava/lang/Throwable;") ∈ lw_all := lw_g (lw_at lw_m9 195 rfl) rfl
theorem q2191 : (Jvm.Cond.selects "BlockPapers$Failure" ({ cls := "BlockPapers$Failure", name := "getCause", desc := "()Ljava/lang/Throwable;" } : Jvm.MethodName) ({ cls := "java/lang/Throwable", name := "getCause", desc := "()Ljava/lang/Throwable;" } : Jvm.MethodName)) ∈ lw_all := lw_g (lw_at lw_m9 197 rfl) rfl
theorem q2194 : (Jvm.Cond.classLink "BlockPapers$Failure" (8 : Nat) "BlockPapers$Failure") ∈ lw_all := lw_g (lw_at lw_m9 200 rfl) rfl
theorem q2195 : (Jvm.Cond.methodLink "BlockPapers$Failure" (20 : Nat) ({ cls := "BlockPapers$Failure", name := "behind", desc := "(I)LBlockPapers$Failure;" } : Jvm.MethodName)) ∈ lw_all := lw_g (lw_at lw_m9 201 rfl) rfl
theorem q2712 : (Jvm.Cond.castable "BlockPapers$Failure" "java/lang/Object") ∈ lw_tbl := lw_at lw_m11 238 rfl
theorem in_X7 : ∀ w ∈ wsX70, w ∈ lw_all := lw_in wsX70 [1096, 1097, 1098, 1099, 1100, 1118, 1114, 1116] (by decide +kernel) (by decide +kernel)
/-! BlockPapers$Block -/
set_option maxRecDepth 100000
def RX8 : String := "BlockPapers$Block"
def TX8 : u_T := fun k => match k with
  | 0 => ("BlockPapers$Block", "repeat", "I", true)
  | 1 => ("BlockPapers$Block", "isHalfDrop", "Z", true)
  | _ => ("BlockPapers$Block", "wear", "I", true)
def tyX8 : Nat → FieldType := fun k => match k with
  | 0 => .int
  | 1 => .boolean
  | _ => .int
abbrev wsX80 : List Cond := u_ws RX8 TX8 3
theorem nmX8 : ∀ a, a < 3 → ∀ b, b < 3 → a ≠ b → (TX8 a).2.1 ≠ (TX8 b).2.1 := by decide +kernel
theorem tyX8_ok : ∀ k, k < 3 → parseFieldDescriptor (TX8 k).2.2.1 = some (tyX8 k) := by decide +kernel
abbrev cX8_init : ByteArray := prog_3_method_1_code
def yX8_init : MethodName := ⟨RX8, "<init>", "(IZ)V"⟩
def dkwX8_init_0 : List UInt8 := [42, 27, 28, 3, 183, 0, 3, 177]
abbrev dktX8_init_0 : List UInt8 := dkwX8_init_0 ++ []
theorem dksX8_init_0 : cX8_init.data.toList.drop 0 = dktX8_init_0 := by decide +kernel
theorem dX8_init_0 : decode cX8_init 0 = .ok (.aload_n 0, 1) := dk_42 (dk_at dksX8_init_0 0 rfl rfl)
theorem dX8_init_1 : decode cX8_init 1 = .ok (.iload_n 1, 1) := dk_27 (dk_at dksX8_init_0 1 rfl rfl)
theorem dX8_init_2 : decode cX8_init 2 = .ok (.iload_n 2, 1) := dk_28 (dk_at dksX8_init_0 2 rfl rfl)
theorem dX8_init_3 : decode cX8_init 3 = .ok (.iconst 0, 1) := dk_3 (dk_at dksX8_init_0 3 rfl rfl)
theorem dX8_init_4 : decode cX8_init 4 = .ok (.invokespecial 3, 3) := dk_183 0 3 (dk_at dksX8_init_0 4 rfl rfl)
theorem dX8_init_7 : decode cX8_init 7 = .ok (.return_, 1) := dk_177 (dk_at dksX8_init_0 7 rfl rfl)
abbrev cX8_init_2 : ByteArray := prog_3_method_2_code
def yX8_init_2 : MethodName := ⟨RX8, "<init>", "(IZI)V"⟩
def dkwX8_init_2_0 : List UInt8 := [42, 183, 0, 9, 42, 27, 181, 0, 14, 42, 28, 181, 0, 18, 42, 29, 181, 0, 22, 177]
abbrev dktX8_init_2_0 : List UInt8 := dkwX8_init_2_0 ++ []
theorem dksX8_init_2_0 : cX8_init_2.data.toList.drop 0 = dktX8_init_2_0 := by decide +kernel
theorem dX8_init_2_0 : decode cX8_init_2 0 = .ok (.aload_n 0, 1) := dk_42 (dk_at dksX8_init_2_0 0 rfl rfl)
theorem dX8_init_2_1 : decode cX8_init_2 1 = .ok (.invokespecial 9, 3) := dk_183 0 9 (dk_at dksX8_init_2_0 1 rfl rfl)
theorem dX8_init_2_4 : decode cX8_init_2 4 = .ok (.aload_n 0, 1) := dk_42 (dk_at dksX8_init_2_0 4 rfl rfl)
theorem dX8_init_2_5 : decode cX8_init_2 5 = .ok (.iload_n 1, 1) := dk_27 (dk_at dksX8_init_2_0 5 rfl rfl)
theorem dX8_init_2_6 : decode cX8_init_2 6 = .ok (.putfield 14, 3) := dk_181 0 14 (dk_at dksX8_init_2_0 6 rfl rfl)
theorem dX8_init_2_9 : decode cX8_init_2 9 = .ok (.aload_n 0, 1) := dk_42 (dk_at dksX8_init_2_0 9 rfl rfl)
theorem dX8_init_2_10 : decode cX8_init_2 10 = .ok (.iload_n 2, 1) := dk_28 (dk_at dksX8_init_2_0 10 rfl rfl)
theorem dX8_init_2_11 : decode cX8_init_2 11 = .ok (.putfield 18, 3) := dk_181 0 18 (dk_at dksX8_init_2_0 11 rfl rfl)
theorem dX8_init_2_14 : decode cX8_init_2 14 = .ok (.aload_n 0, 1) := dk_42 (dk_at dksX8_init_2_0 14 rfl rfl)
theorem dX8_init_2_15 : decode cX8_init_2 15 = .ok (.iload_n 3, 1) := dk_29 (dk_at dksX8_init_2_0 15 rfl rfl)
theorem dX8_init_2_16 : decode cX8_init_2 16 = .ok (.putfield 22, 3) := dk_181 0 22 (dk_at dksX8_init_2_0 16 rfl rfl)
theorem dX8_init_2_19 : decode cX8_init_2 19 = .ok (.return_, 1) := dk_177 (dk_at dksX8_init_2_0 19 rfl rfl)
abbrev cX8_carved : ByteArray := prog_3_method_5_code
def yX8_carved : MethodName := ⟨RX8, "carved", "()LBlockPapers$Block;"⟩
def dkwX8_carved_0 : List UInt8 := [187, 0, 4, 89, 42, 180, 0, 14, 42, 180, 0, 18, 3, 183, 0, 3, 176]
abbrev dktX8_carved_0 : List UInt8 := dkwX8_carved_0 ++ []
theorem dksX8_carved_0 : cX8_carved.data.toList.drop 0 = dktX8_carved_0 := by decide +kernel
theorem dX8_carved_0 : decode cX8_carved 0 = .ok (.new 4, 3) := dk_187 0 4 (dk_at dksX8_carved_0 0 rfl rfl)
theorem dX8_carved_3 : decode cX8_carved 3 = .ok (.dup, 1) := dk_89 (dk_at dksX8_carved_0 3 rfl rfl)
theorem dX8_carved_4 : decode cX8_carved 4 = .ok (.aload_n 0, 1) := dk_42 (dk_at dksX8_carved_0 4 rfl rfl)
theorem dX8_carved_5 : decode cX8_carved 5 = .ok (.getfield 14, 3) := dk_180 0 14 (dk_at dksX8_carved_0 5 rfl rfl)
theorem dX8_carved_8 : decode cX8_carved 8 = .ok (.aload_n 0, 1) := dk_42 (dk_at dksX8_carved_0 8 rfl rfl)
theorem dX8_carved_9 : decode cX8_carved 9 = .ok (.getfield 18, 3) := dk_180 0 18 (dk_at dksX8_carved_0 9 rfl rfl)
theorem dX8_carved_12 : decode cX8_carved 12 = .ok (.iconst 0, 1) := dk_3 (dk_at dksX8_carved_0 12 rfl rfl)
theorem dX8_carved_13 : decode cX8_carved 13 = .ok (.invokespecial 3, 3) := dk_183 0 3 (dk_at dksX8_carved_0 13 rfl rfl)
theorem dX8_carved_16 : decode cX8_carved 16 = .ok (.areturn, 1) := dk_176 (dk_at dksX8_carved_0 16 rfl rfl)
abbrev cX8_worn : ByteArray := prog_3_method_4_code
def yX8_worn : MethodName := ⟨RX8, "worn", "(I)LBlockPapers$Block;"⟩
def dkwX8_worn_1 : List UInt8 := [183, 0, 3, 176]
abbrev dktX8_worn_1 : List UInt8 := dkwX8_worn_1 ++ []
def dkwX8_worn_0 : List UInt8 := [187, 0, 4, 89, 42, 180, 0, 14, 42, 180, 0, 18, 16, 100, 42, 180, 0, 22, 27, 96, 184, 0, 25]
abbrev dktX8_worn_0 : List UInt8 := dkwX8_worn_0 ++ dktX8_worn_1
theorem dksX8_worn_0 : cX8_worn.data.toList.drop 0 = dktX8_worn_0 := by decide +kernel
theorem dksX8_worn_1 : cX8_worn.data.toList.drop 23 = dktX8_worn_1 := dk_seg dksX8_worn_0 23 rfl rfl
theorem dX8_worn_0 : decode cX8_worn 0 = .ok (.new 4, 3) := dk_187 0 4 (dk_at dksX8_worn_0 0 rfl rfl)
theorem dX8_worn_3 : decode cX8_worn 3 = .ok (.dup, 1) := dk_89 (dk_at dksX8_worn_0 3 rfl rfl)
theorem dX8_worn_4 : decode cX8_worn 4 = .ok (.aload_n 0, 1) := dk_42 (dk_at dksX8_worn_0 4 rfl rfl)
theorem dX8_worn_5 : decode cX8_worn 5 = .ok (.getfield 14, 3) := dk_180 0 14 (dk_at dksX8_worn_0 5 rfl rfl)
theorem dX8_worn_8 : decode cX8_worn 8 = .ok (.aload_n 0, 1) := dk_42 (dk_at dksX8_worn_0 8 rfl rfl)
theorem dX8_worn_9 : decode cX8_worn 9 = .ok (.getfield 18, 3) := dk_180 0 18 (dk_at dksX8_worn_0 9 rfl rfl)
theorem dX8_worn_12 : decode cX8_worn 12 = .ok (.bipush 100, 2) := dk_16 100 (dk_at dksX8_worn_0 12 rfl rfl)
theorem dX8_worn_14 : decode cX8_worn 14 = .ok (.aload_n 0, 1) := dk_42 (dk_at dksX8_worn_0 14 rfl rfl)
theorem dX8_worn_15 : decode cX8_worn 15 = .ok (.getfield 22, 3) := dk_180 0 22 (dk_at dksX8_worn_0 15 rfl rfl)
theorem dX8_worn_18 : decode cX8_worn 18 = .ok (.iload_n 1, 1) := dk_27 (dk_at dksX8_worn_0 18 rfl rfl)
theorem dX8_worn_19 : decode cX8_worn 19 = .ok (.iadd, 1) := dk_96 (dk_at dksX8_worn_0 19 rfl rfl)
theorem dX8_worn_20 : decode cX8_worn 20 = .ok (.invokestatic 25, 3) := dk_184 0 25 (dk_at dksX8_worn_0 20 rfl rfl)
theorem dX8_worn_23 : decode cX8_worn 23 = .ok (.invokespecial 3, 3) := dk_183 0 3 (dk_at dksX8_worn_1 0 rfl rfl)
theorem dX8_worn_26 : decode cX8_worn 26 = .ok (.areturn, 1) := dk_176 (dk_at dksX8_worn_1 3 rfl rfl)
abbrev cX8_begin : ByteArray := prog_3_method_6_code
def yX8_begin : MethodName := ⟨RX8, "begin", "(II)I"⟩
def dkwX8_begin_1 : List UInt8 := [182, 0, 31, 167, 0, 4, 27, 172]
abbrev dktX8_begin_1 : List UInt8 := dkwX8_begin_1 ++ []
def dkwX8_begin_0 : List UInt8 := [42, 180, 0, 18, 153, 0, 25, 28, 5, 112, 4, 160, 0, 18, 42, 27, 42, 180, 0, 14, 5, 108, 96]
abbrev dktX8_begin_0 : List UInt8 := dkwX8_begin_0 ++ dktX8_begin_1
theorem dksX8_begin_0 : cX8_begin.data.toList.drop 0 = dktX8_begin_0 := by decide +kernel
theorem dksX8_begin_1 : cX8_begin.data.toList.drop 23 = dktX8_begin_1 := dk_seg dksX8_begin_0 23 rfl rfl
theorem dX8_begin_0 : decode cX8_begin 0 = .ok (.aload_n 0, 1) := dk_42 (dk_at dksX8_begin_0 0 rfl rfl)
theorem dX8_begin_1 : decode cX8_begin 1 = .ok (.getfield 18, 3) := dk_180 0 18 (dk_at dksX8_begin_0 1 rfl rfl)
theorem dX8_begin_4 : decode cX8_begin 4 = .ok (.ifCond .eq 25, 3) := dk_153 0 25 (dk_at dksX8_begin_0 4 rfl rfl)
theorem dX8_begin_7 : decode cX8_begin 7 = .ok (.iload_n 2, 1) := dk_28 (dk_at dksX8_begin_0 7 rfl rfl)
theorem dX8_begin_8 : decode cX8_begin 8 = .ok (.iconst 2, 1) := dk_5 (dk_at dksX8_begin_0 8 rfl rfl)
theorem dX8_begin_9 : decode cX8_begin 9 = .ok (.irem, 1) := dk_112 (dk_at dksX8_begin_0 9 rfl rfl)
theorem dX8_begin_10 : decode cX8_begin 10 = .ok (.iconst 1, 1) := dk_4 (dk_at dksX8_begin_0 10 rfl rfl)
theorem dX8_begin_11 : decode cX8_begin 11 = .ok (.if_icmp .ne 18, 3) := dk_160 0 18 (dk_at dksX8_begin_0 11 rfl rfl)
theorem dX8_begin_14 : decode cX8_begin 14 = .ok (.aload_n 0, 1) := dk_42 (dk_at dksX8_begin_0 14 rfl rfl)
theorem dX8_begin_15 : decode cX8_begin 15 = .ok (.iload_n 1, 1) := dk_27 (dk_at dksX8_begin_0 15 rfl rfl)
theorem dX8_begin_16 : decode cX8_begin 16 = .ok (.aload_n 0, 1) := dk_42 (dk_at dksX8_begin_0 16 rfl rfl)
theorem dX8_begin_17 : decode cX8_begin 17 = .ok (.getfield 14, 3) := dk_180 0 14 (dk_at dksX8_begin_0 17 rfl rfl)
theorem dX8_begin_20 : decode cX8_begin 20 = .ok (.iconst 2, 1) := dk_5 (dk_at dksX8_begin_0 20 rfl rfl)
theorem dX8_begin_21 : decode cX8_begin 21 = .ok (.idiv, 1) := dk_108 (dk_at dksX8_begin_0 21 rfl rfl)
theorem dX8_begin_22 : decode cX8_begin 22 = .ok (.iadd, 1) := dk_96 (dk_at dksX8_begin_0 22 rfl rfl)
theorem dX8_begin_23 : decode cX8_begin 23 = .ok (.invokevirtual 31, 3) := dk_182 0 31 (dk_at dksX8_begin_1 0 rfl rfl)
theorem dX8_begin_26 : decode cX8_begin 26 = .ok (.goto 4, 3) := dk_167 0 4 (dk_at dksX8_begin_1 3 rfl rfl)
theorem dX8_begin_29 : decode cX8_begin 29 = .ok (.iload_n 1, 1) := dk_27 (dk_at dksX8_begin_1 6 rfl rfl)
theorem dX8_begin_30 : decode cX8_begin 30 = .ok (.ireturn, 1) := dk_172 (dk_at dksX8_begin_1 7 rfl rfl)
abbrev cX8_repeat : ByteArray := prog_3_method_3_code
def yX8_repeat : MethodName := ⟨RX8, "repeat", "()I"⟩
theorem dX8_repeat_0 : decode cX8_repeat 0 = .ok (.aload_n 0, 1) := by decide +kernel
theorem dX8_repeat_1 : decode cX8_repeat 1 = .ok (.getfield 14, 3) := by decide +kernel
theorem dX8_repeat_4 : decode cX8_repeat 4 = .ok (.ireturn, 1) := by decide +kernel
theorem q107 : (Jvm.Cond.initialized "BlockPapers$Block") ∈ lw_all := lw_g (lw_at lw_m1 33 rfl) rfl
theorem q823 : (Jvm.Cond.selects "BlockPapers$Block" ({ cls := "java/lang/Object", name := "getClass", desc := "()Ljava/lang/Class;" } : Jvm.MethodName) ({ cls := "java/lang/Object", name := "getClass", desc := "()Ljava/lang/Class;" } : Jvm.MethodName)) ∈ lw_all := lw_g (lw_at lw_m4 29 rfl) rfl
theorem q1121 : (Jvm.Cond.instantiable "BlockPapers$Block" (3 : Nat)) ∈ lw_all := lw_g (lw_at lw_m5 87 rfl) rfl
theorem q1123 : (Jvm.Cond.instanceMethod ({ cls := "BlockPapers$Block", name := "<init>", desc := "(IZ)V" } : Jvm.MethodName)) ∈ lw_all := lw_g (lw_at lw_m5 89 rfl) rfl
theorem q1124 : (Jvm.Cond.code ({ cls := "BlockPapers$Block", name := "<init>", desc := "(IZ)V" } : Jvm.MethodName) prog_3_method_1_code (3 : Nat) (Option.none : Option Jvm.ClassFile.FieldType)) ∈ lw_all := lw_g (lw_at lw_m5 90 rfl) rfl
theorem q1125 : (Jvm.Cond.methodLink "BlockPapers$Block" (3 : Nat) ({ cls := "BlockPapers$Block", name := "<init>", desc := "(IZI)V" } : Jvm.MethodName)) ∈ lw_all := lw_g (lw_at lw_m5 91 rfl) rfl
theorem q1126 : (Jvm.Cond.instanceMethod ({ cls := "BlockPapers$Block", name := "<init>", desc := "(IZI)V" } : Jvm.MethodName)) ∈ lw_all := lw_g (lw_at lw_m5 92 rfl) rfl
theorem q1127 : (Jvm.Cond.code ({ cls := "BlockPapers$Block", name := "<init>", desc := "(IZI)V" } : Jvm.MethodName) prog_3_method_2_code (4 : Nat) (Option.none : Option Jvm.ClassFile.FieldType)) ∈ lw_all := lw_g (lw_at lw_m5 93 rfl) rfl
theorem q1128 : (Jvm.Cond.methodLink "BlockPapers$Block" (9 : Nat) ({ cls := "java/lang/Object", name := "<init>", desc := "()V" } : Jvm.MethodName)) ∈ lw_all := lw_g (lw_at lw_m5 94 rfl) rfl
theorem q1129 : (Jvm.Cond.fieldLink "BlockPapers$Block" (14 : Nat) "BlockPapers$Block" "repeat" "I") ∈ lw_all := lw_g (lw_at lw_m5 95 rfl) rfl
theorem q1131 : (Jvm.Cond.fieldLink "BlockPapers$Block" (18 : Nat) "BlockPapers$Block" "isHalfDrop" "Z") ∈ lw_all := lw_g (lw_at lw_m5 97 rfl) rfl
theorem q1133 : (Jvm.Cond.fieldLink "BlockPapers$Block" (22 : Nat) "BlockPapers$Block" "wear" "I") ∈ lw_all := lw_g (lw_at lw_m5 99 rfl) rfl
theorem q1136 : (Jvm.Cond.laysFinal "BlockPapers$Block" "BlockPapers$Block" "repeat" "I") ∈ lw_all := lw_g (lw_at lw_m5 102 rfl) rfl
theorem q1137 : (Jvm.Cond.soleField "BlockPapers$Block" "repeat") ∈ lw_all := lw_g (lw_at lw_m5 103 rfl) rfl
theorem q1138 : (Jvm.Cond.laysFinal "BlockPapers$Block" "BlockPapers$Block" "isHalfDrop" "Z") ∈ lw_all := lw_g (lw_at lw_m5 104 rfl) rfl
theorem q1139 : (Jvm.Cond.soleField "BlockPapers$Block" "isHalfDrop") ∈ lw_all := lw_g (lw_at lw_m5 105 rfl) rfl
theorem q1140 : (Jvm.Cond.laysFinal "BlockPapers$Block" "BlockPapers$Block" "wear" "I") ∈ lw_all := lw_g (lw_at lw_m5 106 rfl) rfl
theorem q1141 : (Jvm.Cond.soleField "BlockPapers$Block" "wear") ∈ lw_all := lw_g (lw_at lw_m5 107 rfl) rfl
theorem q1142 : (Jvm.Cond.superclass "BlockPapers$Block" "java/lang/Object") ∈ lw_all := lw_g (lw_at lw_m5 108 rfl) rfl
theorem q1170 : (Jvm.Cond.instanceMethod ({ cls := "BlockPapers$Block", name := "carved", desc := "()LBlockPapers$Block;" } : Jvm.MethodName)) ∈ lw_all := lw_g (lw_at lw_m5 136 rfl) rfl
theorem q1171 : (Jvm.Cond.selects "BlockPapers$Block" ({ cls := "BlockPapers$Block", name := "carved", desc := "()LBlockPapers$Block;" } : Jvm.MethodName) ({ cls := "BlockPapers$Block", name := "carved", desc := "()LBlockPapers$Block;" } : Jvm.MethodName)) ∈ lw_all := lw_g (lw_at lw_m5 137 rfl) rfl
theorem q1172 : (Jvm.Cond.code ({ cls := "BlockPapers$Block", name := "carved", desc := "()LBlockPapers$Block;" } : Jvm.MethodName) prog_3_method_5_code (1 : Nat) (Option.some (Jvm.ClassFile.FieldType.object "BlockPapers$Block"))) ∈ lw_all := lw_g (lw_at lw_m5 138 rfl) rfl
theorem q1173 : (Jvm.Cond.classLink "BlockPapers$Block" (4 : Nat) "BlockPapers$Block") ∈ lw_all := lw_g (lw_at lw_m5 139 rfl) rfl
theorem q1277 : (Jvm.Cond.instanceMethod ({ cls := "BlockPapers$Block", name := "worn", desc := "(I)LBlockPapers$Block;" } : Jvm.MethodName)) ∈ lw_all := lw_g (lw_at lw_m6 3 rfl) rfl
theorem q1278 : (Jvm.Cond.selects "BlockPapers$Block" ({ cls := "BlockPapers$Block", name := "worn", desc := "(I)LBlockPapers$Block;" } : Jvm.MethodName) ({ cls := "BlockPapers$Block", name := "worn", desc := "(I)LBlockPapers$Block;" } : Jvm.MethodName)) ∈ lw_all := lw_g (lw_at lw_m6 4 rfl) rfl
theorem q1279 : (Jvm.Cond.code ({ cls := "BlockPapers$Block", name := "worn", desc := "(I)LBlockPapers$Block;" } : Jvm.MethodName) prog_3_method_4_code (2 : Nat) (Option.some (Jvm.ClassFile.FieldType.object "BlockPapers$Block"))) ∈ lw_all := lw_g (lw_at lw_m6 5 rfl) rfl
theorem q1280 : (Jvm.Cond.methodLink "BlockPapers$Block" (25 : Nat) ({ cls := "java/lang/Math", name := "min", desc := "(II)I" } : Jvm.MethodName)) ∈ lw_all := lw_g (lw_at lw_m6 6 rfl) rfl
theorem q1351 : (Jvm.Cond.instanceMethod ({ cls := "BlockPapers$Block", name := "begin", desc := "(II)I" } : Jvm.MethodName)) ∈ lw_all := lw_g (lw_at lw_m6 77 rfl) rfl
theorem q1352 : (Jvm.Cond.selects "BlockPapers$Block" ({ cls := "BlockPapers$Block", name := "begin", desc := "(II)I" } : Jvm.MethodName) ({ cls := "BlockPapers$Block", name := "begin", desc := "(II)I" } : Jvm.MethodName)) ∈ lw_all := lw_g (lw_at lw_m6 78 rfl) rfl
theorem q1353 : (Jvm.Cond.code ({ cls := "BlockPapers$Block", name := "begin", desc := "(II)I" } : Jvm.MethodName) prog_3_method_6_code (3 : Nat) (Option.some Jvm.ClassFile.FieldType.int)) ∈ lw_all := lw_g (lw_at lw_m6 79 rfl) rfl
theorem q1355 : (Jvm.Cond.unhidden "BlockPapers$Block" "within" "(I)I") ∈ lw_tbl := lw_at lw_m6 81 rfl
theorem q1363 : (Jvm.Cond.castable "BlockPapers$Block" "BlockPapers$Patterned") ∈ lw_tbl := lw_at lw_m6 89 rfl
theorem q1364 : (Jvm.Cond.selects "BlockPapers$Block" ({ cls := "BlockPapers$Patterned", name := "repeat", desc := "()I" } : Jvm.MethodName) ({ cls := "BlockPapers$Block", name := "repeat", desc := "()I" } : Jvm.MethodName)) ∈ lw_all := lw_g (lw_at lw_m6 90 rfl) rfl
theorem q1365 : (Jvm.Cond.unhidden "BlockPapers$Block" "repeat" "()I") ∈ lw_tbl := lw_at lw_m6 91 rfl
theorem q1366 : (Jvm.Cond.instanceMethod ({ cls := "BlockPapers$Block", name := "repeat", desc := "()I" } : Jvm.MethodName)) ∈ lw_all := lw_g (lw_at lw_m6 92 rfl) rfl
theorem q1367 : (Jvm.Cond.publicMethod ({ cls := "BlockPapers$Block", name := "repeat", desc := "()I" } : Jvm.MethodName)) ∈ lw_tbl := lw_at lw_m6 93 rfl
theorem q1368 : (Jvm.Cond.code ({ cls := "BlockPapers$Block", name := "repeat", desc := "()I" } : Jvm.MethodName) prog_3_method_3_code (1 : Nat) (Option.some Jvm.ClassFile.FieldType.int)) ∈ lw_all := lw_g (lw_at lw_m6 94 rfl) rfl
theorem q1377 : (Jvm.Cond.unhidden "BlockPapers$Block" "between" "(II)I") ∈ lw_tbl := lw_at lw_m6 103 rfl
theorem q2713 : (Jvm.Cond.castable "BlockPapers$Block" "java/lang/Object") ∈ lw_tbl := lw_at lw_m11 239 rfl
theorem in_X8 : ∀ w ∈ wsX80, w ∈ lw_all := lw_in wsX80 [1136, 1138, 1140] (by decide +kernel) (by decide +kernel)
/-! BlockPapers$Ink -/
set_option maxRecDepth 100000
def RX9 : String := "BlockPapers$Ink"
def TX9 : u_T := fun k => match k with
  | 0 => ("BlockPapers$Ink", "colour", "I", true)
  | 1 => ("BlockPapers$Ink", "shade", "I", true)
  | _ => ("BlockPapers$Ink", "grams", "I", true)
def tyX9 : Nat → FieldType := fun k => match k with
  | 0 => .int
  | 1 => .int
  | _ => .int
abbrev wsX90 : List Cond := u_ws RX9 TX9 3
theorem nmX9 : ∀ a, a < 3 → ∀ b, b < 3 → a ≠ b → (TX9 a).2.1 ≠ (TX9 b).2.1 := by decide +kernel
theorem tyX9_ok : ∀ k, k < 3 → parseFieldDescriptor (TX9 k).2.2.1 = some (tyX9 k) := by decide +kernel
abbrev cX9_init : ByteArray := prog_8_method_1_code
def yX9_init : MethodName := ⟨RX9, "<init>", "(III)V"⟩
def dkwX9_init_0 : List UInt8 := [42, 183, 0, 3, 42, 27, 181, 0, 9, 42, 28, 181, 0, 15, 42, 29, 181, 0, 18, 177]
abbrev dktX9_init_0 : List UInt8 := dkwX9_init_0 ++ []
theorem dksX9_init_0 : cX9_init.data.toList.drop 0 = dktX9_init_0 := by decide +kernel
theorem dX9_init_0 : decode cX9_init 0 = .ok (.aload_n 0, 1) := dk_42 (dk_at dksX9_init_0 0 rfl rfl)
theorem dX9_init_1 : decode cX9_init 1 = .ok (.invokespecial 3, 3) := dk_183 0 3 (dk_at dksX9_init_0 1 rfl rfl)
theorem dX9_init_4 : decode cX9_init 4 = .ok (.aload_n 0, 1) := dk_42 (dk_at dksX9_init_0 4 rfl rfl)
theorem dX9_init_5 : decode cX9_init 5 = .ok (.iload_n 1, 1) := dk_27 (dk_at dksX9_init_0 5 rfl rfl)
theorem dX9_init_6 : decode cX9_init 6 = .ok (.putfield 9, 3) := dk_181 0 9 (dk_at dksX9_init_0 6 rfl rfl)
theorem dX9_init_9 : decode cX9_init 9 = .ok (.aload_n 0, 1) := dk_42 (dk_at dksX9_init_0 9 rfl rfl)
theorem dX9_init_10 : decode cX9_init 10 = .ok (.iload_n 2, 1) := dk_28 (dk_at dksX9_init_0 10 rfl rfl)
theorem dX9_init_11 : decode cX9_init 11 = .ok (.putfield 15, 3) := dk_181 0 15 (dk_at dksX9_init_0 11 rfl rfl)
theorem dX9_init_14 : decode cX9_init 14 = .ok (.aload_n 0, 1) := dk_42 (dk_at dksX9_init_0 14 rfl rfl)
theorem dX9_init_15 : decode cX9_init 15 = .ok (.iload_n 3, 1) := dk_29 (dk_at dksX9_init_0 15 rfl rfl)
theorem dX9_init_16 : decode cX9_init 16 = .ok (.putfield 18, 3) := dk_181 0 18 (dk_at dksX9_init_0 16 rfl rfl)
theorem dX9_init_19 : decode cX9_init 19 = .ok (.return_, 1) := dk_177 (dk_at dksX9_init_0 19 rfl rfl)
abbrev cX9_less : ByteArray := prog_8_method_2_code
def yX9_less : MethodName := ⟨RX9, "less", "(I)LBlockPapers$Ink;"⟩
def dkwX9_less_0 : List UInt8 := [187, 0, 10, 89, 42, 180, 0, 9, 42, 180, 0, 15, 42, 180, 0, 18, 27, 100, 183, 0, 21, 176]
abbrev dktX9_less_0 : List UInt8 := dkwX9_less_0 ++ []
theorem dksX9_less_0 : cX9_less.data.toList.drop 0 = dktX9_less_0 := by decide +kernel
theorem dX9_less_0 : decode cX9_less 0 = .ok (.new 10, 3) := dk_187 0 10 (dk_at dksX9_less_0 0 rfl rfl)
theorem dX9_less_3 : decode cX9_less 3 = .ok (.dup, 1) := dk_89 (dk_at dksX9_less_0 3 rfl rfl)
theorem dX9_less_4 : decode cX9_less 4 = .ok (.aload_n 0, 1) := dk_42 (dk_at dksX9_less_0 4 rfl rfl)
theorem dX9_less_5 : decode cX9_less 5 = .ok (.getfield 9, 3) := dk_180 0 9 (dk_at dksX9_less_0 5 rfl rfl)
theorem dX9_less_8 : decode cX9_less 8 = .ok (.aload_n 0, 1) := dk_42 (dk_at dksX9_less_0 8 rfl rfl)
theorem dX9_less_9 : decode cX9_less 9 = .ok (.getfield 15, 3) := dk_180 0 15 (dk_at dksX9_less_0 9 rfl rfl)
theorem dX9_less_12 : decode cX9_less 12 = .ok (.aload_n 0, 1) := dk_42 (dk_at dksX9_less_0 12 rfl rfl)
theorem dX9_less_13 : decode cX9_less 13 = .ok (.getfield 18, 3) := dk_180 0 18 (dk_at dksX9_less_0 13 rfl rfl)
theorem dX9_less_16 : decode cX9_less 16 = .ok (.iload_n 1, 1) := dk_27 (dk_at dksX9_less_0 16 rfl rfl)
theorem dX9_less_17 : decode cX9_less 17 = .ok (.isub, 1) := dk_100 (dk_at dksX9_less_0 17 rfl rfl)
theorem dX9_less_18 : decode cX9_less 18 = .ok (.invokespecial 21, 3) := dk_183 0 21 (dk_at dksX9_less_0 18 rfl rfl)
theorem dX9_less_21 : decode cX9_less 21 = .ok (.areturn, 1) := dk_176 (dk_at dksX9_less_0 21 rfl rfl)
abbrev cX9_mixed : ByteArray := prog_8_method_3_code
def yX9_mixed : MethodName := ⟨RX9, "mixed", "(II)LBlockPapers$Ink;"⟩
def dkwX9_mixed_1 : List UInt8 := [27, 28, 104, 96, 29, 108, 17, 3, 231, 29, 184, 0, 24, 183, 0, 21, 176]
abbrev dktX9_mixed_1 : List UInt8 := dkwX9_mixed_1 ++ []
def dkwX9_mixed_0 : List UInt8 := [42, 180, 0, 18, 28, 96, 62, 187, 0, 10, 89, 42, 180, 0, 9, 42, 180, 0, 15, 42, 180, 0, 18, 104]
abbrev dktX9_mixed_0 : List UInt8 := dkwX9_mixed_0 ++ dktX9_mixed_1
theorem dksX9_mixed_0 : cX9_mixed.data.toList.drop 0 = dktX9_mixed_0 := by decide +kernel
theorem dksX9_mixed_1 : cX9_mixed.data.toList.drop 24 = dktX9_mixed_1 := dk_seg dksX9_mixed_0 24 rfl rfl
theorem dX9_mixed_0 : decode cX9_mixed 0 = .ok (.aload_n 0, 1) := dk_42 (dk_at dksX9_mixed_0 0 rfl rfl)
theorem dX9_mixed_1 : decode cX9_mixed 1 = .ok (.getfield 18, 3) := dk_180 0 18 (dk_at dksX9_mixed_0 1 rfl rfl)
theorem dX9_mixed_4 : decode cX9_mixed 4 = .ok (.iload_n 2, 1) := dk_28 (dk_at dksX9_mixed_0 4 rfl rfl)
theorem dX9_mixed_5 : decode cX9_mixed 5 = .ok (.iadd, 1) := dk_96 (dk_at dksX9_mixed_0 5 rfl rfl)
theorem dX9_mixed_6 : decode cX9_mixed 6 = .ok (.istore_n 3, 1) := dk_62 (dk_at dksX9_mixed_0 6 rfl rfl)
theorem dX9_mixed_7 : decode cX9_mixed 7 = .ok (.new 10, 3) := dk_187 0 10 (dk_at dksX9_mixed_0 7 rfl rfl)
theorem dX9_mixed_10 : decode cX9_mixed 10 = .ok (.dup, 1) := dk_89 (dk_at dksX9_mixed_0 10 rfl rfl)
theorem dX9_mixed_11 : decode cX9_mixed 11 = .ok (.aload_n 0, 1) := dk_42 (dk_at dksX9_mixed_0 11 rfl rfl)
theorem dX9_mixed_12 : decode cX9_mixed 12 = .ok (.getfield 9, 3) := dk_180 0 9 (dk_at dksX9_mixed_0 12 rfl rfl)
theorem dX9_mixed_15 : decode cX9_mixed 15 = .ok (.aload_n 0, 1) := dk_42 (dk_at dksX9_mixed_0 15 rfl rfl)
theorem dX9_mixed_16 : decode cX9_mixed 16 = .ok (.getfield 15, 3) := dk_180 0 15 (dk_at dksX9_mixed_0 16 rfl rfl)
theorem dX9_mixed_19 : decode cX9_mixed 19 = .ok (.aload_n 0, 1) := dk_42 (dk_at dksX9_mixed_0 19 rfl rfl)
theorem dX9_mixed_20 : decode cX9_mixed 20 = .ok (.getfield 18, 3) := dk_180 0 18 (dk_at dksX9_mixed_0 20 rfl rfl)
theorem dX9_mixed_23 : decode cX9_mixed 23 = .ok (.imul, 1) := dk_104 (dk_at dksX9_mixed_0 23 rfl rfl)
theorem dX9_mixed_24 : decode cX9_mixed 24 = .ok (.iload_n 1, 1) := dk_27 (dk_at dksX9_mixed_1 0 rfl rfl)
theorem dX9_mixed_25 : decode cX9_mixed 25 = .ok (.iload_n 2, 1) := dk_28 (dk_at dksX9_mixed_1 1 rfl rfl)
theorem dX9_mixed_26 : decode cX9_mixed 26 = .ok (.imul, 1) := dk_104 (dk_at dksX9_mixed_1 2 rfl rfl)
theorem dX9_mixed_27 : decode cX9_mixed 27 = .ok (.iadd, 1) := dk_96 (dk_at dksX9_mixed_1 3 rfl rfl)
theorem dX9_mixed_28 : decode cX9_mixed 28 = .ok (.iload_n 3, 1) := dk_29 (dk_at dksX9_mixed_1 4 rfl rfl)
theorem dX9_mixed_29 : decode cX9_mixed 29 = .ok (.idiv, 1) := dk_108 (dk_at dksX9_mixed_1 5 rfl rfl)
theorem dX9_mixed_30 : decode cX9_mixed 30 = .ok (.sipush 999, 3) := dk_17 3 231 (dk_at dksX9_mixed_1 6 rfl rfl)
theorem dX9_mixed_33 : decode cX9_mixed 33 = .ok (.iload_n 3, 1) := dk_29 (dk_at dksX9_mixed_1 9 rfl rfl)
theorem dX9_mixed_34 : decode cX9_mixed 34 = .ok (.invokestatic 24, 3) := dk_184 0 24 (dk_at dksX9_mixed_1 10 rfl rfl)
theorem dX9_mixed_37 : decode cX9_mixed 37 = .ok (.invokespecial 21, 3) := dk_183 0 21 (dk_at dksX9_mixed_1 13 rfl rfl)
theorem dX9_mixed_40 : decode cX9_mixed 40 = .ok (.areturn, 1) := dk_176 (dk_at dksX9_mixed_1 16 rfl rfl)
theorem q108 : (Jvm.Cond.initialized "BlockPapers$Ink") ∈ lw_all := lw_g (lw_at lw_m1 34 rfl) rfl
theorem q827 : (Jvm.Cond.selects "BlockPapers$Ink" ({ cls := "java/lang/Object", name := "getClass", desc := "()Ljava/lang/Class;" } : Jvm.MethodName) ({ cls := "java/lang/Object", name := "getClass", desc := "()Ljava/lang/Class;" } : Jvm.MethodName)) ∈ lw_all := lw_g (lw_at lw_m4 33 rfl) rfl
theorem q1188 : (Jvm.Cond.instantiable "BlockPapers$Ink" (3 : Nat)) ∈ lw_all := lw_g (lw_at lw_m5 154 rfl) rfl
theorem q1190 : (Jvm.Cond.instanceMethod ({ cls := "BlockPapers$Ink", name := "<init>", desc := "(III)V" } : Jvm.MethodName)) ∈ lw_all := lw_g (lw_at lw_m5 156 rfl) rfl
theorem q1191 : (Jvm.Cond.code ({ cls := "BlockPapers$Ink", name := "<init>", desc := "(III)V" } : Jvm.MethodName) prog_8_method_1_code (4 : Nat) (Option.none : Option Jvm.ClassFile.FieldType)) ∈ lw_all := lw_g (lw_at lw_m5 157 rfl) rfl
theorem q1192 : (Jvm.Cond.methodLink "BlockPapers$Ink" (3 : Nat) ({ cls := "java/lang/Object", name := "<init>", desc := "()V" } : Jvm.MethodName)) ∈ lw_all := lw_g (lw_at lw_m5 158 rfl) rfl
theorem q1193 : (Jvm.Cond.fieldLink "BlockPapers$Ink" (9 : Nat) "BlockPapers$Ink" "colour" "I") ∈ lw_all := lw_g (lw_at lw_m5 159 rfl) rfl
theorem q1196 : (Jvm.Cond.fieldLink "BlockPapers$Ink" (15 : Nat) "BlockPapers$Ink" "shade" "I") ∈ lw_all := lw_g (lw_at lw_m5 162 rfl) rfl
theorem q1199 : (Jvm.Cond.fieldLink "BlockPapers$Ink" (18 : Nat) "BlockPapers$Ink" "grams" "I") ∈ lw_all := lw_g (lw_at lw_m5 165 rfl) rfl
theorem q1202 : (Jvm.Cond.laysFinal "BlockPapers$Ink" "BlockPapers$Ink" "colour" "I") ∈ lw_all := lw_g (lw_at lw_m5 168 rfl) rfl
theorem q1203 : (Jvm.Cond.soleField "BlockPapers$Ink" "colour") ∈ lw_all := lw_g (lw_at lw_m5 169 rfl) rfl
theorem q1204 : (Jvm.Cond.laysFinal "BlockPapers$Ink" "BlockPapers$Ink" "shade" "I") ∈ lw_all := lw_g (lw_at lw_m5 170 rfl) rfl
theorem q1205 : (Jvm.Cond.soleField "BlockPapers$Ink" "shade") ∈ lw_all := lw_g (lw_at lw_m5 171 rfl) rfl
theorem q1206 : (Jvm.Cond.laysFinal "BlockPapers$Ink" "BlockPapers$Ink" "grams" "I") ∈ lw_all := lw_g (lw_at lw_m5 172 rfl) rfl
theorem q1207 : (Jvm.Cond.soleField "BlockPapers$Ink" "grams") ∈ lw_all := lw_g (lw_at lw_m5 173 rfl) rfl
theorem q1208 : (Jvm.Cond.superclass "BlockPapers$Ink" "java/lang/Object") ∈ lw_all := lw_g (lw_at lw_m5 174 rfl) rfl
theorem q1218 : (Jvm.Cond.instanceMethod ({ cls := "BlockPapers$Ink", name := "less", desc := "(I)LBlockPapers$Ink;" } : Jvm.MethodName)) ∈ lw_all := lw_g (lw_at lw_m5 184 rfl) rfl
theorem q1219 : (Jvm.Cond.selects "BlockPapers$Ink" ({ cls := "BlockPapers$Ink", name := "less", desc := "(I)LBlockPapers$Ink;" } : Jvm.MethodName) ({ cls := "BlockPapers$Ink", name := "less", desc := "(I)LBlockPapers$Ink;" } : Jvm.MethodName)) ∈ lw_all := lw_g (lw_at lw_m5 185 rfl) rfl
theorem q1220 : (Jvm.Cond.code ({ cls := "BlockPapers$Ink", name := "less", desc := "(I)LBlockPapers$Ink;" } : Jvm.MethodName) prog_8_method_2_code (2 : Nat) (Option.some (Jvm.ClassFile.FieldType.object "BlockPapers$Ink"))) ∈ lw_all := lw_g (lw_at lw_m5 186 rfl) rfl
theorem q1221 : (Jvm.Cond.classLink "BlockPapers$Ink" (10 : Nat) "BlockPapers$Ink") ∈ lw_all := lw_g (lw_at lw_m5 187 rfl) rfl
theorem q1222 : (Jvm.Cond.methodLink "BlockPapers$Ink" (21 : Nat) ({ cls := "BlockPapers$Ink", name := "<init>", desc := "(III)V" } : Jvm.MethodName)) ∈ lw_all := lw_g (lw_at lw_m5 188 rfl) rfl
theorem q1224 : (Jvm.Cond.instanceMethod ({ cls := "BlockPapers$Ink", name := "mixed", desc := "(II)LBlockPapers$Ink;" } : Jvm.MethodName)) ∈ lw_all := lw_g (lw_at lw_m5 190 rfl) rfl
theorem q1225 : (Jvm.Cond.selects "BlockPapers$Ink" ({ cls := "BlockPapers$Ink", name := "mixed", desc := "(II)LBlockPapers$Ink;" } : Jvm.MethodName) ({ cls := "BlockPapers$Ink", name := "mixed", desc := "(II)LBlockPapers$Ink;" } : Jvm.MethodName)) ∈ lw_all := lw_g (lw_at lw_m5 191 rfl) rfl
theorem q1226 : (Jvm.Cond.code ({ cls := "BlockPapers$Ink", name := "mixed", desc := "(II)LBlockPapers$Ink;" } : Jvm.MethodName) prog_8_method_3_code (4 : Nat) (Option.some (Jvm.ClassFile.FieldType.object "BlockPapers$Ink"))) ∈ lw_all := lw_g (lw_at lw_m5 192 rfl) rfl
theorem q1227 : (Jvm.Cond.methodLink "BlockPapers$Ink" (24 : Nat) ({ cls := "java/lang/Math", name := "min", desc := "(II)I" } : Jvm.MethodName)) ∈ lw_all := lw_g (lw_at lw_m5 193 rfl) rfl
theorem q2715 : (Jvm.Cond.castable "BlockPapers$Ink" "java/lang/Object") ∈ lw_tbl := lw_at lw_m12 1 rfl
theorem in_X9 : ∀ w ∈ wsX90, w ∈ lw_all := lw_in wsX90 [1202, 1204, 1206] (by decide +kernel) (by decide +kernel)
/-! BlockPapers$Roll -/
set_option maxRecDepth 100000
def RX10 : String := "BlockPapers$Roll"
def TX10 : u_T := fun k => match k with
  | 0 => ("BlockPapers$Roll", "block", "I", true)
  | 1 => ("BlockPapers$Roll", "batch", "I", true)
  | 2 => ("BlockPapers$Roll", "colour", "I", true)
  | 3 => ("BlockPapers$Roll", "shade", "I", true)
  | 4 => ("BlockPapers$Roll", "length", "I", true)
  | 5 => ("BlockPapers$Roll", "used", "I", true)
  | _ => ("BlockPapers$Roll", "isBack", "Z", true)
def tyX10 : Nat → FieldType := fun k => match k with
  | 0 => .int
  | 1 => .int
  | 2 => .int
  | 3 => .int
  | 4 => .int
  | 5 => .int
  | _ => .boolean
abbrev wsX100 : List Cond := u_ws RX10 TX10 7
theorem nmX10 : ∀ a, a < 7 → ∀ b, b < 7 → a ≠ b → (TX10 a).2.1 ≠ (TX10 b).2.1 := by decide +kernel
theorem tyX10_ok : ∀ k, k < 7 → parseFieldDescriptor (TX10 k).2.2.1 = some (tyX10 k) := by decide +kernel
abbrev cX10_left : ByteArray := prog_12_method_3_code
def yX10_left : MethodName := ⟨RX10, "left", "()I"⟩
def dkwX10_left_0 : List UInt8 := [42, 180, 0, 31, 153, 0, 7, 3, 167, 0, 12, 42, 180, 0, 25, 42, 180, 0, 28, 100, 172]
abbrev dktX10_left_0 : List UInt8 := dkwX10_left_0 ++ []
theorem dksX10_left_0 : cX10_left.data.toList.drop 0 = dktX10_left_0 := by decide +kernel
theorem dX10_left_0 : decode cX10_left 0 = .ok (.aload_n 0, 1) := dk_42 (dk_at dksX10_left_0 0 rfl rfl)
theorem dX10_left_1 : decode cX10_left 1 = .ok (.getfield 31, 3) := dk_180 0 31 (dk_at dksX10_left_0 1 rfl rfl)
theorem dX10_left_4 : decode cX10_left 4 = .ok (.ifCond .eq 7, 3) := dk_153 0 7 (dk_at dksX10_left_0 4 rfl rfl)
theorem dX10_left_7 : decode cX10_left 7 = .ok (.iconst 0, 1) := dk_3 (dk_at dksX10_left_0 7 rfl rfl)
theorem dX10_left_8 : decode cX10_left 8 = .ok (.goto 12, 3) := dk_167 0 12 (dk_at dksX10_left_0 8 rfl rfl)
theorem dX10_left_11 : decode cX10_left 11 = .ok (.aload_n 0, 1) := dk_42 (dk_at dksX10_left_0 11 rfl rfl)
theorem dX10_left_12 : decode cX10_left 12 = .ok (.getfield 25, 3) := dk_180 0 25 (dk_at dksX10_left_0 12 rfl rfl)
theorem dX10_left_15 : decode cX10_left 15 = .ok (.aload_n 0, 1) := dk_42 (dk_at dksX10_left_0 15 rfl rfl)
theorem dX10_left_16 : decode cX10_left 16 = .ok (.getfield 28, 3) := dk_180 0 28 (dk_at dksX10_left_0 16 rfl rfl)
theorem dX10_left_19 : decode cX10_left 19 = .ok (.isub, 1) := dk_100 (dk_at dksX10_left_0 19 rfl rfl)
theorem dX10_left_20 : decode cX10_left 20 = .ok (.ireturn, 1) := dk_172 (dk_at dksX10_left_0 20 rfl rfl)
abbrev cX10_init : ByteArray := prog_12_method_1_code
def yX10_init : MethodName := ⟨RX10, "<init>", "(IIIII)V"⟩
def dkwX10_init_0 : List UInt8 := [42, 27, 28, 29, 21, 4, 21, 5, 3, 3, 183, 0, 1, 177]
abbrev dktX10_init_0 : List UInt8 := dkwX10_init_0 ++ []
theorem dksX10_init_0 : cX10_init.data.toList.drop 0 = dktX10_init_0 := by decide +kernel
theorem dX10_init_0 : decode cX10_init 0 = .ok (.aload_n 0, 1) := dk_42 (dk_at dksX10_init_0 0 rfl rfl)
theorem dX10_init_1 : decode cX10_init 1 = .ok (.iload_n 1, 1) := dk_27 (dk_at dksX10_init_0 1 rfl rfl)
theorem dX10_init_2 : decode cX10_init 2 = .ok (.iload_n 2, 1) := dk_28 (dk_at dksX10_init_0 2 rfl rfl)
theorem dX10_init_3 : decode cX10_init 3 = .ok (.iload_n 3, 1) := dk_29 (dk_at dksX10_init_0 3 rfl rfl)
theorem dX10_init_4 : decode cX10_init 4 = .ok (.iload 4, 2) := dk_21 4 (dk_at dksX10_init_0 4 rfl rfl)
theorem dX10_init_6 : decode cX10_init 6 = .ok (.iload 5, 2) := dk_21 5 (dk_at dksX10_init_0 6 rfl rfl)
theorem dX10_init_8 : decode cX10_init 8 = .ok (.iconst 0, 1) := dk_3 (dk_at dksX10_init_0 8 rfl rfl)
theorem dX10_init_9 : decode cX10_init 9 = .ok (.iconst 0, 1) := dk_3 (dk_at dksX10_init_0 9 rfl rfl)
theorem dX10_init_10 : decode cX10_init 10 = .ok (.invokespecial 1, 3) := dk_183 0 1 (dk_at dksX10_init_0 10 rfl rfl)
theorem dX10_init_13 : decode cX10_init 13 = .ok (.return_, 1) := dk_177 (dk_at dksX10_init_0 13 rfl rfl)
abbrev cX10_init_2 : ByteArray := prog_12_method_2_code
def yX10_init_2 : MethodName := ⟨RX10, "<init>", "(IIIIIIZ)V"⟩
def dkwX10_init_2_1 : List UInt8 := [181, 0, 22, 42, 21, 5, 181, 0, 25, 42, 21, 6, 181, 0, 28, 42, 21, 7, 181, 0, 31, 177]
abbrev dktX10_init_2_1 : List UInt8 := dkwX10_init_2_1 ++ []
def dkwX10_init_2_0 : List UInt8 := [42, 183, 0, 7, 42, 27, 181, 0, 12, 42, 28, 181, 0, 16, 42, 29, 181, 0, 19, 42, 21, 4]
abbrev dktX10_init_2_0 : List UInt8 := dkwX10_init_2_0 ++ dktX10_init_2_1
theorem dksX10_init_2_0 : cX10_init_2.data.toList.drop 0 = dktX10_init_2_0 := by decide +kernel
theorem dksX10_init_2_1 : cX10_init_2.data.toList.drop 22 = dktX10_init_2_1 := dk_seg dksX10_init_2_0 22 rfl rfl
theorem dX10_init_2_0 : decode cX10_init_2 0 = .ok (.aload_n 0, 1) := dk_42 (dk_at dksX10_init_2_0 0 rfl rfl)
theorem dX10_init_2_1 : decode cX10_init_2 1 = .ok (.invokespecial 7, 3) := dk_183 0 7 (dk_at dksX10_init_2_0 1 rfl rfl)
theorem dX10_init_2_4 : decode cX10_init_2 4 = .ok (.aload_n 0, 1) := dk_42 (dk_at dksX10_init_2_0 4 rfl rfl)
theorem dX10_init_2_5 : decode cX10_init_2 5 = .ok (.iload_n 1, 1) := dk_27 (dk_at dksX10_init_2_0 5 rfl rfl)
theorem dX10_init_2_6 : decode cX10_init_2 6 = .ok (.putfield 12, 3) := dk_181 0 12 (dk_at dksX10_init_2_0 6 rfl rfl)
theorem dX10_init_2_9 : decode cX10_init_2 9 = .ok (.aload_n 0, 1) := dk_42 (dk_at dksX10_init_2_0 9 rfl rfl)
theorem dX10_init_2_10 : decode cX10_init_2 10 = .ok (.iload_n 2, 1) := dk_28 (dk_at dksX10_init_2_0 10 rfl rfl)
theorem dX10_init_2_11 : decode cX10_init_2 11 = .ok (.putfield 16, 3) := dk_181 0 16 (dk_at dksX10_init_2_0 11 rfl rfl)
theorem dX10_init_2_14 : decode cX10_init_2 14 = .ok (.aload_n 0, 1) := dk_42 (dk_at dksX10_init_2_0 14 rfl rfl)
theorem dX10_init_2_15 : decode cX10_init_2 15 = .ok (.iload_n 3, 1) := dk_29 (dk_at dksX10_init_2_0 15 rfl rfl)
theorem dX10_init_2_16 : decode cX10_init_2 16 = .ok (.putfield 19, 3) := dk_181 0 19 (dk_at dksX10_init_2_0 16 rfl rfl)
theorem dX10_init_2_19 : decode cX10_init_2 19 = .ok (.aload_n 0, 1) := dk_42 (dk_at dksX10_init_2_0 19 rfl rfl)
theorem dX10_init_2_20 : decode cX10_init_2 20 = .ok (.iload 4, 2) := dk_21 4 (dk_at dksX10_init_2_0 20 rfl rfl)
theorem dX10_init_2_22 : decode cX10_init_2 22 = .ok (.putfield 22, 3) := dk_181 0 22 (dk_at dksX10_init_2_1 0 rfl rfl)
theorem dX10_init_2_25 : decode cX10_init_2 25 = .ok (.aload_n 0, 1) := dk_42 (dk_at dksX10_init_2_1 3 rfl rfl)
theorem dX10_init_2_26 : decode cX10_init_2 26 = .ok (.iload 5, 2) := dk_21 5 (dk_at dksX10_init_2_1 4 rfl rfl)
theorem dX10_init_2_28 : decode cX10_init_2 28 = .ok (.putfield 25, 3) := dk_181 0 25 (dk_at dksX10_init_2_1 6 rfl rfl)
theorem dX10_init_2_31 : decode cX10_init_2 31 = .ok (.aload_n 0, 1) := dk_42 (dk_at dksX10_init_2_1 9 rfl rfl)
theorem dX10_init_2_32 : decode cX10_init_2 32 = .ok (.iload 6, 2) := dk_21 6 (dk_at dksX10_init_2_1 10 rfl rfl)
theorem dX10_init_2_34 : decode cX10_init_2 34 = .ok (.putfield 28, 3) := dk_181 0 28 (dk_at dksX10_init_2_1 12 rfl rfl)
theorem dX10_init_2_37 : decode cX10_init_2 37 = .ok (.aload_n 0, 1) := dk_42 (dk_at dksX10_init_2_1 15 rfl rfl)
theorem dX10_init_2_38 : decode cX10_init_2 38 = .ok (.iload 7, 2) := dk_21 7 (dk_at dksX10_init_2_1 16 rfl rfl)
theorem dX10_init_2_40 : decode cX10_init_2 40 = .ok (.putfield 31, 3) := dk_181 0 31 (dk_at dksX10_init_2_1 18 rfl rfl)
theorem dX10_init_2_43 : decode cX10_init_2 43 = .ok (.return_, 1) := dk_177 (dk_at dksX10_init_2_1 21 rfl rfl)
abbrev cX10_back : ByteArray := prog_12_method_5_code
def yX10_back : MethodName := ⟨RX10, "back", "()LBlockPapers$Roll;"⟩
def dkwX10_back_1 : List UInt8 := [42, 180, 0, 28, 4, 183, 0, 1, 176]
abbrev dktX10_back_1 : List UInt8 := dkwX10_back_1 ++ []
def dkwX10_back_0 : List UInt8 := [187, 0, 2, 89, 42, 180, 0, 12, 42, 180, 0, 16, 42, 180, 0, 19, 42, 180, 0, 22, 42, 180, 0, 25]
abbrev dktX10_back_0 : List UInt8 := dkwX10_back_0 ++ dktX10_back_1
theorem dksX10_back_0 : cX10_back.data.toList.drop 0 = dktX10_back_0 := by decide +kernel
theorem dksX10_back_1 : cX10_back.data.toList.drop 24 = dktX10_back_1 := dk_seg dksX10_back_0 24 rfl rfl
theorem dX10_back_0 : decode cX10_back 0 = .ok (.new 2, 3) := dk_187 0 2 (dk_at dksX10_back_0 0 rfl rfl)
theorem dX10_back_3 : decode cX10_back 3 = .ok (.dup, 1) := dk_89 (dk_at dksX10_back_0 3 rfl rfl)
theorem dX10_back_4 : decode cX10_back 4 = .ok (.aload_n 0, 1) := dk_42 (dk_at dksX10_back_0 4 rfl rfl)
theorem dX10_back_5 : decode cX10_back 5 = .ok (.getfield 12, 3) := dk_180 0 12 (dk_at dksX10_back_0 5 rfl rfl)
theorem dX10_back_8 : decode cX10_back 8 = .ok (.aload_n 0, 1) := dk_42 (dk_at dksX10_back_0 8 rfl rfl)
theorem dX10_back_9 : decode cX10_back 9 = .ok (.getfield 16, 3) := dk_180 0 16 (dk_at dksX10_back_0 9 rfl rfl)
theorem dX10_back_12 : decode cX10_back 12 = .ok (.aload_n 0, 1) := dk_42 (dk_at dksX10_back_0 12 rfl rfl)
theorem dX10_back_13 : decode cX10_back 13 = .ok (.getfield 19, 3) := dk_180 0 19 (dk_at dksX10_back_0 13 rfl rfl)
theorem dX10_back_16 : decode cX10_back 16 = .ok (.aload_n 0, 1) := dk_42 (dk_at dksX10_back_0 16 rfl rfl)
theorem dX10_back_17 : decode cX10_back 17 = .ok (.getfield 22, 3) := dk_180 0 22 (dk_at dksX10_back_0 17 rfl rfl)
theorem dX10_back_20 : decode cX10_back 20 = .ok (.aload_n 0, 1) := dk_42 (dk_at dksX10_back_0 20 rfl rfl)
theorem dX10_back_21 : decode cX10_back 21 = .ok (.getfield 25, 3) := dk_180 0 25 (dk_at dksX10_back_0 21 rfl rfl)
theorem dX10_back_24 : decode cX10_back 24 = .ok (.aload_n 0, 1) := dk_42 (dk_at dksX10_back_1 0 rfl rfl)
theorem dX10_back_25 : decode cX10_back 25 = .ok (.getfield 28, 3) := dk_180 0 28 (dk_at dksX10_back_1 1 rfl rfl)
theorem dX10_back_28 : decode cX10_back 28 = .ok (.iconst 1, 1) := dk_4 (dk_at dksX10_back_1 4 rfl rfl)
theorem dX10_back_29 : decode cX10_back 29 = .ok (.invokespecial 1, 3) := dk_183 0 1 (dk_at dksX10_back_1 5 rfl rfl)
theorem dX10_back_32 : decode cX10_back 32 = .ok (.areturn, 1) := dk_176 (dk_at dksX10_back_1 8 rfl rfl)
abbrev cX10_cut : ByteArray := prog_12_method_4_code
def yX10_cut : MethodName := ⟨RX10, "cut", "(I)LBlockPapers$Roll;"⟩
def dkwX10_cut_1 : List UInt8 := [42, 180, 0, 28, 27, 96, 42, 180, 0, 31, 183, 0, 1, 176]
abbrev dktX10_cut_1 : List UInt8 := dkwX10_cut_1 ++ []
def dkwX10_cut_0 : List UInt8 := [187, 0, 2, 89, 42, 180, 0, 12, 42, 180, 0, 16, 42, 180, 0, 19, 42, 180, 0, 22, 42, 180, 0, 25]
abbrev dktX10_cut_0 : List UInt8 := dkwX10_cut_0 ++ dktX10_cut_1
theorem dksX10_cut_0 : cX10_cut.data.toList.drop 0 = dktX10_cut_0 := by decide +kernel
theorem dksX10_cut_1 : cX10_cut.data.toList.drop 24 = dktX10_cut_1 := dk_seg dksX10_cut_0 24 rfl rfl
theorem dX10_cut_0 : decode cX10_cut 0 = .ok (.new 2, 3) := dk_187 0 2 (dk_at dksX10_cut_0 0 rfl rfl)
theorem dX10_cut_3 : decode cX10_cut 3 = .ok (.dup, 1) := dk_89 (dk_at dksX10_cut_0 3 rfl rfl)
theorem dX10_cut_4 : decode cX10_cut 4 = .ok (.aload_n 0, 1) := dk_42 (dk_at dksX10_cut_0 4 rfl rfl)
theorem dX10_cut_5 : decode cX10_cut 5 = .ok (.getfield 12, 3) := dk_180 0 12 (dk_at dksX10_cut_0 5 rfl rfl)
theorem dX10_cut_8 : decode cX10_cut 8 = .ok (.aload_n 0, 1) := dk_42 (dk_at dksX10_cut_0 8 rfl rfl)
theorem dX10_cut_9 : decode cX10_cut 9 = .ok (.getfield 16, 3) := dk_180 0 16 (dk_at dksX10_cut_0 9 rfl rfl)
theorem dX10_cut_12 : decode cX10_cut 12 = .ok (.aload_n 0, 1) := dk_42 (dk_at dksX10_cut_0 12 rfl rfl)
theorem dX10_cut_13 : decode cX10_cut 13 = .ok (.getfield 19, 3) := dk_180 0 19 (dk_at dksX10_cut_0 13 rfl rfl)
theorem dX10_cut_16 : decode cX10_cut 16 = .ok (.aload_n 0, 1) := dk_42 (dk_at dksX10_cut_0 16 rfl rfl)
theorem dX10_cut_17 : decode cX10_cut 17 = .ok (.getfield 22, 3) := dk_180 0 22 (dk_at dksX10_cut_0 17 rfl rfl)
theorem dX10_cut_20 : decode cX10_cut 20 = .ok (.aload_n 0, 1) := dk_42 (dk_at dksX10_cut_0 20 rfl rfl)
theorem dX10_cut_21 : decode cX10_cut 21 = .ok (.getfield 25, 3) := dk_180 0 25 (dk_at dksX10_cut_0 21 rfl rfl)
theorem dX10_cut_24 : decode cX10_cut 24 = .ok (.aload_n 0, 1) := dk_42 (dk_at dksX10_cut_1 0 rfl rfl)
theorem dX10_cut_25 : decode cX10_cut 25 = .ok (.getfield 28, 3) := dk_180 0 28 (dk_at dksX10_cut_1 1 rfl rfl)
theorem dX10_cut_28 : decode cX10_cut 28 = .ok (.iload_n 1, 1) := dk_27 (dk_at dksX10_cut_1 4 rfl rfl)
theorem dX10_cut_29 : decode cX10_cut 29 = .ok (.iadd, 1) := dk_96 (dk_at dksX10_cut_1 5 rfl rfl)
theorem dX10_cut_30 : decode cX10_cut 30 = .ok (.aload_n 0, 1) := dk_42 (dk_at dksX10_cut_1 6 rfl rfl)
theorem dX10_cut_31 : decode cX10_cut 31 = .ok (.getfield 31, 3) := dk_180 0 31 (dk_at dksX10_cut_1 7 rfl rfl)
theorem dX10_cut_34 : decode cX10_cut 34 = .ok (.invokespecial 1, 3) := dk_183 0 1 (dk_at dksX10_cut_1 10 rfl rfl)
theorem dX10_cut_37 : decode cX10_cut 37 = .ok (.areturn, 1) := dk_176 (dk_at dksX10_cut_1 13 rfl rfl)
abbrev cX10_sign : ByteArray := prog_12_method_6_code
def yX10_sign : MethodName := ⟨RX10, "sign", "()Ljava/lang/CharSequence;"⟩
def dkwX10_sign_1 : List UInt8 := [18, 39, 176]
abbrev dktX10_sign_1 : List UInt8 := dkwX10_sign_1 ++ []
def dkwX10_sign_0 : List UInt8 := [42, 180, 0, 31, 153, 0, 8, 18, 35, 167, 0, 17, 42, 180, 0, 28, 154, 0, 8, 18, 37, 167, 0, 5]
abbrev dktX10_sign_0 : List UInt8 := dkwX10_sign_0 ++ dktX10_sign_1
theorem dksX10_sign_0 : cX10_sign.data.toList.drop 0 = dktX10_sign_0 := by decide +kernel
theorem dksX10_sign_1 : cX10_sign.data.toList.drop 24 = dktX10_sign_1 := dk_seg dksX10_sign_0 24 rfl rfl
theorem dX10_sign_0 : decode cX10_sign 0 = .ok (.aload_n 0, 1) := dk_42 (dk_at dksX10_sign_0 0 rfl rfl)
theorem dX10_sign_1 : decode cX10_sign 1 = .ok (.getfield 31, 3) := dk_180 0 31 (dk_at dksX10_sign_0 1 rfl rfl)
theorem dX10_sign_4 : decode cX10_sign 4 = .ok (.ifCond .eq 8, 3) := dk_153 0 8 (dk_at dksX10_sign_0 4 rfl rfl)
theorem dX10_sign_7 : decode cX10_sign 7 = .ok (.ldc 35, 2) := dk_18 35 (dk_at dksX10_sign_0 7 rfl rfl)
theorem dX10_sign_9 : decode cX10_sign 9 = .ok (.goto 17, 3) := dk_167 0 17 (dk_at dksX10_sign_0 9 rfl rfl)
theorem dX10_sign_12 : decode cX10_sign 12 = .ok (.aload_n 0, 1) := dk_42 (dk_at dksX10_sign_0 12 rfl rfl)
theorem dX10_sign_13 : decode cX10_sign 13 = .ok (.getfield 28, 3) := dk_180 0 28 (dk_at dksX10_sign_0 13 rfl rfl)
theorem dX10_sign_16 : decode cX10_sign 16 = .ok (.ifCond .ne 8, 3) := dk_154 0 8 (dk_at dksX10_sign_0 16 rfl rfl)
theorem dX10_sign_19 : decode cX10_sign 19 = .ok (.ldc 37, 2) := dk_18 37 (dk_at dksX10_sign_0 19 rfl rfl)
theorem dX10_sign_21 : decode cX10_sign 21 = .ok (.goto 5, 3) := dk_167 0 5 (dk_at dksX10_sign_0 21 rfl rfl)
theorem dX10_sign_24 : decode cX10_sign 24 = .ok (.ldc 39, 2) := dk_18 39 (dk_at dksX10_sign_1 0 rfl rfl)
theorem dX10_sign_26 : decode cX10_sign 26 = .ok (.areturn, 1) := dk_176 (dk_at dksX10_sign_1 2 rfl rfl)
theorem q109 : (Jvm.Cond.initialized "BlockPapers$Roll") ∈ lw_all := lw_g (lw_at lw_m1 35 rfl) rfl
theorem q518 : (Jvm.Cond.instanceMethod ({ cls := "BlockPapers$Roll", name := "left", desc := "()I" } : Jvm.MethodName)) ∈ lw_all := lw_g (lw_at lw_m2 204 rfl) rfl
theorem q519 : (Jvm.Cond.selects "BlockPapers$Roll" ({ cls := "BlockPapers$Roll", name := "left", desc := "()I" } : Jvm.MethodName) ({ cls := "BlockPapers$Roll", name := "left", desc := "()I" } : Jvm.MethodName)) ∈ lw_all := lw_g (lw_at lw_m2 205 rfl) rfl
theorem q520 : (Jvm.Cond.code ({ cls := "BlockPapers$Roll", name := "left", desc := "()I" } : Jvm.MethodName) prog_12_method_3_code (1 : Nat) (Option.some Jvm.ClassFile.FieldType.int)) ∈ lw_all := lw_g (lw_at lw_m2 206 rfl) rfl
theorem q830 : (Jvm.Cond.selects "BlockPapers$Roll" ({ cls := "java/lang/Object", name := "getClass", desc := "()Ljava/lang/Class;" } : Jvm.MethodName) ({ cls := "java/lang/Object", name := "getClass", desc := "()Ljava/lang/Class;" } : Jvm.MethodName)) ∈ lw_all := lw_g (lw_at lw_m4 36 rfl) rfl
theorem q1232 : (Jvm.Cond.instantiable "BlockPapers$Roll" (7 : Nat)) ∈ lw_all := lw_g (lw_at lw_m5 198 rfl) rfl
theorem q1234 : (Jvm.Cond.instanceMethod ({ cls := "BlockPapers$Roll", name := "<init>", desc := "(IIIII)V" } : Jvm.MethodName)) ∈ lw_all := lw_g (lw_at lw_m5 200 rfl) rfl
theorem q1235 : (Jvm.Cond.code ({ cls := "BlockPapers$Roll", name := "<init>", desc := "(IIIII)V" } : Jvm.MethodName) prog_12_method_1_code (6 : Nat) (Option.none : Option Jvm.ClassFile.FieldType)) ∈ lw_all := lw_g (lw_at lw_m5 201 rfl) rfl
theorem q1236 : (Jvm.Cond.methodLink "BlockPapers$Roll" (1 : Nat) ({ cls := "BlockPapers$Roll", name := "<init>", desc := "(IIIIIIZ)V" } : Jvm.MethodName)) ∈ lw_all := lw_g (lw_at lw_m5 202 rfl) rfl
theorem q1237 : (Jvm.Cond.instanceMethod ({ cls := "BlockPapers$Roll", name := "<init>", desc := "(IIIIIIZ)V" } : Jvm.MethodName)) ∈ lw_all := lw_g (lw_at lw_m5 203 rfl) rfl
theorem q1238 : (Jvm.Cond.code ({ cls := "BlockPapers$Roll", name := "<init>", desc := "(IIIIIIZ)V" } : Jvm.MethodName) prog_12_method_2_code (8 : Nat) (Option.none : Option Jvm.ClassFile.FieldType)) ∈ lw_all := lw_g (lw_at lw_m5 204 rfl) rfl
theorem q1239 : (Jvm.Cond.methodLink "BlockPapers$Roll" (7 : Nat) ({ cls := "java/lang/Object", name := "<init>", desc := "()V" } : Jvm.MethodName)) ∈ lw_all := lw_g (lw_at lw_m5 205 rfl) rfl
theorem q1240 : (Jvm.Cond.fieldLink "BlockPapers$Roll" (12 : Nat) "BlockPapers$Roll" "block" "I") ∈ lw_all := lw_g (lw_at lw_m5 206 rfl) rfl
theorem q1243 : (Jvm.Cond.fieldLink "BlockPapers$Roll" (16 : Nat) "BlockPapers$Roll" "batch" "I") ∈ lw_all := lw_g (lw_at lw_m5 209 rfl) rfl
theorem q1245 : (Jvm.Cond.fieldLink "BlockPapers$Roll" (19 : Nat) "BlockPapers$Roll" "colour" "I") ∈ lw_all := lw_g (lw_at lw_m5 211 rfl) rfl
theorem q1248 : (Jvm.Cond.fieldLink "BlockPapers$Roll" (22 : Nat) "BlockPapers$Roll" "shade" "I") ∈ lw_all := lw_g (lw_at lw_m5 214 rfl) rfl
theorem q1251 : (Jvm.Cond.fieldLink "BlockPapers$Roll" (25 : Nat) "BlockPapers$Roll" "length" "I") ∈ lw_all := lw_g (lw_at lw_m5 217 rfl) rfl
theorem q1255 : (Jvm.Cond.fieldLink "BlockPapers$Roll" (28 : Nat) "BlockPapers$Roll" "used" "I") ∈ lw_all := lw_g (lw_at lw_m5 221 rfl) rfl
theorem q1258 : (Jvm.Cond.fieldLink "BlockPapers$Roll" (31 : Nat) "BlockPapers$Roll" "isBack" "Z") ∈ lw_all := lw_g (lw_at lw_m5 224 rfl) rfl
theorem q1261 : (Jvm.Cond.laysFinal "BlockPapers$Roll" "BlockPapers$Roll" "block" "I") ∈ lw_all := lw_g (lw_at lw_m5 227 rfl) rfl
theorem q1262 : (Jvm.Cond.soleField "BlockPapers$Roll" "block") ∈ lw_all := lw_g (lw_at lw_m5 228 rfl) rfl
theorem q1263 : (Jvm.Cond.laysFinal "BlockPapers$Roll" "BlockPapers$Roll" "batch" "I") ∈ lw_all := lw_g (lw_at lw_m5 229 rfl) rfl
theorem q1264 : (Jvm.Cond.soleField "BlockPapers$Roll" "batch") ∈ lw_all := lw_g (lw_at lw_m5 230 rfl) rfl
theorem q1265 : (Jvm.Cond.laysFinal "BlockPapers$Roll" "BlockPapers$Roll" "colour" "I") ∈ lw_all := lw_g (lw_at lw_m5 231 rfl) rfl
theorem q1266 : (Jvm.Cond.soleField "BlockPapers$Roll" "colour") ∈ lw_all := lw_g (lw_at lw_m5 232 rfl) rfl
theorem q1267 : (Jvm.Cond.laysFinal "BlockPapers$Roll" "BlockPapers$Roll" "shade" "I") ∈ lw_all := lw_g (lw_at lw_m5 233 rfl) rfl
theorem q1268 : (Jvm.Cond.soleField "BlockPapers$Roll" "shade") ∈ lw_all := lw_g (lw_at lw_m5 234 rfl) rfl
theorem q1269 : (Jvm.Cond.laysFinal "BlockPapers$Roll" "BlockPapers$Roll" "length" "I") ∈ lw_all := lw_g (lw_at lw_m5 235 rfl) rfl
theorem q1270 : (Jvm.Cond.soleField "BlockPapers$Roll" "length") ∈ lw_all := lw_g (lw_at lw_m5 236 rfl) rfl
theorem q1271 : (Jvm.Cond.laysFinal "BlockPapers$Roll" "BlockPapers$Roll" "used" "I") ∈ lw_all := lw_g (lw_at lw_m5 237 rfl) rfl
theorem q1272 : (Jvm.Cond.soleField "BlockPapers$Roll" "used") ∈ lw_all := lw_g (lw_at lw_m5 238 rfl) rfl
theorem q1273 : (Jvm.Cond.laysFinal "BlockPapers$Roll" "BlockPapers$Roll" "isBack" "Z") ∈ lw_all := lw_g (lw_at lw_m5 239 rfl) rfl
theorem q1274 : (Jvm.Cond.soleField "BlockPapers$Roll" "isBack") ∈ lw_all := lw_g (lw_at lw_m6 0 rfl) rfl
theorem q1275 : (Jvm.Cond.superclass "BlockPapers$Roll" "java/lang/Object") ∈ lw_all := lw_g (lw_at lw_m6 1 rfl) rfl
theorem q1297 : (Jvm.Cond.instanceMethod ({ cls := "BlockPapers$Roll", name := "back", desc := "()LBlockPapers$Roll;" } : Jvm.MethodName)) ∈ lw_all := lw_g (lw_at lw_m6 23 rfl) rfl
theorem q1298 : (Jvm.Cond.selects "BlockPapers$Roll" ({ cls := "BlockPapers$Roll", name := "back", desc := "()LBlockPapers$Roll;" } : Jvm.MethodName) ({ cls := "BlockPapers$Roll", name := "back", desc := "()LBlockPapers$Roll;" } : Jvm.MethodName)) ∈ lw_all := lw_g (lw_at lw_m6 24 rfl) rfl
theorem q1299 : (Jvm.Cond.code ({ cls := "BlockPapers$Roll", name := "back", desc := "()LBlockPapers$Roll;" } : Jvm.MethodName) prog_12_method_5_code (1 : Nat) (Option.some (Jvm.ClassFile.FieldType.object "BlockPapers$Roll"))) ∈ lw_all := lw_g (lw_at lw_m6 25 rfl) rfl
theorem q1300 : (Jvm.Cond.classLink "BlockPapers$Roll" (2 : Nat) "BlockPapers$Roll") ∈ lw_all := lw_g (lw_at lw_m6 26 rfl) rfl
theorem q1418 : (Jvm.Cond.instanceMethod ({ cls := "BlockPapers$Roll", name := "cut", desc := "(I)LBlockPapers$Roll;" } : Jvm.MethodName)) ∈ lw_all := lw_g (lw_at lw_m6 144 rfl) rfl
theorem q1419 : (Jvm.Cond.selects "BlockPapers$Roll" ({ cls := "BlockPapers$Roll", name := "cut", desc := "(I)LBlockPapers$Roll;" } : Jvm.MethodName) ({ cls := "BlockPapers$Roll", name := "cut", desc := "(I)LBlockPapers$Roll;" } : Jvm.MethodName)) ∈ lw_all := lw_g (lw_at lw_m6 145 rfl) rfl
theorem q1420 : (Jvm.Cond.code ({ cls := "BlockPapers$Roll", name := "cut", desc := "(I)LBlockPapers$Roll;" } : Jvm.MethodName) prog_12_method_4_code (2 : Nat) (Option.some (Jvm.ClassFile.FieldType.object "BlockPapers$Roll"))) ∈ lw_all := lw_g (lw_at lw_m6 146 rfl) rfl
theorem q1752 : (Jvm.Cond.instanceMethod ({ cls := "BlockPapers$Roll", name := "sign", desc := "()Ljava/lang/CharSequence;" } : Jvm.MethodName)) ∈ lw_all := lw_g (lw_at lw_m7 238 rfl) rfl
theorem q1753 : (Jvm.Cond.selects "BlockPapers$Roll" ({ cls := "BlockPapers$Roll", name := "sign", desc := "()Ljava/lang/CharSequence;" } : Jvm.MethodName) ({ cls := "BlockPapers$Roll", name := "sign", desc := "()Ljava/lang/CharSequence;" } : Jvm.MethodName)) ∈ lw_all := lw_g (lw_at lw_m7 239 rfl) rfl
theorem q1754 : (Jvm.Cond.code ({ cls := "BlockPapers$Roll", name := "sign", desc := "()Ljava/lang/CharSequence;" } : Jvm.MethodName) prog_12_method_6_code (1 : Nat) (Option.some (Jvm.ClassFile.FieldType.object "java/lang/CharSequence"))) ∈ lw_all := lw_g (lw_at lw_m8 0 rfl) rfl
theorem q1755 : (Jvm.Cond.stringRef "BlockPapers$Roll" (35 : Nat) ", given back") ∈ lw_tbl := lw_at lw_m8 1 rfl
theorem q1756 : (Jvm.Cond.stringRef "BlockPapers$Roll" (37 : Nat) ", whole") ∈ lw_tbl := lw_at lw_m8 2 rfl
theorem q1757 : (Jvm.Cond.stringRef "BlockPapers$Roll" (39 : Nat) "") ∈ lw_tbl := lw_at lw_m8 3 rfl
theorem q2716 : (Jvm.Cond.castable "BlockPapers$Roll" "java/lang/Object") ∈ lw_tbl := lw_at lw_m12 2 rfl
theorem in_X10 : ∀ w ∈ wsX100, w ∈ lw_all := lw_in wsX100 [1261, 1263, 1265, 1267, 1269, 1271, 1273] (by decide +kernel) (by decide +kernel)
/-! BlockPapers$Patterned -/
set_option maxRecDepth 100000
def RX11 : String := "BlockPapers$Patterned"
abbrev cX11_within : ByteArray := prog_11_method_2_code
def yX11_within : MethodName := ⟨RX11, "within", "(I)I"⟩
def dkwX11_within_0 : List UInt8 := [27, 42, 185, 0, 1, 1, 0, 184, 0, 7, 172]
abbrev dktX11_within_0 : List UInt8 := dkwX11_within_0 ++ []
theorem dksX11_within_0 : cX11_within.data.toList.drop 0 = dktX11_within_0 := by decide +kernel
theorem dX11_within_0 : decode cX11_within 0 = .ok (.iload_n 1, 1) := dk_27 (dk_at dksX11_within_0 0 rfl rfl)
theorem dX11_within_1 : decode cX11_within 1 = .ok (.aload_n 0, 1) := dk_42 (dk_at dksX11_within_0 1 rfl rfl)
theorem dX11_within_2 : decode cX11_within 2 = .ok (.invokeinterface 1 1, 5) := by decide +kernel
theorem dX11_within_7 : decode cX11_within 7 = .ok (.invokestatic 7, 3) := dk_184 0 7 (dk_at dksX11_within_0 7 rfl rfl)
theorem dX11_within_10 : decode cX11_within 10 = .ok (.ireturn, 1) := dk_172 (dk_at dksX11_within_0 10 rfl rfl)
abbrev cX11_remainder : ByteArray := prog_11_method_4_code
def yX11_remainder : MethodName := ⟨RX11, "remainder", "(II)I"⟩
def dkwX11_remainder_0 : List UInt8 := [26, 27, 112, 172]
abbrev dktX11_remainder_0 : List UInt8 := dkwX11_remainder_0 ++ []
theorem dksX11_remainder_0 : cX11_remainder.data.toList.drop 0 = dktX11_remainder_0 := by decide +kernel
theorem dX11_remainder_0 : decode cX11_remainder 0 = .ok (.iload_n 0, 1) := dk_26 (dk_at dksX11_remainder_0 0 rfl rfl)
theorem dX11_remainder_1 : decode cX11_remainder 1 = .ok (.iload_n 1, 1) := dk_27 (dk_at dksX11_remainder_0 1 rfl rfl)
theorem dX11_remainder_2 : decode cX11_remainder 2 = .ok (.irem, 1) := dk_112 (dk_at dksX11_remainder_0 2 rfl rfl)
theorem dX11_remainder_3 : decode cX11_remainder 3 = .ok (.ireturn, 1) := dk_172 (dk_at dksX11_remainder_0 3 rfl rfl)
abbrev cX11_between : ByteArray := prog_11_method_3_code
def yX11_between : MethodName := ⟨RX11, "between", "(II)I"⟩
def dkwX11_between_0 : List UInt8 := [42, 28, 27, 100, 42, 185, 0, 1, 1, 0, 96, 185, 0, 11, 2, 0, 172]
abbrev dktX11_between_0 : List UInt8 := dkwX11_between_0 ++ []
theorem dksX11_between_0 : cX11_between.data.toList.drop 0 = dktX11_between_0 := by decide +kernel
theorem dX11_between_0 : decode cX11_between 0 = .ok (.aload_n 0, 1) := dk_42 (dk_at dksX11_between_0 0 rfl rfl)
theorem dX11_between_1 : decode cX11_between 1 = .ok (.iload_n 2, 1) := dk_28 (dk_at dksX11_between_0 1 rfl rfl)
theorem dX11_between_2 : decode cX11_between 2 = .ok (.iload_n 1, 1) := dk_27 (dk_at dksX11_between_0 2 rfl rfl)
theorem dX11_between_3 : decode cX11_between 3 = .ok (.isub, 1) := dk_100 (dk_at dksX11_between_0 3 rfl rfl)
theorem dX11_between_4 : decode cX11_between 4 = .ok (.aload_n 0, 1) := dk_42 (dk_at dksX11_between_0 4 rfl rfl)
theorem dX11_between_5 : decode cX11_between 5 = .ok (.invokeinterface 1 1, 5) := by decide +kernel
theorem dX11_between_10 : decode cX11_between 10 = .ok (.iadd, 1) := dk_96 (dk_at dksX11_between_0 10 rfl rfl)
theorem dX11_between_11 : decode cX11_between 11 = .ok (.invokeinterface 11 2, 5) := by decide +kernel
theorem dX11_between_16 : decode cX11_between 16 = .ok (.ireturn, 1) := dk_172 (dk_at dksX11_between_0 16 rfl rfl)
theorem q110 : (Jvm.Cond.initialized "BlockPapers$Patterned") ∈ lw_all := lw_g (lw_at lw_m1 36 rfl) rfl
theorem q1354 : (Jvm.Cond.declares ({ cls := "BlockPapers$Patterned", name := "within", desc := "(I)I" } : Jvm.MethodName)) ∈ lw_tbl := lw_at lw_m6 80 rfl
theorem q1356 : (Jvm.Cond.instanceMethod ({ cls := "BlockPapers$Patterned", name := "within", desc := "(I)I" } : Jvm.MethodName)) ∈ lw_all := lw_g (lw_at lw_m6 82 rfl) rfl
theorem q1357 : (Jvm.Cond.publicMethod ({ cls := "BlockPapers$Patterned", name := "within", desc := "(I)I" } : Jvm.MethodName)) ∈ lw_tbl := lw_at lw_m6 83 rfl
theorem q1358 : (Jvm.Cond.code ({ cls := "BlockPapers$Patterned", name := "within", desc := "(I)I" } : Jvm.MethodName) prog_11_method_2_code (2 : Nat) (Option.some Jvm.ClassFile.FieldType.int)) ∈ lw_all := lw_g (lw_at lw_m6 84 rfl) rfl
theorem q1359 : (Jvm.Cond.interfaceEntry "BlockPapers$Patterned" (1 : Nat)) ∈ lw_tbl := lw_at lw_m6 85 rfl
theorem q1360 : (Jvm.Cond.methodLink "BlockPapers$Patterned" (1 : Nat) ({ cls := "BlockPapers$Patterned", name := "repeat", desc := "()I" } : Jvm.MethodName)) ∈ lw_all := lw_g (lw_at lw_m6 86 rfl) rfl
theorem q1361 : (Jvm.Cond.interfaceMethod "BlockPapers$Patterned" "BlockPapers$Patterned" "repeat" "()I") ∈ lw_tbl := lw_at lw_m6 87 rfl
theorem q1362 : (Jvm.Cond.declares ({ cls := "BlockPapers$Patterned", name := "repeat", desc := "()I" } : Jvm.MethodName)) ∈ lw_tbl := lw_at lw_m6 88 rfl
theorem q1369 : (Jvm.Cond.methodLink "BlockPapers$Patterned" (7 : Nat) ({ cls := "BlockPapers$Patterned", name := "remainder", desc := "(II)I" } : Jvm.MethodName)) ∈ lw_all := lw_g (lw_at lw_m6 95 rfl) rfl
theorem q1370 : (Jvm.Cond.static ({ cls := "BlockPapers$Patterned", name := "remainder", desc := "(II)I" } : Jvm.MethodName)) ∈ lw_all := lw_g (lw_at lw_m6 96 rfl) rfl
theorem q1371 : (Jvm.Cond.code ({ cls := "BlockPapers$Patterned", name := "remainder", desc := "(II)I" } : Jvm.MethodName) prog_11_method_4_code (2 : Nat) (Option.some Jvm.ClassFile.FieldType.int)) ∈ lw_all := lw_g (lw_at lw_m6 97 rfl) rfl
theorem q1376 : (Jvm.Cond.declares ({ cls := "BlockPapers$Patterned", name := "between", desc := "(II)I" } : Jvm.MethodName)) ∈ lw_tbl := lw_at lw_m6 102 rfl
theorem q1378 : (Jvm.Cond.instanceMethod ({ cls := "BlockPapers$Patterned", name := "between", desc := "(II)I" } : Jvm.MethodName)) ∈ lw_all := lw_g (lw_at lw_m6 104 rfl) rfl
theorem q1379 : (Jvm.Cond.publicMethod ({ cls := "BlockPapers$Patterned", name := "between", desc := "(II)I" } : Jvm.MethodName)) ∈ lw_tbl := lw_at lw_m6 105 rfl
theorem q1380 : (Jvm.Cond.code ({ cls := "BlockPapers$Patterned", name := "between", desc := "(II)I" } : Jvm.MethodName) prog_11_method_3_code (3 : Nat) (Option.some Jvm.ClassFile.FieldType.int)) ∈ lw_all := lw_g (lw_at lw_m6 106 rfl) rfl
theorem q1381 : (Jvm.Cond.interfaceEntry "BlockPapers$Patterned" (11 : Nat)) ∈ lw_tbl := lw_at lw_m6 107 rfl
theorem q1382 : (Jvm.Cond.methodLink "BlockPapers$Patterned" (11 : Nat) ({ cls := "BlockPapers$Patterned", name := "within", desc := "(I)I" } : Jvm.MethodName)) ∈ lw_all := lw_g (lw_at lw_m6 108 rfl) rfl
theorem q1383 : (Jvm.Cond.interfaceMethod "BlockPapers$Patterned" "BlockPapers$Patterned" "within" "(I)I") ∈ lw_tbl := lw_at lw_m6 109 rfl
/-! BlockPapers$Drop -/
set_option maxRecDepth 100000
def RX12 : String := "BlockPapers$Drop"
def TX12 : u_T := fun k => match k with
  | 0 => ("BlockPapers$Drop", "roll", "I", true)
  | 1 => ("BlockPapers$Drop", "begin", "I", true)
  | 2 => ("BlockPapers$Drop", "shade", "I", true)
  | _ => ("BlockPapers$Drop", "waste", "I", true)
def tyX12 : Nat → FieldType := fun k => match k with
  | 0 => .int
  | 1 => .int
  | 2 => .int
  | _ => .int
abbrev wsX120 : List Cond := u_ws RX12 TX12 4
theorem nmX12 : ∀ a, a < 4 → ∀ b, b < 4 → a ≠ b → (TX12 a).2.1 ≠ (TX12 b).2.1 := by decide +kernel
theorem tyX12_ok : ∀ k, k < 4 → parseFieldDescriptor (TX12 k).2.2.1 = some (tyX12 k) := by decide +kernel
abbrev cX12_init : ByteArray := prog_5_method_1_code
def yX12_init : MethodName := ⟨RX12, "<init>", "(IIII)V"⟩
def dkwX12_init_1 : List UInt8 := [181, 0, 19, 177]
abbrev dktX12_init_1 : List UInt8 := dkwX12_init_1 ++ []
def dkwX12_init_0 : List UInt8 := [42, 183, 0, 1, 42, 27, 181, 0, 7, 42, 28, 181, 0, 13, 42, 29, 181, 0, 16, 42, 21, 4]
abbrev dktX12_init_0 : List UInt8 := dkwX12_init_0 ++ dktX12_init_1
theorem dksX12_init_0 : cX12_init.data.toList.drop 0 = dktX12_init_0 := by decide +kernel
theorem dksX12_init_1 : cX12_init.data.toList.drop 22 = dktX12_init_1 := dk_seg dksX12_init_0 22 rfl rfl
theorem dX12_init_0 : decode cX12_init 0 = .ok (.aload_n 0, 1) := dk_42 (dk_at dksX12_init_0 0 rfl rfl)
theorem dX12_init_1 : decode cX12_init 1 = .ok (.invokespecial 1, 3) := dk_183 0 1 (dk_at dksX12_init_0 1 rfl rfl)
theorem dX12_init_4 : decode cX12_init 4 = .ok (.aload_n 0, 1) := dk_42 (dk_at dksX12_init_0 4 rfl rfl)
theorem dX12_init_5 : decode cX12_init 5 = .ok (.iload_n 1, 1) := dk_27 (dk_at dksX12_init_0 5 rfl rfl)
theorem dX12_init_6 : decode cX12_init 6 = .ok (.putfield 7, 3) := dk_181 0 7 (dk_at dksX12_init_0 6 rfl rfl)
theorem dX12_init_9 : decode cX12_init 9 = .ok (.aload_n 0, 1) := dk_42 (dk_at dksX12_init_0 9 rfl rfl)
theorem dX12_init_10 : decode cX12_init 10 = .ok (.iload_n 2, 1) := dk_28 (dk_at dksX12_init_0 10 rfl rfl)
theorem dX12_init_11 : decode cX12_init 11 = .ok (.putfield 13, 3) := dk_181 0 13 (dk_at dksX12_init_0 11 rfl rfl)
theorem dX12_init_14 : decode cX12_init 14 = .ok (.aload_n 0, 1) := dk_42 (dk_at dksX12_init_0 14 rfl rfl)
theorem dX12_init_15 : decode cX12_init 15 = .ok (.iload_n 3, 1) := dk_29 (dk_at dksX12_init_0 15 rfl rfl)
theorem dX12_init_16 : decode cX12_init 16 = .ok (.putfield 16, 3) := dk_181 0 16 (dk_at dksX12_init_0 16 rfl rfl)
theorem dX12_init_19 : decode cX12_init 19 = .ok (.aload_n 0, 1) := dk_42 (dk_at dksX12_init_0 19 rfl rfl)
theorem dX12_init_20 : decode cX12_init 20 = .ok (.iload 4, 2) := dk_21 4 (dk_at dksX12_init_0 20 rfl rfl)
theorem dX12_init_22 : decode cX12_init 22 = .ok (.putfield 19, 3) := dk_181 0 19 (dk_at dksX12_init_1 0 rfl rfl)
theorem dX12_init_25 : decode cX12_init 25 = .ok (.return_, 1) := dk_177 (dk_at dksX12_init_1 3 rfl rfl)
theorem q111 : (Jvm.Cond.initialized "BlockPapers$Drop") ∈ lw_all := lw_g (lw_at lw_m1 37 rfl) rfl
theorem q824 : (Jvm.Cond.selects "BlockPapers$Drop" ({ cls := "java/lang/Object", name := "getClass", desc := "()Ljava/lang/Class;" } : Jvm.MethodName) ({ cls := "java/lang/Object", name := "getClass", desc := "()Ljava/lang/Class;" } : Jvm.MethodName)) ∈ lw_all := lw_g (lw_at lw_m4 30 rfl) rfl
theorem q1392 : (Jvm.Cond.instantiable "BlockPapers$Drop" (4 : Nat)) ∈ lw_all := lw_g (lw_at lw_m6 118 rfl) rfl
theorem q1394 : (Jvm.Cond.instanceMethod ({ cls := "BlockPapers$Drop", name := "<init>", desc := "(IIII)V" } : Jvm.MethodName)) ∈ lw_all := lw_g (lw_at lw_m6 120 rfl) rfl
theorem q1395 : (Jvm.Cond.code ({ cls := "BlockPapers$Drop", name := "<init>", desc := "(IIII)V" } : Jvm.MethodName) prog_5_method_1_code (5 : Nat) (Option.none : Option Jvm.ClassFile.FieldType)) ∈ lw_all := lw_g (lw_at lw_m6 121 rfl) rfl
theorem q1396 : (Jvm.Cond.methodLink "BlockPapers$Drop" (1 : Nat) ({ cls := "java/lang/Object", name := "<init>", desc := "()V" } : Jvm.MethodName)) ∈ lw_all := lw_g (lw_at lw_m6 122 rfl) rfl
theorem q1397 : (Jvm.Cond.fieldLink "BlockPapers$Drop" (7 : Nat) "BlockPapers$Drop" "roll" "I") ∈ lw_all := lw_g (lw_at lw_m6 123 rfl) rfl
theorem q1400 : (Jvm.Cond.fieldLink "BlockPapers$Drop" (13 : Nat) "BlockPapers$Drop" "begin" "I") ∈ lw_all := lw_g (lw_at lw_m6 126 rfl) rfl
theorem q1403 : (Jvm.Cond.fieldLink "BlockPapers$Drop" (16 : Nat) "BlockPapers$Drop" "shade" "I") ∈ lw_all := lw_g (lw_at lw_m6 129 rfl) rfl
theorem q1406 : (Jvm.Cond.fieldLink "BlockPapers$Drop" (19 : Nat) "BlockPapers$Drop" "waste" "I") ∈ lw_all := lw_g (lw_at lw_m6 132 rfl) rfl
theorem q1408 : (Jvm.Cond.laysFinal "BlockPapers$Drop" "BlockPapers$Drop" "roll" "I") ∈ lw_all := lw_g (lw_at lw_m6 134 rfl) rfl
theorem q1409 : (Jvm.Cond.soleField "BlockPapers$Drop" "roll") ∈ lw_all := lw_g (lw_at lw_m6 135 rfl) rfl
theorem q1410 : (Jvm.Cond.laysFinal "BlockPapers$Drop" "BlockPapers$Drop" "begin" "I") ∈ lw_all := lw_g (lw_at lw_m6 136 rfl) rfl
theorem q1411 : (Jvm.Cond.soleField "BlockPapers$Drop" "begin") ∈ lw_all := lw_g (lw_at lw_m6 137 rfl) rfl
theorem q1412 : (Jvm.Cond.laysFinal "BlockPapers$Drop" "BlockPapers$Drop" "shade" "I") ∈ lw_all := lw_g (lw_at lw_m6 138 rfl) rfl
theorem q1413 : (Jvm.Cond.soleField "BlockPapers$Drop" "shade") ∈ lw_all := lw_g (lw_at lw_m6 139 rfl) rfl
theorem q1414 : (Jvm.Cond.laysFinal "BlockPapers$Drop" "BlockPapers$Drop" "waste" "I") ∈ lw_all := lw_g (lw_at lw_m6 140 rfl) rfl
theorem q1415 : (Jvm.Cond.soleField "BlockPapers$Drop" "waste") ∈ lw_all := lw_g (lw_at lw_m6 141 rfl) rfl
theorem q1416 : (Jvm.Cond.superclass "BlockPapers$Drop" "java/lang/Object") ∈ lw_all := lw_g (lw_at lw_m6 142 rfl) rfl
theorem q2717 : (Jvm.Cond.castable "BlockPapers$Drop" "java/lang/Object") ∈ lw_tbl := lw_at lw_m12 3 rfl
theorem in_X12 : ∀ w ∈ wsX120, w ∈ lw_all := lw_in wsX120 [1408, 1410, 1412, 1414] (by decide +kernel) (by decide +kernel)
/-! BlockPapers$Workshop$1Offer -/
set_option maxRecDepth 100000
def RX13 : String := "BlockPapers$Workshop$1Offer"
def TX13 : u_T := fun k => match k with
  | 0 => ("BlockPapers$Workshop$1Offer", "number", "I", true)
  | 1 => ("BlockPapers$Workshop$1Offer", "waste", "I", true)
  | 2 => ("BlockPapers$Workshop$1Offer", "left", "I", true)
  | 3 => ("BlockPapers$Workshop$1Offer", "val$room", "LBlockPapers$Room;", true)
  | _ => ("BlockPapers$Workshop$1Offer", "this$0", "LBlockPapers$Workshop;", true)
def tyX13 : Nat → FieldType := fun k => match k with
  | 0 => .int
  | 1 => .int
  | 2 => .int
  | 3 => .object "BlockPapers$Room"
  | _ => .object "BlockPapers$Workshop"
abbrev wsX130 : List Cond := u_ws RX13 TX13 5
theorem nmX13 : ∀ a, a < 5 → ∀ b, b < 5 → a ≠ b → (TX13 a).2.1 ≠ (TX13 b).2.1 := by decide +kernel
theorem tyX13_ok : ∀ k, k < 5 → parseFieldDescriptor (TX13 k).2.2.1 = some (tyX13 k) := by decide +kernel
abbrev cX13_init : ByteArray := prog_15_method_1_code
def yX13_init : MethodName := ⟨RX13, "<init>", "(LBlockPapers$Workshop;ILBlockPapers$Room;)V"⟩
def dkwX13_init_3 : List UInt8 := [182, 0, 57, 181, 0, 60, 177]
abbrev dktX13_init_3 : List UInt8 := dkwX13_init_3 ++ []
def dkwX13_init_2 : List UInt8 := [42, 180, 0, 7, 180, 0, 38, 185, 0, 43, 1, 0, 182, 0, 47, 182, 0, 51, 181, 0, 55, 42, 25, 4]
abbrev dktX13_init_2 : List UInt8 := dkwX13_init_2 ++ dktX13_init_3
def dkwX13_init_1 : List UInt8 := [192, 0, 29, 58, 4, 42, 28, 181, 0, 31, 42, 43, 25, 4, 25, 4, 180, 0, 35, 43, 42, 180, 0, 7]
abbrev dktX13_init_1 : List UInt8 := dkwX13_init_1 ++ dktX13_init_2
def dkwX13_init_0 : List UInt8 := [42, 43, 181, 0, 1, 42, 45, 181, 0, 7, 42, 183, 0, 11, 43, 180, 0, 17, 28, 185, 0, 23, 2, 0]
abbrev dktX13_init_0 : List UInt8 := dkwX13_init_0 ++ dktX13_init_1
theorem dksX13_init_0 : cX13_init.data.toList.drop 0 = dktX13_init_0 := by decide +kernel
theorem dksX13_init_1 : cX13_init.data.toList.drop 24 = dktX13_init_1 := dk_seg dksX13_init_0 24 rfl rfl
theorem dksX13_init_2 : cX13_init.data.toList.drop 48 = dktX13_init_2 := dk_seg dksX13_init_1 24 rfl rfl
theorem dksX13_init_3 : cX13_init.data.toList.drop 72 = dktX13_init_3 := dk_seg dksX13_init_2 24 rfl rfl
theorem dX13_init_0 : decode cX13_init 0 = .ok (.aload_n 0, 1) := dk_42 (dk_at dksX13_init_0 0 rfl rfl)
theorem dX13_init_1 : decode cX13_init 1 = .ok (.aload_n 1, 1) := dk_43 (dk_at dksX13_init_0 1 rfl rfl)
theorem dX13_init_2 : decode cX13_init 2 = .ok (.putfield 1, 3) := dk_181 0 1 (dk_at dksX13_init_0 2 rfl rfl)
theorem dX13_init_5 : decode cX13_init 5 = .ok (.aload_n 0, 1) := dk_42 (dk_at dksX13_init_0 5 rfl rfl)
theorem dX13_init_6 : decode cX13_init 6 = .ok (.aload_n 3, 1) := dk_45 (dk_at dksX13_init_0 6 rfl rfl)
theorem dX13_init_7 : decode cX13_init 7 = .ok (.putfield 7, 3) := dk_181 0 7 (dk_at dksX13_init_0 7 rfl rfl)
theorem dX13_init_10 : decode cX13_init 10 = .ok (.aload_n 0, 1) := dk_42 (dk_at dksX13_init_0 10 rfl rfl)
theorem dX13_init_11 : decode cX13_init 11 = .ok (.invokespecial 11, 3) := dk_183 0 11 (dk_at dksX13_init_0 11 rfl rfl)
theorem dX13_init_14 : decode cX13_init 14 = .ok (.aload_n 1, 1) := dk_43 (dk_at dksX13_init_0 14 rfl rfl)
theorem dX13_init_15 : decode cX13_init 15 = .ok (.getfield 17, 3) := dk_180 0 17 (dk_at dksX13_init_0 15 rfl rfl)
theorem dX13_init_18 : decode cX13_init 18 = .ok (.iload_n 2, 1) := dk_28 (dk_at dksX13_init_0 18 rfl rfl)
theorem dX13_init_19 : decode cX13_init 19 = .ok (.invokeinterface 23 2, 5) := by decide +kernel
theorem dX13_init_24 : decode cX13_init 24 = .ok (.checkcast 29, 3) := dk_192 0 29 (dk_at dksX13_init_1 0 rfl rfl)
theorem dX13_init_27 : decode cX13_init 27 = .ok (.astore 4, 2) := dk_58 4 (dk_at dksX13_init_1 3 rfl rfl)
theorem dX13_init_29 : decode cX13_init 29 = .ok (.aload_n 0, 1) := dk_42 (dk_at dksX13_init_1 5 rfl rfl)
theorem dX13_init_30 : decode cX13_init 30 = .ok (.iload_n 2, 1) := dk_28 (dk_at dksX13_init_1 6 rfl rfl)
theorem dX13_init_31 : decode cX13_init 31 = .ok (.putfield 31, 3) := dk_181 0 31 (dk_at dksX13_init_1 7 rfl rfl)
theorem dX13_init_34 : decode cX13_init 34 = .ok (.aload_n 0, 1) := dk_42 (dk_at dksX13_init_1 10 rfl rfl)
theorem dX13_init_35 : decode cX13_init 35 = .ok (.aload_n 1, 1) := dk_43 (dk_at dksX13_init_1 11 rfl rfl)
theorem dX13_init_36 : decode cX13_init 36 = .ok (.aload 4, 2) := dk_25 4 (dk_at dksX13_init_1 12 rfl rfl)
theorem dX13_init_38 : decode cX13_init 38 = .ok (.aload 4, 2) := dk_25 4 (dk_at dksX13_init_1 14 rfl rfl)
theorem dX13_init_40 : decode cX13_init 40 = .ok (.getfield 35, 3) := dk_180 0 35 (dk_at dksX13_init_1 16 rfl rfl)
theorem dX13_init_43 : decode cX13_init 43 = .ok (.aload_n 1, 1) := dk_43 (dk_at dksX13_init_1 19 rfl rfl)
theorem dX13_init_44 : decode cX13_init 44 = .ok (.aload_n 0, 1) := dk_42 (dk_at dksX13_init_1 20 rfl rfl)
theorem dX13_init_45 : decode cX13_init 45 = .ok (.getfield 7, 3) := dk_180 0 7 (dk_at dksX13_init_1 21 rfl rfl)
theorem dX13_init_48 : decode cX13_init 48 = .ok (.aload_n 0, 1) := dk_42 (dk_at dksX13_init_2 0 rfl rfl)
theorem dX13_init_49 : decode cX13_init 49 = .ok (.getfield 7, 3) := dk_180 0 7 (dk_at dksX13_init_2 1 rfl rfl)
theorem dX13_init_52 : decode cX13_init 52 = .ok (.getfield 38, 3) := dk_180 0 38 (dk_at dksX13_init_2 4 rfl rfl)
theorem dX13_init_55 : decode cX13_init 55 = .ok (.invokeinterface 43 1, 5) := by decide +kernel
theorem dX13_init_60 : decode cX13_init 60 = .ok (.invokevirtual 47, 3) := dk_182 0 47 (dk_at dksX13_init_2 12 rfl rfl)
theorem dX13_init_63 : decode cX13_init 63 = .ok (.invokevirtual 51, 3) := dk_182 0 51 (dk_at dksX13_init_2 15 rfl rfl)
theorem dX13_init_66 : decode cX13_init 66 = .ok (.putfield 55, 3) := dk_181 0 55 (dk_at dksX13_init_2 18 rfl rfl)
theorem dX13_init_69 : decode cX13_init 69 = .ok (.aload_n 0, 1) := dk_42 (dk_at dksX13_init_2 21 rfl rfl)
theorem dX13_init_70 : decode cX13_init 70 = .ok (.aload 4, 2) := dk_25 4 (dk_at dksX13_init_2 22 rfl rfl)
theorem dX13_init_72 : decode cX13_init 72 = .ok (.invokevirtual 57, 3) := dk_182 0 57 (dk_at dksX13_init_3 0 rfl rfl)
theorem dX13_init_75 : decode cX13_init 75 = .ok (.putfield 60, 3) := dk_181 0 60 (dk_at dksX13_init_3 3 rfl rfl)
theorem dX13_init_78 : decode cX13_init 78 = .ok (.return_, 1) := dk_177 (dk_at dksX13_init_3 6 rfl rfl)
abbrev cX13_isBetter : ByteArray := prog_15_method_2_code
def yX13_isBetter : MethodName := ⟨RX13, "isBetter", "(LBlockPapers$Workshop$1Offer;)Z"⟩
def dkwX13_isBetter_1 : List UInt8 := [180, 0, 60, 43, 180, 0, 60, 162, 0, 7, 4, 167, 0, 4, 3, 172]
abbrev dktX13_isBetter_1 : List UInt8 := dkwX13_isBetter_1 ++ []
def dkwX13_isBetter_0 : List UInt8 := [42, 180, 0, 55, 43, 180, 0, 55, 161, 0, 25, 42, 180, 0, 55, 43, 180, 0, 55, 160, 0, 18, 42]
abbrev dktX13_isBetter_0 : List UInt8 := dkwX13_isBetter_0 ++ dktX13_isBetter_1
theorem dksX13_isBetter_0 : cX13_isBetter.data.toList.drop 0 = dktX13_isBetter_0 := by decide +kernel
theorem dksX13_isBetter_1 : cX13_isBetter.data.toList.drop 23 = dktX13_isBetter_1 := dk_seg dksX13_isBetter_0 23 rfl rfl
theorem dX13_isBetter_0 : decode cX13_isBetter 0 = .ok (.aload_n 0, 1) := dk_42 (dk_at dksX13_isBetter_0 0 rfl rfl)
theorem dX13_isBetter_1 : decode cX13_isBetter 1 = .ok (.getfield 55, 3) := dk_180 0 55 (dk_at dksX13_isBetter_0 1 rfl rfl)
theorem dX13_isBetter_4 : decode cX13_isBetter 4 = .ok (.aload_n 1, 1) := dk_43 (dk_at dksX13_isBetter_0 4 rfl rfl)
theorem dX13_isBetter_5 : decode cX13_isBetter 5 = .ok (.getfield 55, 3) := dk_180 0 55 (dk_at dksX13_isBetter_0 5 rfl rfl)
theorem dX13_isBetter_8 : decode cX13_isBetter 8 = .ok (.if_icmp .lt 25, 3) := dk_161 0 25 (dk_at dksX13_isBetter_0 8 rfl rfl)
theorem dX13_isBetter_11 : decode cX13_isBetter 11 = .ok (.aload_n 0, 1) := dk_42 (dk_at dksX13_isBetter_0 11 rfl rfl)
theorem dX13_isBetter_12 : decode cX13_isBetter 12 = .ok (.getfield 55, 3) := dk_180 0 55 (dk_at dksX13_isBetter_0 12 rfl rfl)
theorem dX13_isBetter_15 : decode cX13_isBetter 15 = .ok (.aload_n 1, 1) := dk_43 (dk_at dksX13_isBetter_0 15 rfl rfl)
theorem dX13_isBetter_16 : decode cX13_isBetter 16 = .ok (.getfield 55, 3) := dk_180 0 55 (dk_at dksX13_isBetter_0 16 rfl rfl)
theorem dX13_isBetter_19 : decode cX13_isBetter 19 = .ok (.if_icmp .ne 18, 3) := dk_160 0 18 (dk_at dksX13_isBetter_0 19 rfl rfl)
theorem dX13_isBetter_22 : decode cX13_isBetter 22 = .ok (.aload_n 0, 1) := dk_42 (dk_at dksX13_isBetter_0 22 rfl rfl)
theorem dX13_isBetter_23 : decode cX13_isBetter 23 = .ok (.getfield 60, 3) := dk_180 0 60 (dk_at dksX13_isBetter_1 0 rfl rfl)
theorem dX13_isBetter_26 : decode cX13_isBetter 26 = .ok (.aload_n 1, 1) := dk_43 (dk_at dksX13_isBetter_1 3 rfl rfl)
theorem dX13_isBetter_27 : decode cX13_isBetter 27 = .ok (.getfield 60, 3) := dk_180 0 60 (dk_at dksX13_isBetter_1 4 rfl rfl)
theorem dX13_isBetter_30 : decode cX13_isBetter 30 = .ok (.if_icmp .ge 7, 3) := dk_162 0 7 (dk_at dksX13_isBetter_1 7 rfl rfl)
theorem dX13_isBetter_33 : decode cX13_isBetter 33 = .ok (.iconst 1, 1) := dk_4 (dk_at dksX13_isBetter_1 10 rfl rfl)
theorem dX13_isBetter_34 : decode cX13_isBetter 34 = .ok (.goto 4, 3) := dk_167 0 4 (dk_at dksX13_isBetter_1 11 rfl rfl)
theorem dX13_isBetter_37 : decode cX13_isBetter 37 = .ok (.iconst 0, 1) := dk_3 (dk_at dksX13_isBetter_1 14 rfl rfl)
theorem dX13_isBetter_38 : decode cX13_isBetter 38 = .ok (.ireturn, 1) := dk_172 (dk_at dksX13_isBetter_1 15 rfl rfl)
theorem q112 : (Jvm.Cond.initialized "BlockPapers$Workshop$1Offer") ∈ lw_all := lw_g (lw_at lw_m1 38 rfl) rfl
theorem q168 : (Jvm.Cond.fieldLinkNest "BlockPapers$Workshop$1Offer" (17 : Nat) "BlockPapers$Workshop" "rolls" "Ljava/util/List;" "BlockPapers") ∈ lw_tbl := lw_at lw_m1 94 rfl
theorem q833 : (Jvm.Cond.selects "BlockPapers$Workshop$1Offer" ({ cls := "java/lang/Object", name := "getClass", desc := "()Ljava/lang/Class;" } : Jvm.MethodName) ({ cls := "java/lang/Object", name := "getClass", desc := "()Ljava/lang/Class;" } : Jvm.MethodName)) ∈ lw_all := lw_g (lw_at lw_m4 39 rfl) rfl
theorem q880 : (Jvm.Cond.fieldLinkNest "BlockPapers$Workshop$1Offer" (38 : Nat) "BlockPapers$Room" "drops" "Ljava/util/List;" "BlockPapers") ∈ lw_tbl := lw_at lw_m4 86 rfl
theorem q1254 : (Jvm.Cond.fieldLinkNest "BlockPapers$Workshop$1Offer" (35 : Nat) "BlockPapers$Roll" "used" "I" "BlockPapers") ∈ lw_tbl := lw_at lw_m5 220 rfl
theorem q1447 : (Jvm.Cond.instantiable "BlockPapers$Workshop$1Offer" (5 : Nat)) ∈ lw_all := lw_g (lw_at lw_m6 173 rfl) rfl
theorem q1449 : (Jvm.Cond.instanceMethod ({ cls := "BlockPapers$Workshop$1Offer", name := "<init>", desc := "(LBlockPapers$Workshop;ILBlockPapers$Room;)V" } : Jvm.MethodName)) ∈ lw_all := lw_g (lw_at lw_m6 175 rfl) rfl
theorem q1450 : (Jvm.Cond.code ({ cls := "BlockPapers$Workshop$1Offer", name := "<init>", desc := "(LBlockPapers$Workshop;ILBlockPapers$Room;)V" } : Jvm.MethodName) prog_15_method_1_code (5 : Nat) (Option.none : Option Jvm.ClassFile.FieldType)) ∈ lw_all := lw_g (lw_at lw_m6 176 rfl) rfl
theorem q1451 : (Jvm.Cond.methodLink "BlockPapers$Workshop$1Offer" (11 : Nat) ({ cls := "java/lang/Object", name := "<init>", desc := "()V" } : Jvm.MethodName)) ∈ lw_all := lw_g (lw_at lw_m6 177 rfl) rfl
theorem q1452 : (Jvm.Cond.interfaceEntry "BlockPapers$Workshop$1Offer" (23 : Nat)) ∈ lw_tbl := lw_at lw_m6 178 rfl
theorem q1453 : (Jvm.Cond.methodLink "BlockPapers$Workshop$1Offer" (23 : Nat) ({ cls := "java/util/List", name := "get", desc := "(I)Ljava/lang/Object;" } : Jvm.MethodName)) ∈ lw_all := lw_g (lw_at lw_m6 179 rfl) rfl
theorem q1454 : (Jvm.Cond.classLink "BlockPapers$Workshop$1Offer" (29 : Nat) "BlockPapers$Roll") ∈ lw_all := lw_g (lw_at lw_m6 180 rfl) rfl
theorem q1455 : (Jvm.Cond.interfaceEntry "BlockPapers$Workshop$1Offer" (43 : Nat)) ∈ lw_tbl := lw_at lw_m6 181 rfl
theorem q1456 : (Jvm.Cond.methodLink "BlockPapers$Workshop$1Offer" (43 : Nat) ({ cls := "java/util/List", name := "size", desc := "()I" } : Jvm.MethodName)) ∈ lw_all := lw_g (lw_at lw_m6 182 rfl) rfl
theorem q1457 : (Jvm.Cond.methodLink "BlockPapers$Workshop$1Offer" (47 : Nat) ({ cls := "BlockPapers$Workshop", name := "begin", desc := "(LBlockPapers$Room;I)I" } : Jvm.MethodName)) ∈ lw_all := lw_g (lw_at lw_m6 183 rfl) rfl
theorem q1458 : (Jvm.Cond.methodLinkNest "BlockPapers$Workshop$1Offer" (51 : Nat) ({ cls := "BlockPapers$Workshop", name := "waste", desc := "(LBlockPapers$Roll;II)I" } : Jvm.MethodName) "BlockPapers") ∈ lw_tbl := lw_at lw_m6 184 rfl
theorem q1459 : (Jvm.Cond.methodLink "BlockPapers$Workshop$1Offer" (57 : Nat) ({ cls := "BlockPapers$Roll", name := "left", desc := "()I" } : Jvm.MethodName)) ∈ lw_all := lw_g (lw_at lw_m6 185 rfl) rfl
theorem q1460 : (Jvm.Cond.fieldLink "BlockPapers$Workshop$1Offer" (31 : Nat) "BlockPapers$Workshop$1Offer" "number" "I") ∈ lw_all := lw_g (lw_at lw_m6 186 rfl) rfl
theorem q1462 : (Jvm.Cond.fieldLink "BlockPapers$Workshop$1Offer" (55 : Nat) "BlockPapers$Workshop$1Offer" "waste" "I") ∈ lw_all := lw_g (lw_at lw_m6 188 rfl) rfl
theorem q1463 : (Jvm.Cond.fieldLink "BlockPapers$Workshop$1Offer" (60 : Nat) "BlockPapers$Workshop$1Offer" "left" "I") ∈ lw_all := lw_g (lw_at lw_m6 189 rfl) rfl
theorem q1464 : (Jvm.Cond.fieldLink "BlockPapers$Workshop$1Offer" (7 : Nat) "BlockPapers$Workshop$1Offer" "val$room" "LBlockPapers$Room;") ∈ lw_all := lw_g (lw_at lw_m6 190 rfl) rfl
theorem q1465 : (Jvm.Cond.fieldLink "BlockPapers$Workshop$1Offer" (1 : Nat) "BlockPapers$Workshop$1Offer" "this$0" "LBlockPapers$Workshop;") ∈ lw_all := lw_g (lw_at lw_m6 191 rfl) rfl
theorem q1466 : (Jvm.Cond.laysFinal "BlockPapers$Workshop$1Offer" "BlockPapers$Workshop$1Offer" "number" "I") ∈ lw_all := lw_g (lw_at lw_m6 192 rfl) rfl
theorem q1467 : (Jvm.Cond.soleField "BlockPapers$Workshop$1Offer" "number") ∈ lw_all := lw_g (lw_at lw_m6 193 rfl) rfl
theorem q1468 : (Jvm.Cond.laysFinal "BlockPapers$Workshop$1Offer" "BlockPapers$Workshop$1Offer" "waste" "I") ∈ lw_all := lw_g (lw_at lw_m6 194 rfl) rfl
theorem q1469 : (Jvm.Cond.soleField "BlockPapers$Workshop$1Offer" "waste") ∈ lw_all := lw_g (lw_at lw_m6 195 rfl) rfl
theorem q1470 : (Jvm.Cond.laysFinal "BlockPapers$Workshop$1Offer" "BlockPapers$Workshop$1Offer" "left" "I") ∈ lw_all := lw_g (lw_at lw_m6 196 rfl) rfl
theorem q1471 : (Jvm.Cond.soleField "BlockPapers$Workshop$1Offer" "left") ∈ lw_all := lw_g (lw_at lw_m6 197 rfl) rfl
theorem q1472 : (Jvm.Cond.laysFinal "BlockPapers$Workshop$1Offer" "BlockPapers$Workshop$1Offer" "val$room" "LBlockPapers$Room;") ∈ lw_all := lw_g (lw_at lw_m6 198 rfl) rfl
theorem q1473 : (Jvm.Cond.soleField "BlockPapers$Workshop$1Offer" "val$room") ∈ lw_all := lw_g (lw_at lw_m6 199 rfl) rfl
theorem q1474 : (Jvm.Cond.laysFinal "BlockPapers$Workshop$1Offer" "BlockPapers$Workshop$1Offer" "this$0" "LBlockPapers$Workshop;") ∈ lw_all := lw_g (lw_at lw_m6 200 rfl) rfl
theorem q1475 : (Jvm.Cond.soleField "BlockPapers$Workshop$1Offer" "this$0") ∈ lw_all := lw_g (lw_at lw_m6 201 rfl) rfl
theorem q1476 : (Jvm.Cond.superclass "BlockPapers$Workshop$1Offer" "java/lang/Object") ∈ lw_all := lw_g (lw_at lw_m6 202 rfl) rfl
theorem q1478 : (Jvm.Cond.instanceMethod ({ cls := "BlockPapers$Workshop$1Offer", name := "isBetter", desc := "(LBlockPapers$Workshop$1Offer;)Z" } : Jvm.MethodName)) ∈ lw_all := lw_g (lw_at lw_m6 204 rfl) rfl
theorem q1479 : (Jvm.Cond.selects "BlockPapers$Workshop$1Offer" ({ cls := "BlockPapers$Workshop$1Offer", name := "isBetter", desc := "(LBlockPapers$Workshop$1Offer;)Z" } : Jvm.MethodName) ({ cls := "BlockPapers$Workshop$1Offer", name := "isBetter", desc := "(LBlockPapers$Workshop$1Offer;)Z" } : Jvm.MethodName)) ∈ lw_all := lw_g (lw_at lw_m6 205 rfl) rfl
theorem q1480 : (Jvm.Cond.code ({ cls := "BlockPapers$Workshop$1Offer", name := "isBetter", desc := "(LBlockPapers$Workshop$1Offer;)Z" } : Jvm.MethodName) prog_15_method_2_code (2 : Nat) (Option.some Jvm.ClassFile.FieldType.boolean)) ∈ lw_all := lw_g (lw_at lw_m6 206 rfl) rfl
theorem q2718 : (Jvm.Cond.castable "BlockPapers$Workshop$1Offer" "java/lang/Object") ∈ lw_tbl := lw_at lw_m12 4 rfl
theorem in_X13 : ∀ w ∈ wsX130, w ∈ lw_all := lw_in wsX130 [1466, 1468, 1470, 1472, 1474] (by decide +kernel) (by decide +kernel)
/-! BlockPapers$Workshop$Hanging -/
set_option maxRecDepth 100000
def RX14 : String := "BlockPapers$Workshop$Hanging"
def TX14 : u_T := fun k => match k with
  | _ => ("BlockPapers$Workshop$Hanging", "this$0", "LBlockPapers$Workshop;", true)
def tyX14 : Nat → FieldType := fun k => match k with
  | _ => .object "BlockPapers$Workshop"
abbrev wsX140 : List Cond := u_ws RX14 TX14 1
theorem nmX14 : ∀ a, a < 1 → ∀ b, b < 1 → a ≠ b → (TX14 a).2.1 ≠ (TX14 b).2.1 := by decide +kernel
theorem tyX14_ok : ∀ k, k < 1 → parseFieldDescriptor (TX14 k).2.2.1 = some (tyX14 k) := by decide +kernel
abbrev cX14_init : ByteArray := prog_16_method_1_code
def yX14_init : MethodName := ⟨RX14, "<init>", "(LBlockPapers$Workshop;)V"⟩
def dkwX14_init_0 : List UInt8 := [42, 43, 181, 0, 1, 42, 183, 0, 7, 177]
abbrev dktX14_init_0 : List UInt8 := dkwX14_init_0 ++ []
theorem dksX14_init_0 : cX14_init.data.toList.drop 0 = dktX14_init_0 := by decide +kernel
theorem dX14_init_0 : decode cX14_init 0 = .ok (.aload_n 0, 1) := dk_42 (dk_at dksX14_init_0 0 rfl rfl)
theorem dX14_init_1 : decode cX14_init 1 = .ok (.aload_n 1, 1) := dk_43 (dk_at dksX14_init_0 1 rfl rfl)
theorem dX14_init_2 : decode cX14_init 2 = .ok (.putfield 1, 3) := dk_181 0 1 (dk_at dksX14_init_0 2 rfl rfl)
theorem dX14_init_5 : decode cX14_init 5 = .ok (.aload_n 0, 1) := dk_42 (dk_at dksX14_init_0 5 rfl rfl)
theorem dX14_init_6 : decode cX14_init 6 = .ok (.invokespecial 7, 3) := dk_183 0 7 (dk_at dksX14_init_0 6 rfl rfl)
theorem dX14_init_9 : decode cX14_init 9 = .ok (.return_, 1) := dk_177 (dk_at dksX14_init_0 9 rfl rfl)
abbrev cX14_iterator : ByteArray := prog_16_method_2_code
def yX14_iterator : MethodName := ⟨RX14, "iterator", "()Ljava/util/Iterator;"⟩
def dkwX14_iterator_0 : List UInt8 := [187, 0, 13, 89, 42, 183, 0, 15, 176]
abbrev dktX14_iterator_0 : List UInt8 := dkwX14_iterator_0 ++ []
theorem dksX14_iterator_0 : cX14_iterator.data.toList.drop 0 = dktX14_iterator_0 := by decide +kernel
theorem dX14_iterator_0 : decode cX14_iterator 0 = .ok (.new 13, 3) := dk_187 0 13 (dk_at dksX14_iterator_0 0 rfl rfl)
theorem dX14_iterator_3 : decode cX14_iterator 3 = .ok (.dup, 1) := dk_89 (dk_at dksX14_iterator_0 3 rfl rfl)
theorem dX14_iterator_4 : decode cX14_iterator 4 = .ok (.aload_n 0, 1) := dk_42 (dk_at dksX14_iterator_0 4 rfl rfl)
theorem dX14_iterator_5 : decode cX14_iterator 5 = .ok (.invokespecial 15, 3) := dk_183 0 15 (dk_at dksX14_iterator_0 5 rfl rfl)
theorem dX14_iterator_8 : decode cX14_iterator 8 = .ok (.areturn, 1) := dk_176 (dk_at dksX14_iterator_0 8 rfl rfl)
theorem q115 : (Jvm.Cond.initialized "BlockPapers$Workshop$Hanging") ∈ lw_all := lw_g (lw_at lw_m1 41 rfl) rfl
theorem q473 : (Jvm.Cond.instantiable "BlockPapers$Workshop$Hanging" (1 : Nat)) ∈ lw_all := lw_g (lw_at lw_m2 159 rfl) rfl
theorem q475 : (Jvm.Cond.instanceMethod ({ cls := "BlockPapers$Workshop$Hanging", name := "<init>", desc := "(LBlockPapers$Workshop;)V" } : Jvm.MethodName)) ∈ lw_all := lw_g (lw_at lw_m2 161 rfl) rfl
theorem q476 : (Jvm.Cond.code ({ cls := "BlockPapers$Workshop$Hanging", name := "<init>", desc := "(LBlockPapers$Workshop;)V" } : Jvm.MethodName) prog_16_method_1_code (2 : Nat) (Option.none : Option Jvm.ClassFile.FieldType)) ∈ lw_all := lw_g (lw_at lw_m2 162 rfl) rfl
theorem q477 : (Jvm.Cond.methodLink "BlockPapers$Workshop$Hanging" (7 : Nat) ({ cls := "java/lang/Object", name := "<init>", desc := "()V" } : Jvm.MethodName)) ∈ lw_all := lw_g (lw_at lw_m2 163 rfl) rfl
theorem q478 : (Jvm.Cond.fieldLink "BlockPapers$Workshop$Hanging" (1 : Nat) "BlockPapers$Workshop$Hanging" "this$0" "LBlockPapers$Workshop;") ∈ lw_all := lw_g (lw_at lw_m2 164 rfl) rfl
theorem q480 : (Jvm.Cond.laysFinal "BlockPapers$Workshop$Hanging" "BlockPapers$Workshop$Hanging" "this$0" "LBlockPapers$Workshop;") ∈ lw_all := lw_g (lw_at lw_m2 166 rfl) rfl
theorem q481 : (Jvm.Cond.soleField "BlockPapers$Workshop$Hanging" "this$0") ∈ lw_all := lw_g (lw_at lw_m2 167 rfl) rfl
theorem q482 : (Jvm.Cond.superclass "BlockPapers$Workshop$Hanging" "java/lang/Object") ∈ lw_all := lw_g (lw_at lw_m2 168 rfl) rfl
theorem q484 : (Jvm.Cond.instanceMethod ({ cls := "BlockPapers$Workshop$Hanging", name := "iterator", desc := "()Ljava/util/Iterator;" } : Jvm.MethodName)) ∈ lw_all := lw_g (lw_at lw_m2 170 rfl) rfl
theorem q485 : (Jvm.Cond.selects "BlockPapers$Workshop$Hanging" ({ cls := "BlockPapers$Workshop$Hanging", name := "iterator", desc := "()Ljava/util/Iterator;" } : Jvm.MethodName) ({ cls := "BlockPapers$Workshop$Hanging", name := "iterator", desc := "()Ljava/util/Iterator;" } : Jvm.MethodName)) ∈ lw_all := lw_g (lw_at lw_m2 171 rfl) rfl
theorem q486 : (Jvm.Cond.code ({ cls := "BlockPapers$Workshop$Hanging", name := "iterator", desc := "()Ljava/util/Iterator;" } : Jvm.MethodName) prog_16_method_2_code (1 : Nat) (Option.some (Jvm.ClassFile.FieldType.object "java/util/Iterator"))) ∈ lw_all := lw_g (lw_at lw_m2 172 rfl) rfl
theorem q487 : (Jvm.Cond.classLink "BlockPapers$Workshop$Hanging" (13 : Nat) "BlockPapers$Workshop$Hanging$Walk") ∈ lw_all := lw_g (lw_at lw_m2 173 rfl) rfl
theorem q489 : (Jvm.Cond.methodLinkNest "BlockPapers$Workshop$Hanging" (15 : Nat) ({ cls := "BlockPapers$Workshop$Hanging$Walk", name := "<init>", desc := "(LBlockPapers$Workshop$Hanging;)V" } : Jvm.MethodName) "BlockPapers") ∈ lw_tbl := lw_at lw_m2 175 rfl
theorem q834 : (Jvm.Cond.selects "BlockPapers$Workshop$Hanging" ({ cls := "java/lang/Object", name := "getClass", desc := "()Ljava/lang/Class;" } : Jvm.MethodName) ({ cls := "java/lang/Object", name := "getClass", desc := "()Ljava/lang/Class;" } : Jvm.MethodName)) ∈ lw_all := lw_g (lw_at lw_m4 40 rfl) rfl
theorem q2723 : (Jvm.Cond.castable "BlockPapers$Workshop$Hanging" "java/lang/Object") ∈ lw_tbl := lw_at lw_m12 9 rfl
theorem in_X14 : ∀ w ∈ wsX140, w ∈ lw_all := lw_in wsX140 [480] (by decide +kernel) (by decide +kernel)
/-! BlockPapers$Workshop$Hanging$Walk -/
set_option maxRecDepth 100000
def RX15 : String := "BlockPapers$Workshop$Hanging$Walk"
def TX15 : u_T := fun k => match k with
  | 0 => ("BlockPapers$Workshop$Hanging$Walk", "room", "I", false)
  | 1 => ("BlockPapers$Workshop$Hanging$Walk", "drop", "I", false)
  | _ => ("BlockPapers$Workshop$Hanging$Walk", "this$1", "LBlockPapers$Workshop$Hanging;", true)
def tyX15 : Nat → FieldType := fun k => match k with
  | 0 => .int
  | 1 => .int
  | _ => .object "BlockPapers$Workshop$Hanging"
abbrev wsX150 : List Cond := u_ws RX15 TX15 3
theorem nmX15 : ∀ a, a < 3 → ∀ b, b < 3 → a ≠ b → (TX15 a).2.1 ≠ (TX15 b).2.1 := by decide +kernel
theorem tyX15_ok : ∀ k, k < 3 → parseFieldDescriptor (TX15 k).2.2.1 = some (tyX15 k) := by decide +kernel
abbrev cX15_hasNext : ByteArray := prog_17_method_2_code
def yX15_hasNext : MethodName := ⟨RX15, "hasNext", "()Z"⟩
def dkwX15_hasNext_4 : List UInt8 := [185, 0, 29, 1, 0, 162, 0, 7, 4, 167, 0, 4, 3, 172]
abbrev dktX15_hasNext_4 : List UInt8 := dkwX15_hasNext_4 ++ []
def dkwX15_hasNext_3 : List UInt8 := [42, 3, 181, 0, 35, 167, 255, 182, 42, 180, 0, 13, 42, 180, 0, 1, 180, 0, 17, 180, 0, 23]
abbrev dktX15_hasNext_3 : List UInt8 := dkwX15_hasNext_3 ++ dktX15_hasNext_4
def dkwX15_hasNext_2 : List UInt8 := [192, 0, 42, 180, 0, 44, 185, 0, 29, 1, 0, 160, 0, 21, 42, 89, 180, 0, 13, 4, 96, 181, 0, 13]
abbrev dktX15_hasNext_2 : List UInt8 := dkwX15_hasNext_2 ++ dktX15_hasNext_3
def dkwX15_hasNext_1 : List UInt8 := [180, 0, 35, 42, 180, 0, 1, 180, 0, 17, 180, 0, 23, 42, 180, 0, 13, 185, 0, 38, 2, 0]
abbrev dktX15_hasNext_1 : List UInt8 := dkwX15_hasNext_1 ++ dktX15_hasNext_2
def dkwX15_hasNext_0 : List UInt8 := [42, 180, 0, 13, 42, 180, 0, 1, 180, 0, 17, 180, 0, 23, 185, 0, 29, 1, 0, 162, 0, 58, 42]
abbrev dktX15_hasNext_0 : List UInt8 := dkwX15_hasNext_0 ++ dktX15_hasNext_1
theorem dksX15_hasNext_0 : cX15_hasNext.data.toList.drop 0 = dktX15_hasNext_0 := by decide +kernel
theorem dksX15_hasNext_1 : cX15_hasNext.data.toList.drop 23 = dktX15_hasNext_1 := dk_seg dksX15_hasNext_0 23 rfl rfl
theorem dksX15_hasNext_2 : cX15_hasNext.data.toList.drop 45 = dktX15_hasNext_2 := dk_seg dksX15_hasNext_1 22 rfl rfl
theorem dksX15_hasNext_3 : cX15_hasNext.data.toList.drop 69 = dktX15_hasNext_3 := dk_seg dksX15_hasNext_2 24 rfl rfl
theorem dksX15_hasNext_4 : cX15_hasNext.data.toList.drop 91 = dktX15_hasNext_4 := dk_seg dksX15_hasNext_3 22 rfl rfl
theorem dX15_hasNext_0 : decode cX15_hasNext 0 = .ok (.aload_n 0, 1) := dk_42 (dk_at dksX15_hasNext_0 0 rfl rfl)
theorem dX15_hasNext_1 : decode cX15_hasNext 1 = .ok (.getfield 13, 3) := dk_180 0 13 (dk_at dksX15_hasNext_0 1 rfl rfl)
theorem dX15_hasNext_4 : decode cX15_hasNext 4 = .ok (.aload_n 0, 1) := dk_42 (dk_at dksX15_hasNext_0 4 rfl rfl)
theorem dX15_hasNext_5 : decode cX15_hasNext 5 = .ok (.getfield 1, 3) := dk_180 0 1 (dk_at dksX15_hasNext_0 5 rfl rfl)
theorem dX15_hasNext_8 : decode cX15_hasNext 8 = .ok (.getfield 17, 3) := dk_180 0 17 (dk_at dksX15_hasNext_0 8 rfl rfl)
theorem dX15_hasNext_11 : decode cX15_hasNext 11 = .ok (.getfield 23, 3) := dk_180 0 23 (dk_at dksX15_hasNext_0 11 rfl rfl)
theorem dX15_hasNext_14 : decode cX15_hasNext 14 = .ok (.invokeinterface 29 1, 5) := by decide +kernel
theorem dX15_hasNext_19 : decode cX15_hasNext 19 = .ok (.if_icmp .ge 58, 3) := dk_162 0 58 (dk_at dksX15_hasNext_0 19 rfl rfl)
theorem dX15_hasNext_22 : decode cX15_hasNext 22 = .ok (.aload_n 0, 1) := dk_42 (dk_at dksX15_hasNext_0 22 rfl rfl)
theorem dX15_hasNext_23 : decode cX15_hasNext 23 = .ok (.getfield 35, 3) := dk_180 0 35 (dk_at dksX15_hasNext_1 0 rfl rfl)
theorem dX15_hasNext_26 : decode cX15_hasNext 26 = .ok (.aload_n 0, 1) := dk_42 (dk_at dksX15_hasNext_1 3 rfl rfl)
theorem dX15_hasNext_27 : decode cX15_hasNext 27 = .ok (.getfield 1, 3) := dk_180 0 1 (dk_at dksX15_hasNext_1 4 rfl rfl)
theorem dX15_hasNext_30 : decode cX15_hasNext 30 = .ok (.getfield 17, 3) := dk_180 0 17 (dk_at dksX15_hasNext_1 7 rfl rfl)
theorem dX15_hasNext_33 : decode cX15_hasNext 33 = .ok (.getfield 23, 3) := dk_180 0 23 (dk_at dksX15_hasNext_1 10 rfl rfl)
theorem dX15_hasNext_36 : decode cX15_hasNext 36 = .ok (.aload_n 0, 1) := dk_42 (dk_at dksX15_hasNext_1 13 rfl rfl)
theorem dX15_hasNext_37 : decode cX15_hasNext 37 = .ok (.getfield 13, 3) := dk_180 0 13 (dk_at dksX15_hasNext_1 14 rfl rfl)
theorem dX15_hasNext_40 : decode cX15_hasNext 40 = .ok (.invokeinterface 38 2, 5) := by decide +kernel
theorem dX15_hasNext_45 : decode cX15_hasNext 45 = .ok (.checkcast 42, 3) := dk_192 0 42 (dk_at dksX15_hasNext_2 0 rfl rfl)
theorem dX15_hasNext_48 : decode cX15_hasNext 48 = .ok (.getfield 44, 3) := dk_180 0 44 (dk_at dksX15_hasNext_2 3 rfl rfl)
theorem dX15_hasNext_51 : decode cX15_hasNext 51 = .ok (.invokeinterface 29 1, 5) := by decide +kernel
theorem dX15_hasNext_56 : decode cX15_hasNext 56 = .ok (.if_icmp .ne 21, 3) := dk_160 0 21 (dk_at dksX15_hasNext_2 11 rfl rfl)
theorem dX15_hasNext_59 : decode cX15_hasNext 59 = .ok (.aload_n 0, 1) := dk_42 (dk_at dksX15_hasNext_2 14 rfl rfl)
theorem dX15_hasNext_60 : decode cX15_hasNext 60 = .ok (.dup, 1) := dk_89 (dk_at dksX15_hasNext_2 15 rfl rfl)
theorem dX15_hasNext_61 : decode cX15_hasNext 61 = .ok (.getfield 13, 3) := dk_180 0 13 (dk_at dksX15_hasNext_2 16 rfl rfl)
theorem dX15_hasNext_64 : decode cX15_hasNext 64 = .ok (.iconst 1, 1) := dk_4 (dk_at dksX15_hasNext_2 19 rfl rfl)
theorem dX15_hasNext_65 : decode cX15_hasNext 65 = .ok (.iadd, 1) := dk_96 (dk_at dksX15_hasNext_2 20 rfl rfl)
theorem dX15_hasNext_66 : decode cX15_hasNext 66 = .ok (.putfield 13, 3) := dk_181 0 13 (dk_at dksX15_hasNext_2 21 rfl rfl)
theorem dX15_hasNext_69 : decode cX15_hasNext 69 = .ok (.aload_n 0, 1) := dk_42 (dk_at dksX15_hasNext_3 0 rfl rfl)
theorem dX15_hasNext_70 : decode cX15_hasNext 70 = .ok (.iconst 0, 1) := dk_3 (dk_at dksX15_hasNext_3 1 rfl rfl)
theorem dX15_hasNext_71 : decode cX15_hasNext 71 = .ok (.putfield 35, 3) := dk_181 0 35 (dk_at dksX15_hasNext_3 2 rfl rfl)
theorem dX15_hasNext_74 : decode cX15_hasNext 74 = .ok (.goto (-74), 3) := dk_167 255 182 (dk_at dksX15_hasNext_3 5 rfl rfl)
theorem dX15_hasNext_77 : decode cX15_hasNext 77 = .ok (.aload_n 0, 1) := dk_42 (dk_at dksX15_hasNext_3 8 rfl rfl)
theorem dX15_hasNext_78 : decode cX15_hasNext 78 = .ok (.getfield 13, 3) := dk_180 0 13 (dk_at dksX15_hasNext_3 9 rfl rfl)
theorem dX15_hasNext_81 : decode cX15_hasNext 81 = .ok (.aload_n 0, 1) := dk_42 (dk_at dksX15_hasNext_3 12 rfl rfl)
theorem dX15_hasNext_82 : decode cX15_hasNext 82 = .ok (.getfield 1, 3) := dk_180 0 1 (dk_at dksX15_hasNext_3 13 rfl rfl)
theorem dX15_hasNext_85 : decode cX15_hasNext 85 = .ok (.getfield 17, 3) := dk_180 0 17 (dk_at dksX15_hasNext_3 16 rfl rfl)
theorem dX15_hasNext_88 : decode cX15_hasNext 88 = .ok (.getfield 23, 3) := dk_180 0 23 (dk_at dksX15_hasNext_3 19 rfl rfl)
theorem dX15_hasNext_91 : decode cX15_hasNext 91 = .ok (.invokeinterface 29 1, 5) := by decide +kernel
theorem dX15_hasNext_96 : decode cX15_hasNext 96 = .ok (.if_icmp .ge 7, 3) := dk_162 0 7 (dk_at dksX15_hasNext_4 5 rfl rfl)
theorem dX15_hasNext_99 : decode cX15_hasNext 99 = .ok (.iconst 1, 1) := dk_4 (dk_at dksX15_hasNext_4 8 rfl rfl)
theorem dX15_hasNext_100 : decode cX15_hasNext 100 = .ok (.goto 4, 3) := dk_167 0 4 (dk_at dksX15_hasNext_4 9 rfl rfl)
theorem dX15_hasNext_103 : decode cX15_hasNext 103 = .ok (.iconst 0, 1) := dk_3 (dk_at dksX15_hasNext_4 12 rfl rfl)
theorem dX15_hasNext_104 : decode cX15_hasNext 104 = .ok (.ireturn, 1) := dk_172 (dk_at dksX15_hasNext_4 13 rfl rfl)
abbrev cX15_next : ByteArray := prog_17_method_4_code
def yX15_next : MethodName := ⟨RX15, "next", "()Ljava/lang/Object;"⟩
theorem dX15_next_0 : decode cX15_next 0 = .ok (.aload_n 0, 1) := by decide +kernel
theorem dX15_next_1 : decode cX15_next 1 = .ok (.invokevirtual 59, 3) := by decide +kernel
theorem dX15_next_4 : decode cX15_next 4 = .ok (.areturn, 1) := by decide +kernel
abbrev cX15_next_2 : ByteArray := prog_17_method_3_code
def yX15_next_2 : MethodName := ⟨RX15, "next", "()LBlockPapers$Drop;"⟩
def dkwX15_next_2_2 : List UInt8 := [185, 0, 38, 2, 0, 192, 0, 57, 176]
abbrev dktX15_next_2_2 : List UInt8 := dkwX15_next_2_2 ++ []
def dkwX15_next_2_1 : List UInt8 := [180, 0, 23, 42, 180, 0, 13, 185, 0, 38, 2, 0, 192, 0, 42, 180, 0, 44, 42, 180, 0, 35, 4, 100]
abbrev dktX15_next_2_1 : List UInt8 := dkwX15_next_2_1 ++ dktX15_next_2_2
def dkwX15_next_2_0 : List UInt8 := [42, 182, 0, 47, 184, 0, 51, 42, 89, 180, 0, 35, 4, 96, 181, 0, 35, 42, 180, 0, 1, 180, 0, 17]
abbrev dktX15_next_2_0 : List UInt8 := dkwX15_next_2_0 ++ dktX15_next_2_1
theorem dksX15_next_2_0 : cX15_next_2.data.toList.drop 0 = dktX15_next_2_0 := by decide +kernel
theorem dksX15_next_2_1 : cX15_next_2.data.toList.drop 24 = dktX15_next_2_1 := dk_seg dksX15_next_2_0 24 rfl rfl
theorem dksX15_next_2_2 : cX15_next_2.data.toList.drop 48 = dktX15_next_2_2 := dk_seg dksX15_next_2_1 24 rfl rfl
theorem dX15_next_2_0 : decode cX15_next_2 0 = .ok (.aload_n 0, 1) := dk_42 (dk_at dksX15_next_2_0 0 rfl rfl)
theorem dX15_next_2_1 : decode cX15_next_2 1 = .ok (.invokevirtual 47, 3) := dk_182 0 47 (dk_at dksX15_next_2_0 1 rfl rfl)
theorem dX15_next_2_4 : decode cX15_next_2 4 = .ok (.invokestatic 51, 3) := dk_184 0 51 (dk_at dksX15_next_2_0 4 rfl rfl)
theorem dX15_next_2_7 : decode cX15_next_2 7 = .ok (.aload_n 0, 1) := dk_42 (dk_at dksX15_next_2_0 7 rfl rfl)
theorem dX15_next_2_8 : decode cX15_next_2 8 = .ok (.dup, 1) := dk_89 (dk_at dksX15_next_2_0 8 rfl rfl)
theorem dX15_next_2_9 : decode cX15_next_2 9 = .ok (.getfield 35, 3) := dk_180 0 35 (dk_at dksX15_next_2_0 9 rfl rfl)
theorem dX15_next_2_12 : decode cX15_next_2 12 = .ok (.iconst 1, 1) := dk_4 (dk_at dksX15_next_2_0 12 rfl rfl)
theorem dX15_next_2_13 : decode cX15_next_2 13 = .ok (.iadd, 1) := dk_96 (dk_at dksX15_next_2_0 13 rfl rfl)
theorem dX15_next_2_14 : decode cX15_next_2 14 = .ok (.putfield 35, 3) := dk_181 0 35 (dk_at dksX15_next_2_0 14 rfl rfl)
theorem dX15_next_2_17 : decode cX15_next_2 17 = .ok (.aload_n 0, 1) := dk_42 (dk_at dksX15_next_2_0 17 rfl rfl)
theorem dX15_next_2_18 : decode cX15_next_2 18 = .ok (.getfield 1, 3) := dk_180 0 1 (dk_at dksX15_next_2_0 18 rfl rfl)
theorem dX15_next_2_21 : decode cX15_next_2 21 = .ok (.getfield 17, 3) := dk_180 0 17 (dk_at dksX15_next_2_0 21 rfl rfl)
theorem dX15_next_2_24 : decode cX15_next_2 24 = .ok (.getfield 23, 3) := dk_180 0 23 (dk_at dksX15_next_2_1 0 rfl rfl)
theorem dX15_next_2_27 : decode cX15_next_2 27 = .ok (.aload_n 0, 1) := dk_42 (dk_at dksX15_next_2_1 3 rfl rfl)
theorem dX15_next_2_28 : decode cX15_next_2 28 = .ok (.getfield 13, 3) := dk_180 0 13 (dk_at dksX15_next_2_1 4 rfl rfl)
theorem dX15_next_2_31 : decode cX15_next_2 31 = .ok (.invokeinterface 38 2, 5) := by decide +kernel
theorem dX15_next_2_36 : decode cX15_next_2 36 = .ok (.checkcast 42, 3) := dk_192 0 42 (dk_at dksX15_next_2_1 12 rfl rfl)
theorem dX15_next_2_39 : decode cX15_next_2 39 = .ok (.getfield 44, 3) := dk_180 0 44 (dk_at dksX15_next_2_1 15 rfl rfl)
theorem dX15_next_2_42 : decode cX15_next_2 42 = .ok (.aload_n 0, 1) := dk_42 (dk_at dksX15_next_2_1 18 rfl rfl)
theorem dX15_next_2_43 : decode cX15_next_2 43 = .ok (.getfield 35, 3) := dk_180 0 35 (dk_at dksX15_next_2_1 19 rfl rfl)
theorem dX15_next_2_46 : decode cX15_next_2 46 = .ok (.iconst 1, 1) := dk_4 (dk_at dksX15_next_2_1 22 rfl rfl)
theorem dX15_next_2_47 : decode cX15_next_2 47 = .ok (.isub, 1) := dk_100 (dk_at dksX15_next_2_1 23 rfl rfl)
theorem dX15_next_2_48 : decode cX15_next_2 48 = .ok (.invokeinterface 38 2, 5) := by decide +kernel
theorem dX15_next_2_53 : decode cX15_next_2 53 = .ok (.checkcast 57, 3) := dk_192 0 57 (dk_at dksX15_next_2_2 5 rfl rfl)
theorem dX15_next_2_56 : decode cX15_next_2 56 = .ok (.areturn, 1) := dk_176 (dk_at dksX15_next_2_2 8 rfl rfl)
abbrev cX15_init : ByteArray := prog_17_method_1_code
def yX15_init : MethodName := ⟨RX15, "<init>", "(LBlockPapers$Workshop$Hanging;)V"⟩
def dkwX15_init_0 : List UInt8 := [42, 43, 181, 0, 1, 42, 183, 0, 7, 177]
abbrev dktX15_init_0 : List UInt8 := dkwX15_init_0 ++ []
theorem dksX15_init_0 : cX15_init.data.toList.drop 0 = dktX15_init_0 := by decide +kernel
theorem dX15_init_0 : decode cX15_init 0 = .ok (.aload_n 0, 1) := dk_42 (dk_at dksX15_init_0 0 rfl rfl)
theorem dX15_init_1 : decode cX15_init 1 = .ok (.aload_n 1, 1) := dk_43 (dk_at dksX15_init_0 1 rfl rfl)
theorem dX15_init_2 : decode cX15_init 2 = .ok (.putfield 1, 3) := dk_181 0 1 (dk_at dksX15_init_0 2 rfl rfl)
theorem dX15_init_5 : decode cX15_init 5 = .ok (.aload_n 0, 1) := dk_42 (dk_at dksX15_init_0 5 rfl rfl)
theorem dX15_init_6 : decode cX15_init 6 = .ok (.invokespecial 7, 3) := dk_183 0 7 (dk_at dksX15_init_0 6 rfl rfl)
theorem dX15_init_9 : decode cX15_init 9 = .ok (.return_, 1) := dk_177 (dk_at dksX15_init_0 9 rfl rfl)
theorem q116 : (Jvm.Cond.initialized "BlockPapers$Workshop$Hanging$Walk") ∈ lw_all := lw_g (lw_at lw_m1 42 rfl) rfl
theorem q172 : (Jvm.Cond.fieldLinkNest "BlockPapers$Workshop$Hanging$Walk" (23 : Nat) "BlockPapers$Workshop" "rooms" "Ljava/util/List;" "BlockPapers") ∈ lw_tbl := lw_at lw_m1 98 rfl
theorem q389 : (Jvm.Cond.castable "BlockPapers$Workshop$Hanging$Walk" "java/util/Iterator") ∈ lw_tbl := lw_at lw_m2 75 rfl
theorem q390 : (Jvm.Cond.selects "BlockPapers$Workshop$Hanging$Walk" ({ cls := "java/util/Iterator", name := "hasNext", desc := "()Z" } : Jvm.MethodName) ({ cls := "BlockPapers$Workshop$Hanging$Walk", name := "hasNext", desc := "()Z" } : Jvm.MethodName)) ∈ lw_all := lw_g (lw_at lw_m2 76 rfl) rfl
theorem q391 : (Jvm.Cond.unhidden "BlockPapers$Workshop$Hanging$Walk" "hasNext" "()Z") ∈ lw_tbl := lw_at lw_m2 77 rfl
theorem q392 : (Jvm.Cond.instanceMethod ({ cls := "BlockPapers$Workshop$Hanging$Walk", name := "hasNext", desc := "()Z" } : Jvm.MethodName)) ∈ lw_all := lw_g (lw_at lw_m2 78 rfl) rfl
theorem q393 : (Jvm.Cond.publicMethod ({ cls := "BlockPapers$Workshop$Hanging$Walk", name := "hasNext", desc := "()Z" } : Jvm.MethodName)) ∈ lw_tbl := lw_at lw_m2 79 rfl
theorem q394 : (Jvm.Cond.code ({ cls := "BlockPapers$Workshop$Hanging$Walk", name := "hasNext", desc := "()Z" } : Jvm.MethodName) prog_17_method_2_code (1 : Nat) (Option.some Jvm.ClassFile.FieldType.boolean)) ∈ lw_all := lw_g (lw_at lw_m2 80 rfl) rfl
theorem q395 : (Jvm.Cond.interfaceEntry "BlockPapers$Workshop$Hanging$Walk" (29 : Nat)) ∈ lw_tbl := lw_at lw_m2 81 rfl
theorem q396 : (Jvm.Cond.methodLink "BlockPapers$Workshop$Hanging$Walk" (29 : Nat) ({ cls := "java/util/List", name := "size", desc := "()I" } : Jvm.MethodName)) ∈ lw_all := lw_g (lw_at lw_m2 82 rfl) rfl
theorem q397 : (Jvm.Cond.interfaceEntry "BlockPapers$Workshop$Hanging$Walk" (38 : Nat)) ∈ lw_tbl := lw_at lw_m2 83 rfl
theorem q398 : (Jvm.Cond.methodLink "BlockPapers$Workshop$Hanging$Walk" (38 : Nat) ({ cls := "java/util/List", name := "get", desc := "(I)Ljava/lang/Object;" } : Jvm.MethodName)) ∈ lw_all := lw_g (lw_at lw_m2 84 rfl) rfl
theorem q416 : (Jvm.Cond.classLink "BlockPapers$Workshop$Hanging$Walk" (42 : Nat) "BlockPapers$Room") ∈ lw_all := lw_g (lw_at lw_m2 102 rfl) rfl
theorem q427 : (Jvm.Cond.selects "BlockPapers$Workshop$Hanging$Walk" ({ cls := "java/util/Iterator", name := "next", desc := "()Ljava/lang/Object;" } : Jvm.MethodName) ({ cls := "BlockPapers$Workshop$Hanging$Walk", name := "next", desc := "()Ljava/lang/Object;" } : Jvm.MethodName)) ∈ lw_all := lw_g (lw_at lw_m2 113 rfl) rfl
theorem q428 : (Jvm.Cond.unhidden "BlockPapers$Workshop$Hanging$Walk" "next" "()Ljava/lang/Object;") ∈ lw_tbl := lw_at lw_m2 114 rfl
theorem q429 : (Jvm.Cond.instanceMethod ({ cls := "BlockPapers$Workshop$Hanging$Walk", name := "next", desc := "()Ljava/lang/Object;" } : Jvm.MethodName)) ∈ lw_all := lw_g (lw_at lw_m2 115 rfl) rfl
theorem q430 : (Jvm.Cond.publicMethod ({ cls := "BlockPapers$Workshop$Hanging$Walk", name := "next", desc := "()Ljava/lang/Object;" } : Jvm.MethodName)) ∈ lw_tbl := lw_at lw_m2 116 rfl
theorem q431 : (Jvm.Cond.code ({ cls := "BlockPapers$Workshop$Hanging$Walk", name := "next", desc := "()Ljava/lang/Object;" } : Jvm.MethodName) prog_17_method_4_code (1 : Nat) (Option.some (Jvm.ClassFile.FieldType.object "java/lang/Object"))) ∈ lw_all := lw_g (lw_at lw_m2 117 rfl) rfl
theorem q432 : (Jvm.Cond.methodLink "BlockPapers$Workshop$Hanging$Walk" (59 : Nat) ({ cls := "BlockPapers$Workshop$Hanging$Walk", name := "next", desc := "()LBlockPapers$Drop;" } : Jvm.MethodName)) ∈ lw_all := lw_g (lw_at lw_m2 118 rfl) rfl
theorem q433 : (Jvm.Cond.instanceMethod ({ cls := "BlockPapers$Workshop$Hanging$Walk", name := "next", desc := "()LBlockPapers$Drop;" } : Jvm.MethodName)) ∈ lw_all := lw_g (lw_at lw_m2 119 rfl) rfl
theorem q434 : (Jvm.Cond.selects "BlockPapers$Workshop$Hanging$Walk" ({ cls := "BlockPapers$Workshop$Hanging$Walk", name := "next", desc := "()LBlockPapers$Drop;" } : Jvm.MethodName) ({ cls := "BlockPapers$Workshop$Hanging$Walk", name := "next", desc := "()LBlockPapers$Drop;" } : Jvm.MethodName)) ∈ lw_all := lw_g (lw_at lw_m2 120 rfl) rfl
theorem q435 : (Jvm.Cond.code ({ cls := "BlockPapers$Workshop$Hanging$Walk", name := "next", desc := "()LBlockPapers$Drop;" } : Jvm.MethodName) prog_17_method_3_code (1 : Nat) (Option.some (Jvm.ClassFile.FieldType.object "BlockPapers$Drop"))) ∈ lw_all := lw_g (lw_at lw_m2 121 rfl) rfl
theorem q436 : (Jvm.Cond.methodLink "BlockPapers$Workshop$Hanging$Walk" (47 : Nat) ({ cls := "BlockPapers$Workshop$Hanging$Walk", name := "hasNext", desc := "()Z" } : Jvm.MethodName)) ∈ lw_all := lw_g (lw_at lw_m2 122 rfl) rfl
theorem q437 : (Jvm.Cond.methodLinkNest "BlockPapers$Workshop$Hanging$Walk" (51 : Nat) ({ cls := "BlockPapers", name := "requireElement", desc := "(Z)V" } : Jvm.MethodName) "BlockPapers") ∈ lw_tbl := lw_at lw_m2 123 rfl
theorem q455 : (Jvm.Cond.classLink "BlockPapers$Workshop$Hanging$Walk" (57 : Nat) "BlockPapers$Drop") ∈ lw_all := lw_g (lw_at lw_m2 141 rfl) rfl
theorem q479 : (Jvm.Cond.fieldLink "BlockPapers$Workshop$Hanging$Walk" (17 : Nat) "BlockPapers$Workshop$Hanging" "this$0" "LBlockPapers$Workshop;") ∈ lw_all := lw_g (lw_at lw_m2 165 rfl) rfl
theorem q488 : (Jvm.Cond.instantiable "BlockPapers$Workshop$Hanging$Walk" (3 : Nat)) ∈ lw_all := lw_g (lw_at lw_m2 174 rfl) rfl
theorem q490 : (Jvm.Cond.instanceMethod ({ cls := "BlockPapers$Workshop$Hanging$Walk", name := "<init>", desc := "(LBlockPapers$Workshop$Hanging;)V" } : Jvm.MethodName)) ∈ lw_all := lw_g (lw_at lw_m2 176 rfl) rfl
theorem q491 : (Jvm.Cond.code ({ cls := "BlockPapers$Workshop$Hanging$Walk", name := "<init>", desc := "(LBlockPapers$Workshop$Hanging;)V" } : Jvm.MethodName) prog_17_method_1_code (2 : Nat) (Option.none : Option Jvm.ClassFile.FieldType)) ∈ lw_all := lw_g (lw_at lw_m2 177 rfl) rfl
theorem q492 : (Jvm.Cond.methodLink "BlockPapers$Workshop$Hanging$Walk" (7 : Nat) ({ cls := "java/lang/Object", name := "<init>", desc := "()V" } : Jvm.MethodName)) ∈ lw_all := lw_g (lw_at lw_m2 178 rfl) rfl
theorem q493 : (Jvm.Cond.fieldLink "BlockPapers$Workshop$Hanging$Walk" (13 : Nat) "BlockPapers$Workshop$Hanging$Walk" "room" "I") ∈ lw_all := lw_g (lw_at lw_m2 179 rfl) rfl
theorem q494 : (Jvm.Cond.fieldLink "BlockPapers$Workshop$Hanging$Walk" (35 : Nat) "BlockPapers$Workshop$Hanging$Walk" "drop" "I") ∈ lw_all := lw_g (lw_at lw_m2 180 rfl) rfl
theorem q495 : (Jvm.Cond.fieldLink "BlockPapers$Workshop$Hanging$Walk" (1 : Nat) "BlockPapers$Workshop$Hanging$Walk" "this$1" "LBlockPapers$Workshop$Hanging;") ∈ lw_all := lw_g (lw_at lw_m2 181 rfl) rfl
theorem q496 : (Jvm.Cond.lays "BlockPapers$Workshop$Hanging$Walk" "BlockPapers$Workshop$Hanging$Walk" "room" "I") ∈ lw_all := lw_g (lw_at lw_m2 182 rfl) rfl
theorem q497 : (Jvm.Cond.soleField "BlockPapers$Workshop$Hanging$Walk" "room") ∈ lw_all := lw_g (lw_at lw_m2 183 rfl) rfl
theorem q498 : (Jvm.Cond.lays "BlockPapers$Workshop$Hanging$Walk" "BlockPapers$Workshop$Hanging$Walk" "drop" "I") ∈ lw_all := lw_g (lw_at lw_m2 184 rfl) rfl
theorem q499 : (Jvm.Cond.soleField "BlockPapers$Workshop$Hanging$Walk" "drop") ∈ lw_all := lw_g (lw_at lw_m2 185 rfl) rfl
theorem q500 : (Jvm.Cond.laysFinal "BlockPapers$Workshop$Hanging$Walk" "BlockPapers$Workshop$Hanging$Walk" "this$1" "LBlockPapers$Workshop$Hanging;") ∈ lw_all := lw_g (lw_at lw_m2 186 rfl) rfl
theorem q501 : (Jvm.Cond.soleField "BlockPapers$Workshop$Hanging$Walk" "this$1") ∈ lw_all := lw_g (lw_at lw_m2 187 rfl) rfl
theorem q502 : (Jvm.Cond.superclass "BlockPapers$Workshop$Hanging$Walk" "java/lang/Object") ∈ lw_all := lw_g (lw_at lw_m2 188 rfl) rfl
theorem q835 : (Jvm.Cond.selects "BlockPapers$Workshop$Hanging$Walk" ({ cls := "java/lang/Object", name := "getClass", desc := "()Ljava/lang/Class;" } : Jvm.MethodName) ({ cls := "java/lang/Object", name := "getClass", desc := "()Ljava/lang/Class;" } : Jvm.MethodName)) ∈ lw_all := lw_g (lw_at lw_m4 41 rfl) rfl
theorem q881 : (Jvm.Cond.fieldLinkNest "BlockPapers$Workshop$Hanging$Walk" (44 : Nat) "BlockPapers$Room" "drops" "Ljava/util/List;" "BlockPapers") ∈ lw_tbl := lw_at lw_m4 87 rfl
theorem q2677 : (Jvm.Cond.selects "BlockPapers$Workshop$Hanging$Walk" ({ cls := "BlockPapers$Workshop$Hanging$Walk", name := "hasNext", desc := "()Z" } : Jvm.MethodName) ({ cls := "BlockPapers$Workshop$Hanging$Walk", name := "hasNext", desc := "()Z" } : Jvm.MethodName)) ∈ lw_all := lw_g (lw_at lw_m11 203 rfl) rfl
theorem q2724 : (Jvm.Cond.castable "BlockPapers$Workshop$Hanging$Walk" "java/lang/Object") ∈ lw_tbl := lw_at lw_m12 10 rfl
theorem in_X15 : ∀ w ∈ wsX150, w ∈ lw_all := lw_in wsX150 [496, 498, 500] (by decide +kernel) (by decide +kernel)
/-! BlockPapers$Parser -/
set_option maxRecDepth 100000
def RX16 : String := "BlockPapers$Parser"
def TX16 : u_T := fun k => match k with
  | 0 => ("BlockPapers$Parser", "position", "I", false)
  | _ => ("BlockPapers$Parser", "this$0", "LBlockPapers;", true)
def tyX16 : Nat → FieldType := fun k => match k with
  | 0 => .int
  | _ => .object "BlockPapers"
abbrev wsX160 : List Cond := u_ws RX16 TX16 2
theorem nmX16 : ∀ a, a < 2 → ∀ b, b < 2 → a ≠ b → (TX16 a).2.1 ≠ (TX16 b).2.1 := by decide +kernel
theorem tyX16_ok : ∀ k, k < 2 → parseFieldDescriptor (TX16 k).2.2.1 = some (tyX16 k) := by decide +kernel
abbrev cX16_init : ByteArray := prog_10_method_1_code
def yX16_init : MethodName := ⟨RX16, "<init>", "(LBlockPapers;)V"⟩
def dkwX16_init_0 : List UInt8 := [42, 43, 181, 0, 1, 42, 183, 0, 7, 177]
abbrev dktX16_init_0 : List UInt8 := dkwX16_init_0 ++ []
theorem dksX16_init_0 : cX16_init.data.toList.drop 0 = dktX16_init_0 := by decide +kernel
theorem dX16_init_0 : decode cX16_init 0 = .ok (.aload_n 0, 1) := dk_42 (dk_at dksX16_init_0 0 rfl rfl)
theorem dX16_init_1 : decode cX16_init 1 = .ok (.aload_n 1, 1) := dk_43 (dk_at dksX16_init_0 1 rfl rfl)
theorem dX16_init_2 : decode cX16_init 2 = .ok (.putfield 1, 3) := dk_181 0 1 (dk_at dksX16_init_0 2 rfl rfl)
theorem dX16_init_5 : decode cX16_init 5 = .ok (.aload_n 0, 1) := dk_42 (dk_at dksX16_init_0 5 rfl rfl)
theorem dX16_init_6 : decode cX16_init 6 = .ok (.invokespecial 7, 3) := dk_183 0 7 (dk_at dksX16_init_0 6 rfl rfl)
theorem dX16_init_9 : decode cX16_init 9 = .ok (.return_, 1) := dk_177 (dk_at dksX16_init_0 9 rfl rfl)
abbrev cX16_text : ByteArray := prog_10_method_7_code
def yX16_text : MethodName := ⟨RX16, "text", "()Ljava/util/List;"⟩
def dkwX16_text_2 : List UInt8 := [182, 0, 112, 185, 0, 116, 2, 0, 87, 167, 255, 219, 43, 176]
abbrev dktX16_text_2 : List UInt8 := dkwX16_text_2 ++ []
def dkwX16_text_1 : List UInt8 := [180, 0, 1, 180, 0, 17, 182, 0, 23, 162, 0, 26, 42, 16, 59, 16, 59, 182, 0, 46, 61, 43, 42]
abbrev dktX16_text_1 : List UInt8 := dkwX16_text_1 ++ dktX16_text_2
def dkwX16_text_0 : List UInt8 := [187, 0, 109, 89, 183, 0, 111, 76, 43, 42, 182, 0, 112, 185, 0, 116, 2, 0, 87, 42, 180, 0, 13, 42]
abbrev dktX16_text_0 : List UInt8 := dkwX16_text_0 ++ dktX16_text_1
theorem dksX16_text_0 : cX16_text.data.toList.drop 0 = dktX16_text_0 := by decide +kernel
theorem dksX16_text_1 : cX16_text.data.toList.drop 24 = dktX16_text_1 := dk_seg dksX16_text_0 24 rfl rfl
theorem dksX16_text_2 : cX16_text.data.toList.drop 47 = dktX16_text_2 := dk_seg dksX16_text_1 23 rfl rfl
theorem dX16_text_0 : decode cX16_text 0 = .ok (.new 109, 3) := dk_187 0 109 (dk_at dksX16_text_0 0 rfl rfl)
theorem dX16_text_3 : decode cX16_text 3 = .ok (.dup, 1) := dk_89 (dk_at dksX16_text_0 3 rfl rfl)
theorem dX16_text_4 : decode cX16_text 4 = .ok (.invokespecial 111, 3) := dk_183 0 111 (dk_at dksX16_text_0 4 rfl rfl)
theorem dX16_text_7 : decode cX16_text 7 = .ok (.astore_n 1, 1) := dk_76 (dk_at dksX16_text_0 7 rfl rfl)
theorem dX16_text_8 : decode cX16_text 8 = .ok (.aload_n 1, 1) := dk_43 (dk_at dksX16_text_0 8 rfl rfl)
theorem dX16_text_9 : decode cX16_text 9 = .ok (.aload_n 0, 1) := dk_42 (dk_at dksX16_text_0 9 rfl rfl)
theorem dX16_text_10 : decode cX16_text 10 = .ok (.invokevirtual 112, 3) := dk_182 0 112 (dk_at dksX16_text_0 10 rfl rfl)
theorem dX16_text_13 : decode cX16_text 13 = .ok (.invokeinterface 116 2, 5) := by decide +kernel
theorem dX16_text_18 : decode cX16_text 18 = .ok (.pop, 1) := dk_87 (dk_at dksX16_text_0 18 rfl rfl)
theorem dX16_text_19 : decode cX16_text 19 = .ok (.aload_n 0, 1) := dk_42 (dk_at dksX16_text_0 19 rfl rfl)
theorem dX16_text_20 : decode cX16_text 20 = .ok (.getfield 13, 3) := dk_180 0 13 (dk_at dksX16_text_0 20 rfl rfl)
theorem dX16_text_23 : decode cX16_text 23 = .ok (.aload_n 0, 1) := dk_42 (dk_at dksX16_text_0 23 rfl rfl)
theorem dX16_text_24 : decode cX16_text 24 = .ok (.getfield 1, 3) := dk_180 0 1 (dk_at dksX16_text_1 0 rfl rfl)
theorem dX16_text_27 : decode cX16_text 27 = .ok (.getfield 17, 3) := dk_180 0 17 (dk_at dksX16_text_1 3 rfl rfl)
theorem dX16_text_30 : decode cX16_text 30 = .ok (.invokevirtual 23, 3) := dk_182 0 23 (dk_at dksX16_text_1 6 rfl rfl)
theorem dX16_text_33 : decode cX16_text 33 = .ok (.if_icmp .ge 26, 3) := dk_162 0 26 (dk_at dksX16_text_1 9 rfl rfl)
theorem dX16_text_36 : decode cX16_text 36 = .ok (.aload_n 0, 1) := dk_42 (dk_at dksX16_text_1 12 rfl rfl)
theorem dX16_text_37 : decode cX16_text 37 = .ok (.bipush 59, 2) := dk_16 59 (dk_at dksX16_text_1 13 rfl rfl)
theorem dX16_text_39 : decode cX16_text 39 = .ok (.bipush 59, 2) := dk_16 59 (dk_at dksX16_text_1 15 rfl rfl)
theorem dX16_text_41 : decode cX16_text 41 = .ok (.invokevirtual 46, 3) := dk_182 0 46 (dk_at dksX16_text_1 17 rfl rfl)
theorem dX16_text_44 : decode cX16_text 44 = .ok (.istore_n 2, 1) := dk_61 (dk_at dksX16_text_1 20 rfl rfl)
theorem dX16_text_45 : decode cX16_text 45 = .ok (.aload_n 1, 1) := dk_43 (dk_at dksX16_text_1 21 rfl rfl)
theorem dX16_text_46 : decode cX16_text 46 = .ok (.aload_n 0, 1) := dk_42 (dk_at dksX16_text_1 22 rfl rfl)
theorem dX16_text_47 : decode cX16_text 47 = .ok (.invokevirtual 112, 3) := dk_182 0 112 (dk_at dksX16_text_2 0 rfl rfl)
theorem dX16_text_50 : decode cX16_text 50 = .ok (.invokeinterface 116 2, 5) := by decide +kernel
theorem dX16_text_55 : decode cX16_text 55 = .ok (.pop, 1) := dk_87 (dk_at dksX16_text_2 8 rfl rfl)
theorem dX16_text_56 : decode cX16_text 56 = .ok (.goto (-37), 3) := dk_167 255 219 (dk_at dksX16_text_2 9 rfl rfl)
theorem dX16_text_59 : decode cX16_text 59 = .ok (.aload_n 1, 1) := dk_43 (dk_at dksX16_text_2 12 rfl rfl)
theorem dX16_text_60 : decode cX16_text 60 = .ok (.areturn, 1) := dk_176 (dk_at dksX16_text_2 13 rfl rfl)
abbrev cX16_command : ByteArray := prog_10_method_6_code
def yX16_command : MethodName := ⟨RX16, "command", "()LBlockPapers$Deed;"⟩
def dkwX16_command_10 : List UInt8 := [7, 182, 0, 94, 183, 0, 106, 176, 187, 0, 98, 89, 43, 42, 4, 182, 0, 94, 183, 0, 106, 176]
abbrev dktX16_command_10 : List UInt8 := dkwX16_command_10 ++ []
def dkwX16_command_9 : List UInt8 := [54, 4, 187, 0, 98, 89, 43, 21, 4, 42, 7, 182, 0, 94, 183, 0, 103, 176, 187, 0, 98, 89, 43, 42]
abbrev dktX16_command_9 : List UInt8 := dkwX16_command_9 ++ dktX16_command_10
def dkwX16_command_8 : List UInt8 := [187, 0, 98, 89, 43, 21, 4, 21, 5, 42, 7, 182, 0, 94, 183, 0, 100, 176, 42, 4, 182, 0, 94]
abbrev dktX16_command_8 : List UInt8 := dkwX16_command_8 ++ dktX16_command_9
def dkwX16_command_7 : List UInt8 := [7, 182, 0, 94, 183, 0, 100, 176, 42, 7, 182, 0, 94, 54, 4, 42, 7, 182, 0, 94, 54, 5]
abbrev dktX16_command_7 : List UInt8 := dkwX16_command_7 ++ dktX16_command_8
def dkwX16_command_6 : List UInt8 := [42, 4, 182, 0, 94, 54, 4, 42, 7, 182, 0, 94, 54, 5, 187, 0, 98, 89, 43, 21, 4, 21, 5, 42]
abbrev dktX16_command_6 : List UInt8 := dkwX16_command_6 ++ dktX16_command_7
def dkwX16_command_5 : List UInt8 := [170, 0, 0, 0, 0, 131, 0, 0, 0, 0, 0, 0, 0, 3, 0, 0, 0, 30, 0, 0, 0, 62, 0, 0, 0, 94, 0, 0, 0, 117]
abbrev dktX16_command_5 : List UInt8 := dkwX16_command_5 ++ dktX16_command_6
def dkwX16_command_4 : List UInt8 := [153, 0, 5, 6, 62, 29]
abbrev dktX16_command_4 : List UInt8 := dkwX16_command_4 ++ dktX16_command_5
def dkwX16_command_3 : List UInt8 := [62, 167, 0, 28, 44, 18, 90, 182, 0, 84, 153, 0, 19, 5, 62, 167, 0, 14, 44, 18, 92, 182, 0, 84]
abbrev dktX16_command_3 : List UInt8 := dkwX16_command_3 ++ dktX16_command_4
def dkwX16_command_2 : List UInt8 := [44, 18, 82, 182, 0, 84, 153, 0, 47, 3, 62, 167, 0, 42, 44, 18, 88, 182, 0, 84, 153, 0, 33, 4]
abbrev dktX16_command_2 : List UInt8 := dkwX16_command_2 ++ dktX16_command_3
def dkwX16_command_1 : List UInt8 := [171, 0, 0, 0, 0, 0, 96, 0, 0, 0, 4, 0, 1, 166, 92, 0, 0, 0, 57, 0, 46, 4, 231, 0, 0, 0, 85, 0, 48, 192, 114, 0, 0, 0, 71, 6, 95, 178, 173, 0, 0, 0, 43]
abbrev dktX16_command_1 : List UInt8 := dkwX16_command_1 ++ dktX16_command_2
def dkwX16_command_0 : List UInt8 := [42, 182, 0, 76, 76, 43, 77, 2, 62, 44, 182, 0, 79]
abbrev dktX16_command_0 : List UInt8 := dkwX16_command_0 ++ dktX16_command_1
theorem dksX16_command_0 : cX16_command.data.toList.drop 0 = dktX16_command_0 := by decide +kernel
theorem dksX16_command_1 : cX16_command.data.toList.drop 13 = dktX16_command_1 := dk_seg dksX16_command_0 13 rfl rfl
theorem dksX16_command_2 : cX16_command.data.toList.drop 56 = dktX16_command_2 := dk_seg dksX16_command_1 43 rfl rfl
theorem dksX16_command_3 : cX16_command.data.toList.drop 80 = dktX16_command_3 := dk_seg dksX16_command_2 24 rfl rfl
theorem dksX16_command_4 : cX16_command.data.toList.drop 104 = dktX16_command_4 := dk_seg dksX16_command_3 24 rfl rfl
theorem dksX16_command_5 : cX16_command.data.toList.drop 110 = dktX16_command_5 := dk_seg dksX16_command_4 6 rfl rfl
theorem dksX16_command_6 : cX16_command.data.toList.drop 140 = dktX16_command_6 := dk_seg dksX16_command_5 30 rfl rfl
theorem dksX16_command_7 : cX16_command.data.toList.drop 164 = dktX16_command_7 := dk_seg dksX16_command_6 24 rfl rfl
theorem dksX16_command_8 : cX16_command.data.toList.drop 186 = dktX16_command_8 := dk_seg dksX16_command_7 22 rfl rfl
theorem dksX16_command_9 : cX16_command.data.toList.drop 209 = dktX16_command_9 := dk_seg dksX16_command_8 23 rfl rfl
theorem dksX16_command_10 : cX16_command.data.toList.drop 233 = dktX16_command_10 := dk_seg dksX16_command_9 24 rfl rfl
theorem dX16_command_0 : decode cX16_command 0 = .ok (.aload_n 0, 1) := dk_42 (dk_at dksX16_command_0 0 rfl rfl)
theorem dX16_command_1 : decode cX16_command 1 = .ok (.invokevirtual 76, 3) := dk_182 0 76 (dk_at dksX16_command_0 1 rfl rfl)
theorem dX16_command_4 : decode cX16_command 4 = .ok (.astore_n 1, 1) := dk_76 (dk_at dksX16_command_0 4 rfl rfl)
theorem dX16_command_5 : decode cX16_command 5 = .ok (.aload_n 1, 1) := dk_43 (dk_at dksX16_command_0 5 rfl rfl)
theorem dX16_command_6 : decode cX16_command 6 = .ok (.astore_n 2, 1) := dk_77 (dk_at dksX16_command_0 6 rfl rfl)
theorem dX16_command_7 : decode cX16_command 7 = .ok (.iconst (-1), 1) := dk_2 (dk_at dksX16_command_0 7 rfl rfl)
theorem dX16_command_8 : decode cX16_command 8 = .ok (.istore_n 3, 1) := dk_62 (dk_at dksX16_command_0 8 rfl rfl)
theorem dX16_command_9 : decode cX16_command 9 = .ok (.aload_n 2, 1) := dk_44 (dk_at dksX16_command_0 9 rfl rfl)
theorem dX16_command_10 : decode cX16_command 10 = .ok (.invokevirtual 79, 3) := dk_182 0 79 (dk_at dksX16_command_0 10 rfl rfl)
theorem dX16_command_13 : decode cX16_command 13 = .ok (.lookupswitch 96 #[(108124, 57), (3015911, 85), (3194994, 71), (106934957, 43)], 43) := by decide +kernel
theorem dX16_command_56 : decode cX16_command 56 = .ok (.aload_n 2, 1) := dk_44 (dk_at dksX16_command_2 0 rfl rfl)
theorem dX16_command_57 : decode cX16_command 57 = .ok (.ldc 82, 2) := dk_18 82 (dk_at dksX16_command_2 1 rfl rfl)
theorem dX16_command_59 : decode cX16_command 59 = .ok (.invokevirtual 84, 3) := dk_182 0 84 (dk_at dksX16_command_2 3 rfl rfl)
theorem dX16_command_62 : decode cX16_command 62 = .ok (.ifCond .eq 47, 3) := dk_153 0 47 (dk_at dksX16_command_2 6 rfl rfl)
theorem dX16_command_65 : decode cX16_command 65 = .ok (.iconst 0, 1) := dk_3 (dk_at dksX16_command_2 9 rfl rfl)
theorem dX16_command_66 : decode cX16_command 66 = .ok (.istore_n 3, 1) := dk_62 (dk_at dksX16_command_2 10 rfl rfl)
theorem dX16_command_67 : decode cX16_command 67 = .ok (.goto 42, 3) := dk_167 0 42 (dk_at dksX16_command_2 11 rfl rfl)
theorem dX16_command_70 : decode cX16_command 70 = .ok (.aload_n 2, 1) := dk_44 (dk_at dksX16_command_2 14 rfl rfl)
theorem dX16_command_71 : decode cX16_command 71 = .ok (.ldc 88, 2) := dk_18 88 (dk_at dksX16_command_2 15 rfl rfl)
theorem dX16_command_73 : decode cX16_command 73 = .ok (.invokevirtual 84, 3) := dk_182 0 84 (dk_at dksX16_command_2 17 rfl rfl)
theorem dX16_command_76 : decode cX16_command 76 = .ok (.ifCond .eq 33, 3) := dk_153 0 33 (dk_at dksX16_command_2 20 rfl rfl)
theorem dX16_command_79 : decode cX16_command 79 = .ok (.iconst 1, 1) := dk_4 (dk_at dksX16_command_2 23 rfl rfl)
theorem dX16_command_80 : decode cX16_command 80 = .ok (.istore_n 3, 1) := dk_62 (dk_at dksX16_command_3 0 rfl rfl)
theorem dX16_command_81 : decode cX16_command 81 = .ok (.goto 28, 3) := dk_167 0 28 (dk_at dksX16_command_3 1 rfl rfl)
theorem dX16_command_84 : decode cX16_command 84 = .ok (.aload_n 2, 1) := dk_44 (dk_at dksX16_command_3 4 rfl rfl)
theorem dX16_command_85 : decode cX16_command 85 = .ok (.ldc 90, 2) := dk_18 90 (dk_at dksX16_command_3 5 rfl rfl)
theorem dX16_command_87 : decode cX16_command 87 = .ok (.invokevirtual 84, 3) := dk_182 0 84 (dk_at dksX16_command_3 7 rfl rfl)
theorem dX16_command_90 : decode cX16_command 90 = .ok (.ifCond .eq 19, 3) := dk_153 0 19 (dk_at dksX16_command_3 10 rfl rfl)
theorem dX16_command_93 : decode cX16_command 93 = .ok (.iconst 2, 1) := dk_5 (dk_at dksX16_command_3 13 rfl rfl)
theorem dX16_command_94 : decode cX16_command 94 = .ok (.istore_n 3, 1) := dk_62 (dk_at dksX16_command_3 14 rfl rfl)
theorem dX16_command_95 : decode cX16_command 95 = .ok (.goto 14, 3) := dk_167 0 14 (dk_at dksX16_command_3 15 rfl rfl)
theorem dX16_command_98 : decode cX16_command 98 = .ok (.aload_n 2, 1) := dk_44 (dk_at dksX16_command_3 18 rfl rfl)
theorem dX16_command_99 : decode cX16_command 99 = .ok (.ldc 92, 2) := dk_18 92 (dk_at dksX16_command_3 19 rfl rfl)
theorem dX16_command_101 : decode cX16_command 101 = .ok (.invokevirtual 84, 3) := dk_182 0 84 (dk_at dksX16_command_3 21 rfl rfl)
theorem dX16_command_104 : decode cX16_command 104 = .ok (.ifCond .eq 5, 3) := dk_153 0 5 (dk_at dksX16_command_4 0 rfl rfl)
theorem dX16_command_107 : decode cX16_command 107 = .ok (.iconst 3, 1) := dk_6 (dk_at dksX16_command_4 3 rfl rfl)
theorem dX16_command_108 : decode cX16_command 108 = .ok (.istore_n 3, 1) := dk_62 (dk_at dksX16_command_4 4 rfl rfl)
theorem dX16_command_109 : decode cX16_command 109 = .ok (.iload_n 3, 1) := dk_29 (dk_at dksX16_command_4 5 rfl rfl)
theorem dX16_command_110 : decode cX16_command 110 = .ok (.tableswitch 131 0 3 #[30, 62, 94, 117], 30) := by decide +kernel
theorem dX16_command_140 : decode cX16_command 140 = .ok (.aload_n 0, 1) := dk_42 (dk_at dksX16_command_6 0 rfl rfl)
theorem dX16_command_141 : decode cX16_command 141 = .ok (.iconst 1, 1) := dk_4 (dk_at dksX16_command_6 1 rfl rfl)
theorem dX16_command_142 : decode cX16_command 142 = .ok (.invokevirtual 94, 3) := dk_182 0 94 (dk_at dksX16_command_6 2 rfl rfl)
theorem dX16_command_145 : decode cX16_command 145 = .ok (.istore 4, 2) := dk_54 4 (dk_at dksX16_command_6 5 rfl rfl)
theorem dX16_command_147 : decode cX16_command 147 = .ok (.aload_n 0, 1) := dk_42 (dk_at dksX16_command_6 7 rfl rfl)
theorem dX16_command_148 : decode cX16_command 148 = .ok (.iconst 4, 1) := dk_7 (dk_at dksX16_command_6 8 rfl rfl)
theorem dX16_command_149 : decode cX16_command 149 = .ok (.invokevirtual 94, 3) := dk_182 0 94 (dk_at dksX16_command_6 9 rfl rfl)
theorem dX16_command_152 : decode cX16_command 152 = .ok (.istore 5, 2) := dk_54 5 (dk_at dksX16_command_6 12 rfl rfl)
theorem dX16_command_154 : decode cX16_command 154 = .ok (.new 98, 3) := dk_187 0 98 (dk_at dksX16_command_6 14 rfl rfl)
theorem dX16_command_157 : decode cX16_command 157 = .ok (.dup, 1) := dk_89 (dk_at dksX16_command_6 17 rfl rfl)
theorem dX16_command_158 : decode cX16_command 158 = .ok (.aload_n 1, 1) := dk_43 (dk_at dksX16_command_6 18 rfl rfl)
theorem dX16_command_159 : decode cX16_command 159 = .ok (.iload 4, 2) := dk_21 4 (dk_at dksX16_command_6 19 rfl rfl)
theorem dX16_command_161 : decode cX16_command 161 = .ok (.iload 5, 2) := dk_21 5 (dk_at dksX16_command_6 21 rfl rfl)
theorem dX16_command_163 : decode cX16_command 163 = .ok (.aload_n 0, 1) := dk_42 (dk_at dksX16_command_6 23 rfl rfl)
theorem dX16_command_164 : decode cX16_command 164 = .ok (.iconst 4, 1) := dk_7 (dk_at dksX16_command_7 0 rfl rfl)
theorem dX16_command_165 : decode cX16_command 165 = .ok (.invokevirtual 94, 3) := dk_182 0 94 (dk_at dksX16_command_7 1 rfl rfl)
theorem dX16_command_168 : decode cX16_command 168 = .ok (.invokespecial 100, 3) := dk_183 0 100 (dk_at dksX16_command_7 4 rfl rfl)
theorem dX16_command_171 : decode cX16_command 171 = .ok (.areturn, 1) := dk_176 (dk_at dksX16_command_7 7 rfl rfl)
theorem dX16_command_172 : decode cX16_command 172 = .ok (.aload_n 0, 1) := dk_42 (dk_at dksX16_command_7 8 rfl rfl)
theorem dX16_command_173 : decode cX16_command 173 = .ok (.iconst 4, 1) := dk_7 (dk_at dksX16_command_7 9 rfl rfl)
theorem dX16_command_174 : decode cX16_command 174 = .ok (.invokevirtual 94, 3) := dk_182 0 94 (dk_at dksX16_command_7 10 rfl rfl)
theorem dX16_command_177 : decode cX16_command 177 = .ok (.istore 4, 2) := dk_54 4 (dk_at dksX16_command_7 13 rfl rfl)
theorem dX16_command_179 : decode cX16_command 179 = .ok (.aload_n 0, 1) := dk_42 (dk_at dksX16_command_7 15 rfl rfl)
theorem dX16_command_180 : decode cX16_command 180 = .ok (.iconst 4, 1) := dk_7 (dk_at dksX16_command_7 16 rfl rfl)
theorem dX16_command_181 : decode cX16_command 181 = .ok (.invokevirtual 94, 3) := dk_182 0 94 (dk_at dksX16_command_7 17 rfl rfl)
theorem dX16_command_184 : decode cX16_command 184 = .ok (.istore 5, 2) := dk_54 5 (dk_at dksX16_command_7 20 rfl rfl)
theorem dX16_command_186 : decode cX16_command 186 = .ok (.new 98, 3) := dk_187 0 98 (dk_at dksX16_command_8 0 rfl rfl)
theorem dX16_command_189 : decode cX16_command 189 = .ok (.dup, 1) := dk_89 (dk_at dksX16_command_8 3 rfl rfl)
theorem dX16_command_190 : decode cX16_command 190 = .ok (.aload_n 1, 1) := dk_43 (dk_at dksX16_command_8 4 rfl rfl)
theorem dX16_command_191 : decode cX16_command 191 = .ok (.iload 4, 2) := dk_21 4 (dk_at dksX16_command_8 5 rfl rfl)
theorem dX16_command_193 : decode cX16_command 193 = .ok (.iload 5, 2) := dk_21 5 (dk_at dksX16_command_8 7 rfl rfl)
theorem dX16_command_195 : decode cX16_command 195 = .ok (.aload_n 0, 1) := dk_42 (dk_at dksX16_command_8 9 rfl rfl)
theorem dX16_command_196 : decode cX16_command 196 = .ok (.iconst 4, 1) := dk_7 (dk_at dksX16_command_8 10 rfl rfl)
theorem dX16_command_197 : decode cX16_command 197 = .ok (.invokevirtual 94, 3) := dk_182 0 94 (dk_at dksX16_command_8 11 rfl rfl)
theorem dX16_command_200 : decode cX16_command 200 = .ok (.invokespecial 100, 3) := dk_183 0 100 (dk_at dksX16_command_8 14 rfl rfl)
theorem dX16_command_203 : decode cX16_command 203 = .ok (.areturn, 1) := dk_176 (dk_at dksX16_command_8 17 rfl rfl)
theorem dX16_command_204 : decode cX16_command 204 = .ok (.aload_n 0, 1) := dk_42 (dk_at dksX16_command_8 18 rfl rfl)
theorem dX16_command_205 : decode cX16_command 205 = .ok (.iconst 1, 1) := dk_4 (dk_at dksX16_command_8 19 rfl rfl)
theorem dX16_command_206 : decode cX16_command 206 = .ok (.invokevirtual 94, 3) := dk_182 0 94 (dk_at dksX16_command_8 20 rfl rfl)
theorem dX16_command_209 : decode cX16_command 209 = .ok (.istore 4, 2) := dk_54 4 (dk_at dksX16_command_9 0 rfl rfl)
theorem dX16_command_211 : decode cX16_command 211 = .ok (.new 98, 3) := dk_187 0 98 (dk_at dksX16_command_9 2 rfl rfl)
theorem dX16_command_214 : decode cX16_command 214 = .ok (.dup, 1) := dk_89 (dk_at dksX16_command_9 5 rfl rfl)
theorem dX16_command_215 : decode cX16_command 215 = .ok (.aload_n 1, 1) := dk_43 (dk_at dksX16_command_9 6 rfl rfl)
theorem dX16_command_216 : decode cX16_command 216 = .ok (.iload 4, 2) := dk_21 4 (dk_at dksX16_command_9 7 rfl rfl)
theorem dX16_command_218 : decode cX16_command 218 = .ok (.aload_n 0, 1) := dk_42 (dk_at dksX16_command_9 9 rfl rfl)
theorem dX16_command_219 : decode cX16_command 219 = .ok (.iconst 4, 1) := dk_7 (dk_at dksX16_command_9 10 rfl rfl)
theorem dX16_command_220 : decode cX16_command 220 = .ok (.invokevirtual 94, 3) := dk_182 0 94 (dk_at dksX16_command_9 11 rfl rfl)
theorem dX16_command_223 : decode cX16_command 223 = .ok (.invokespecial 103, 3) := dk_183 0 103 (dk_at dksX16_command_9 14 rfl rfl)
theorem dX16_command_226 : decode cX16_command 226 = .ok (.areturn, 1) := dk_176 (dk_at dksX16_command_9 17 rfl rfl)
theorem dX16_command_227 : decode cX16_command 227 = .ok (.new 98, 3) := dk_187 0 98 (dk_at dksX16_command_9 18 rfl rfl)
theorem dX16_command_230 : decode cX16_command 230 = .ok (.dup, 1) := dk_89 (dk_at dksX16_command_9 21 rfl rfl)
theorem dX16_command_231 : decode cX16_command 231 = .ok (.aload_n 1, 1) := dk_43 (dk_at dksX16_command_9 22 rfl rfl)
theorem dX16_command_232 : decode cX16_command 232 = .ok (.aload_n 0, 1) := dk_42 (dk_at dksX16_command_9 23 rfl rfl)
theorem dX16_command_233 : decode cX16_command 233 = .ok (.iconst 4, 1) := dk_7 (dk_at dksX16_command_10 0 rfl rfl)
theorem dX16_command_234 : decode cX16_command 234 = .ok (.invokevirtual 94, 3) := dk_182 0 94 (dk_at dksX16_command_10 1 rfl rfl)
theorem dX16_command_237 : decode cX16_command 237 = .ok (.invokespecial 106, 3) := dk_183 0 106 (dk_at dksX16_command_10 4 rfl rfl)
theorem dX16_command_240 : decode cX16_command 240 = .ok (.areturn, 1) := dk_176 (dk_at dksX16_command_10 7 rfl rfl)
theorem dX16_command_241 : decode cX16_command 241 = .ok (.new 98, 3) := dk_187 0 98 (dk_at dksX16_command_10 8 rfl rfl)
theorem dX16_command_244 : decode cX16_command 244 = .ok (.dup, 1) := dk_89 (dk_at dksX16_command_10 11 rfl rfl)
theorem dX16_command_245 : decode cX16_command 245 = .ok (.aload_n 1, 1) := dk_43 (dk_at dksX16_command_10 12 rfl rfl)
theorem dX16_command_246 : decode cX16_command 246 = .ok (.aload_n 0, 1) := dk_42 (dk_at dksX16_command_10 13 rfl rfl)
theorem dX16_command_247 : decode cX16_command 247 = .ok (.iconst 1, 1) := dk_4 (dk_at dksX16_command_10 14 rfl rfl)
theorem dX16_command_248 : decode cX16_command 248 = .ok (.invokevirtual 94, 3) := dk_182 0 94 (dk_at dksX16_command_10 15 rfl rfl)
theorem dX16_command_251 : decode cX16_command 251 = .ok (.invokespecial 106, 3) := dk_183 0 106 (dk_at dksX16_command_10 18 rfl rfl)
theorem dX16_command_254 : decode cX16_command 254 = .ok (.areturn, 1) := dk_176 (dk_at dksX16_command_10 21 rfl rfl)
abbrev cX16_word : ByteArray := prog_10_method_5_code
def yX16_word : MethodName := ⟨RX16, "word", "()Ljava/lang/String;"⟩
def dkwX16_word_5 : List UInt8 := [16, 97, 16, 122, 182, 0, 46, 182, 0, 69, 182, 0, 59, 77, 167, 255, 133, 44, 4, 182, 0, 72, 176]
abbrev dktX16_word_5 : List UInt8 := dkwX16_word_5 ++ []
def dkwX16_word_4 : List UInt8 := [187, 0, 41, 89, 42, 180, 0, 13, 183, 0, 43, 191, 187, 0, 24, 89, 183, 0, 54, 44, 182, 0, 55, 42]
abbrev dktX16_word_4 : List UInt8 := dkwX16_word_4 ++ dktX16_word_5
def dkwX16_word_3 : List UInt8 := [182, 0, 69, 182, 0, 59, 182, 0, 63, 153, 0, 7, 4, 167, 0, 4, 3, 62, 29, 154, 0, 15]
abbrev dktX16_word_3 : List UInt8 := dkwX16_word_3 ++ dktX16_word_4
def dkwX16_word_2 : List UInt8 := [89, 183, 0, 54, 44, 182, 0, 55, 42, 180, 0, 1, 180, 0, 17, 42, 180, 0, 13, 182, 0, 29]
abbrev dktX16_word_2 : List UInt8 := dkwX16_word_2 ++ dktX16_word_3
def dkwX16_word_1 : List UInt8 := [182, 0, 59, 182, 0, 63, 154, 0, 103, 42, 16, 97, 16, 122, 182, 0, 37, 153, 0, 45, 43, 187, 0, 24]
abbrev dktX16_word_1 : List UInt8 := dkwX16_word_1 ++ dktX16_word_2
def dkwX16_word_0 : List UInt8 := [18, 50, 76, 18, 52, 77, 43, 187, 0, 24, 89, 183, 0, 54, 44, 182, 0, 55, 18, 52, 182, 0, 55]
abbrev dktX16_word_0 : List UInt8 := dkwX16_word_0 ++ dktX16_word_1
theorem dksX16_word_0 : cX16_word.data.toList.drop 0 = dktX16_word_0 := by decide +kernel
theorem dksX16_word_1 : cX16_word.data.toList.drop 23 = dktX16_word_1 := dk_seg dksX16_word_0 23 rfl rfl
theorem dksX16_word_2 : cX16_word.data.toList.drop 47 = dktX16_word_2 := dk_seg dksX16_word_1 24 rfl rfl
theorem dksX16_word_3 : cX16_word.data.toList.drop 69 = dktX16_word_3 := dk_seg dksX16_word_2 22 rfl rfl
theorem dksX16_word_4 : cX16_word.data.toList.drop 91 = dktX16_word_4 := dk_seg dksX16_word_3 22 rfl rfl
theorem dksX16_word_5 : cX16_word.data.toList.drop 115 = dktX16_word_5 := dk_seg dksX16_word_4 24 rfl rfl
theorem dX16_word_0 : decode cX16_word 0 = .ok (.ldc 50, 2) := dk_18 50 (dk_at dksX16_word_0 0 rfl rfl)
theorem dX16_word_2 : decode cX16_word 2 = .ok (.astore_n 1, 1) := dk_76 (dk_at dksX16_word_0 2 rfl rfl)
theorem dX16_word_3 : decode cX16_word 3 = .ok (.ldc 52, 2) := dk_18 52 (dk_at dksX16_word_0 3 rfl rfl)
theorem dX16_word_5 : decode cX16_word 5 = .ok (.astore_n 2, 1) := dk_77 (dk_at dksX16_word_0 5 rfl rfl)
theorem dX16_word_6 : decode cX16_word 6 = .ok (.aload_n 1, 1) := dk_43 (dk_at dksX16_word_0 6 rfl rfl)
theorem dX16_word_7 : decode cX16_word 7 = .ok (.new 24, 3) := dk_187 0 24 (dk_at dksX16_word_0 7 rfl rfl)
theorem dX16_word_10 : decode cX16_word 10 = .ok (.dup, 1) := dk_89 (dk_at dksX16_word_0 10 rfl rfl)
theorem dX16_word_11 : decode cX16_word 11 = .ok (.invokespecial 54, 3) := dk_183 0 54 (dk_at dksX16_word_0 11 rfl rfl)
theorem dX16_word_14 : decode cX16_word 14 = .ok (.aload_n 2, 1) := dk_44 (dk_at dksX16_word_0 14 rfl rfl)
theorem dX16_word_15 : decode cX16_word 15 = .ok (.invokevirtual 55, 3) := dk_182 0 55 (dk_at dksX16_word_0 15 rfl rfl)
theorem dX16_word_18 : decode cX16_word 18 = .ok (.ldc 52, 2) := dk_18 52 (dk_at dksX16_word_0 18 rfl rfl)
theorem dX16_word_20 : decode cX16_word 20 = .ok (.invokevirtual 55, 3) := dk_182 0 55 (dk_at dksX16_word_0 20 rfl rfl)
theorem dX16_word_23 : decode cX16_word 23 = .ok (.invokevirtual 59, 3) := dk_182 0 59 (dk_at dksX16_word_1 0 rfl rfl)
theorem dX16_word_26 : decode cX16_word 26 = .ok (.invokevirtual 63, 3) := dk_182 0 63 (dk_at dksX16_word_1 3 rfl rfl)
theorem dX16_word_29 : decode cX16_word 29 = .ok (.ifCond .ne 103, 3) := dk_154 0 103 (dk_at dksX16_word_1 6 rfl rfl)
theorem dX16_word_32 : decode cX16_word 32 = .ok (.aload_n 0, 1) := dk_42 (dk_at dksX16_word_1 9 rfl rfl)
theorem dX16_word_33 : decode cX16_word 33 = .ok (.bipush 97, 2) := dk_16 97 (dk_at dksX16_word_1 10 rfl rfl)
theorem dX16_word_35 : decode cX16_word 35 = .ok (.bipush 122, 2) := dk_16 122 (dk_at dksX16_word_1 12 rfl rfl)
theorem dX16_word_37 : decode cX16_word 37 = .ok (.invokevirtual 37, 3) := dk_182 0 37 (dk_at dksX16_word_1 14 rfl rfl)
theorem dX16_word_40 : decode cX16_word 40 = .ok (.ifCond .eq 45, 3) := dk_153 0 45 (dk_at dksX16_word_1 17 rfl rfl)
theorem dX16_word_43 : decode cX16_word 43 = .ok (.aload_n 1, 1) := dk_43 (dk_at dksX16_word_1 20 rfl rfl)
theorem dX16_word_44 : decode cX16_word 44 = .ok (.new 24, 3) := dk_187 0 24 (dk_at dksX16_word_1 21 rfl rfl)
theorem dX16_word_47 : decode cX16_word 47 = .ok (.dup, 1) := dk_89 (dk_at dksX16_word_2 0 rfl rfl)
theorem dX16_word_48 : decode cX16_word 48 = .ok (.invokespecial 54, 3) := dk_183 0 54 (dk_at dksX16_word_2 1 rfl rfl)
theorem dX16_word_51 : decode cX16_word 51 = .ok (.aload_n 2, 1) := dk_44 (dk_at dksX16_word_2 4 rfl rfl)
theorem dX16_word_52 : decode cX16_word 52 = .ok (.invokevirtual 55, 3) := dk_182 0 55 (dk_at dksX16_word_2 5 rfl rfl)
theorem dX16_word_55 : decode cX16_word 55 = .ok (.aload_n 0, 1) := dk_42 (dk_at dksX16_word_2 8 rfl rfl)
theorem dX16_word_56 : decode cX16_word 56 = .ok (.getfield 1, 3) := dk_180 0 1 (dk_at dksX16_word_2 9 rfl rfl)
theorem dX16_word_59 : decode cX16_word 59 = .ok (.getfield 17, 3) := dk_180 0 17 (dk_at dksX16_word_2 12 rfl rfl)
theorem dX16_word_62 : decode cX16_word 62 = .ok (.aload_n 0, 1) := dk_42 (dk_at dksX16_word_2 15 rfl rfl)
theorem dX16_word_63 : decode cX16_word 63 = .ok (.getfield 13, 3) := dk_180 0 13 (dk_at dksX16_word_2 16 rfl rfl)
theorem dX16_word_66 : decode cX16_word 66 = .ok (.invokevirtual 29, 3) := dk_182 0 29 (dk_at dksX16_word_2 19 rfl rfl)
theorem dX16_word_69 : decode cX16_word 69 = .ok (.invokevirtual 69, 3) := dk_182 0 69 (dk_at dksX16_word_3 0 rfl rfl)
theorem dX16_word_72 : decode cX16_word 72 = .ok (.invokevirtual 59, 3) := dk_182 0 59 (dk_at dksX16_word_3 3 rfl rfl)
theorem dX16_word_75 : decode cX16_word 75 = .ok (.invokevirtual 63, 3) := dk_182 0 63 (dk_at dksX16_word_3 6 rfl rfl)
theorem dX16_word_78 : decode cX16_word 78 = .ok (.ifCond .eq 7, 3) := dk_153 0 7 (dk_at dksX16_word_3 9 rfl rfl)
theorem dX16_word_81 : decode cX16_word 81 = .ok (.iconst 1, 1) := dk_4 (dk_at dksX16_word_3 12 rfl rfl)
theorem dX16_word_82 : decode cX16_word 82 = .ok (.goto 4, 3) := dk_167 0 4 (dk_at dksX16_word_3 13 rfl rfl)
theorem dX16_word_85 : decode cX16_word 85 = .ok (.iconst 0, 1) := dk_3 (dk_at dksX16_word_3 16 rfl rfl)
theorem dX16_word_86 : decode cX16_word 86 = .ok (.istore_n 3, 1) := dk_62 (dk_at dksX16_word_3 17 rfl rfl)
theorem dX16_word_87 : decode cX16_word 87 = .ok (.iload_n 3, 1) := dk_29 (dk_at dksX16_word_3 18 rfl rfl)
theorem dX16_word_88 : decode cX16_word 88 = .ok (.ifCond .ne 15, 3) := dk_154 0 15 (dk_at dksX16_word_3 19 rfl rfl)
theorem dX16_word_91 : decode cX16_word 91 = .ok (.new 41, 3) := dk_187 0 41 (dk_at dksX16_word_4 0 rfl rfl)
theorem dX16_word_94 : decode cX16_word 94 = .ok (.dup, 1) := dk_89 (dk_at dksX16_word_4 3 rfl rfl)
theorem dX16_word_95 : decode cX16_word 95 = .ok (.aload_n 0, 1) := dk_42 (dk_at dksX16_word_4 4 rfl rfl)
theorem dX16_word_96 : decode cX16_word 96 = .ok (.getfield 13, 3) := dk_180 0 13 (dk_at dksX16_word_4 5 rfl rfl)
theorem dX16_word_99 : decode cX16_word 99 = .ok (.invokespecial 43, 3) := dk_183 0 43 (dk_at dksX16_word_4 8 rfl rfl)
theorem dX16_word_102 : decode cX16_word 102 = .ok (.athrow, 1) := dk_191 (dk_at dksX16_word_4 11 rfl rfl)
theorem dX16_word_103 : decode cX16_word 103 = .ok (.new 24, 3) := dk_187 0 24 (dk_at dksX16_word_4 12 rfl rfl)
theorem dX16_word_106 : decode cX16_word 106 = .ok (.dup, 1) := dk_89 (dk_at dksX16_word_4 15 rfl rfl)
theorem dX16_word_107 : decode cX16_word 107 = .ok (.invokespecial 54, 3) := dk_183 0 54 (dk_at dksX16_word_4 16 rfl rfl)
theorem dX16_word_110 : decode cX16_word 110 = .ok (.aload_n 2, 1) := dk_44 (dk_at dksX16_word_4 19 rfl rfl)
theorem dX16_word_111 : decode cX16_word 111 = .ok (.invokevirtual 55, 3) := dk_182 0 55 (dk_at dksX16_word_4 20 rfl rfl)
theorem dX16_word_114 : decode cX16_word 114 = .ok (.aload_n 0, 1) := dk_42 (dk_at dksX16_word_4 23 rfl rfl)
theorem dX16_word_115 : decode cX16_word 115 = .ok (.bipush 97, 2) := dk_16 97 (dk_at dksX16_word_5 0 rfl rfl)
theorem dX16_word_117 : decode cX16_word 117 = .ok (.bipush 122, 2) := dk_16 122 (dk_at dksX16_word_5 2 rfl rfl)
theorem dX16_word_119 : decode cX16_word 119 = .ok (.invokevirtual 46, 3) := dk_182 0 46 (dk_at dksX16_word_5 4 rfl rfl)
theorem dX16_word_122 : decode cX16_word 122 = .ok (.invokevirtual 69, 3) := dk_182 0 69 (dk_at dksX16_word_5 7 rfl rfl)
theorem dX16_word_125 : decode cX16_word 125 = .ok (.invokevirtual 59, 3) := dk_182 0 59 (dk_at dksX16_word_5 10 rfl rfl)
theorem dX16_word_128 : decode cX16_word 128 = .ok (.astore_n 2, 1) := dk_77 (dk_at dksX16_word_5 13 rfl rfl)
theorem dX16_word_129 : decode cX16_word 129 = .ok (.goto (-123), 3) := dk_167 255 133 (dk_at dksX16_word_5 14 rfl rfl)
theorem dX16_word_132 : decode cX16_word 132 = .ok (.aload_n 2, 1) := dk_44 (dk_at dksX16_word_5 17 rfl rfl)
theorem dX16_word_133 : decode cX16_word 133 = .ok (.iconst 1, 1) := dk_4 (dk_at dksX16_word_5 18 rfl rfl)
theorem dX16_word_134 : decode cX16_word 134 = .ok (.invokevirtual 72, 3) := dk_182 0 72 (dk_at dksX16_word_5 19 rfl rfl)
theorem dX16_word_137 : decode cX16_word 137 = .ok (.areturn, 1) := dk_176 (dk_at dksX16_word_5 22 rfl rfl)
abbrev cX16_isAt : ByteArray := prog_10_method_2_code
def yX16_isAt : MethodName := ⟨RX16, "isAt", "(CC)Z"⟩
def dkwX16_isAt_1 : List UInt8 := [42, 180, 0, 13, 182, 0, 29, 27, 28, 184, 0, 33, 153, 0, 7, 4, 167, 0, 4, 3, 172]
abbrev dktX16_isAt_1 : List UInt8 := dkwX16_isAt_1 ++ []
def dkwX16_isAt_0 : List UInt8 := [42, 180, 0, 13, 42, 180, 0, 1, 180, 0, 17, 182, 0, 23, 162, 0, 29, 42, 180, 0, 1, 180, 0, 17]
abbrev dktX16_isAt_0 : List UInt8 := dkwX16_isAt_0 ++ dktX16_isAt_1
theorem dksX16_isAt_0 : cX16_isAt.data.toList.drop 0 = dktX16_isAt_0 := by decide +kernel
theorem dksX16_isAt_1 : cX16_isAt.data.toList.drop 24 = dktX16_isAt_1 := dk_seg dksX16_isAt_0 24 rfl rfl
theorem dX16_isAt_0 : decode cX16_isAt 0 = .ok (.aload_n 0, 1) := dk_42 (dk_at dksX16_isAt_0 0 rfl rfl)
theorem dX16_isAt_1 : decode cX16_isAt 1 = .ok (.getfield 13, 3) := dk_180 0 13 (dk_at dksX16_isAt_0 1 rfl rfl)
theorem dX16_isAt_4 : decode cX16_isAt 4 = .ok (.aload_n 0, 1) := dk_42 (dk_at dksX16_isAt_0 4 rfl rfl)
theorem dX16_isAt_5 : decode cX16_isAt 5 = .ok (.getfield 1, 3) := dk_180 0 1 (dk_at dksX16_isAt_0 5 rfl rfl)
theorem dX16_isAt_8 : decode cX16_isAt 8 = .ok (.getfield 17, 3) := dk_180 0 17 (dk_at dksX16_isAt_0 8 rfl rfl)
theorem dX16_isAt_11 : decode cX16_isAt 11 = .ok (.invokevirtual 23, 3) := dk_182 0 23 (dk_at dksX16_isAt_0 11 rfl rfl)
theorem dX16_isAt_14 : decode cX16_isAt 14 = .ok (.if_icmp .ge 29, 3) := dk_162 0 29 (dk_at dksX16_isAt_0 14 rfl rfl)
theorem dX16_isAt_17 : decode cX16_isAt 17 = .ok (.aload_n 0, 1) := dk_42 (dk_at dksX16_isAt_0 17 rfl rfl)
theorem dX16_isAt_18 : decode cX16_isAt 18 = .ok (.getfield 1, 3) := dk_180 0 1 (dk_at dksX16_isAt_0 18 rfl rfl)
theorem dX16_isAt_21 : decode cX16_isAt 21 = .ok (.getfield 17, 3) := dk_180 0 17 (dk_at dksX16_isAt_0 21 rfl rfl)
theorem dX16_isAt_24 : decode cX16_isAt 24 = .ok (.aload_n 0, 1) := dk_42 (dk_at dksX16_isAt_1 0 rfl rfl)
theorem dX16_isAt_25 : decode cX16_isAt 25 = .ok (.getfield 13, 3) := dk_180 0 13 (dk_at dksX16_isAt_1 1 rfl rfl)
theorem dX16_isAt_28 : decode cX16_isAt 28 = .ok (.invokevirtual 29, 3) := dk_182 0 29 (dk_at dksX16_isAt_1 4 rfl rfl)
theorem dX16_isAt_31 : decode cX16_isAt 31 = .ok (.iload_n 1, 1) := dk_27 (dk_at dksX16_isAt_1 7 rfl rfl)
theorem dX16_isAt_32 : decode cX16_isAt 32 = .ok (.iload_n 2, 1) := dk_28 (dk_at dksX16_isAt_1 8 rfl rfl)
theorem dX16_isAt_33 : decode cX16_isAt 33 = .ok (.invokestatic 33, 3) := dk_184 0 33 (dk_at dksX16_isAt_1 9 rfl rfl)
theorem dX16_isAt_36 : decode cX16_isAt 36 = .ok (.ifCond .eq 7, 3) := dk_153 0 7 (dk_at dksX16_isAt_1 12 rfl rfl)
theorem dX16_isAt_39 : decode cX16_isAt 39 = .ok (.iconst 1, 1) := dk_4 (dk_at dksX16_isAt_1 15 rfl rfl)
theorem dX16_isAt_40 : decode cX16_isAt 40 = .ok (.goto 4, 3) := dk_167 0 4 (dk_at dksX16_isAt_1 16 rfl rfl)
theorem dX16_isAt_43 : decode cX16_isAt 43 = .ok (.iconst 0, 1) := dk_3 (dk_at dksX16_isAt_1 19 rfl rfl)
theorem dX16_isAt_44 : decode cX16_isAt 44 = .ok (.ireturn, 1) := dk_172 (dk_at dksX16_isAt_1 20 rfl rfl)
abbrev cX16_take : ByteArray := prog_10_method_3_code
def yX16_take : MethodName := ⟨RX16, "take", "(CC)C"⟩
def dkwX16_take_2 : List UInt8 := [172]
abbrev dktX16_take_2 : List UInt8 := dkwX16_take_2 ++ []
def dkwX16_take_1 : List UInt8 := [180, 0, 13, 4, 96, 181, 0, 13, 42, 180, 0, 1, 180, 0, 17, 42, 180, 0, 13, 4, 100, 182, 0, 29]
abbrev dktX16_take_1 : List UInt8 := dkwX16_take_1 ++ dktX16_take_2
def dkwX16_take_0 : List UInt8 := [42, 27, 28, 182, 0, 37, 154, 0, 15, 187, 0, 41, 89, 42, 180, 0, 13, 183, 0, 43, 191, 42, 89]
abbrev dktX16_take_0 : List UInt8 := dkwX16_take_0 ++ dktX16_take_1
theorem dksX16_take_0 : cX16_take.data.toList.drop 0 = dktX16_take_0 := by decide +kernel
theorem dksX16_take_1 : cX16_take.data.toList.drop 23 = dktX16_take_1 := dk_seg dksX16_take_0 23 rfl rfl
theorem dksX16_take_2 : cX16_take.data.toList.drop 47 = dktX16_take_2 := dk_seg dksX16_take_1 24 rfl rfl
theorem dX16_take_0 : decode cX16_take 0 = .ok (.aload_n 0, 1) := dk_42 (dk_at dksX16_take_0 0 rfl rfl)
theorem dX16_take_1 : decode cX16_take 1 = .ok (.iload_n 1, 1) := dk_27 (dk_at dksX16_take_0 1 rfl rfl)
theorem dX16_take_2 : decode cX16_take 2 = .ok (.iload_n 2, 1) := dk_28 (dk_at dksX16_take_0 2 rfl rfl)
theorem dX16_take_3 : decode cX16_take 3 = .ok (.invokevirtual 37, 3) := dk_182 0 37 (dk_at dksX16_take_0 3 rfl rfl)
theorem dX16_take_6 : decode cX16_take 6 = .ok (.ifCond .ne 15, 3) := dk_154 0 15 (dk_at dksX16_take_0 6 rfl rfl)
theorem dX16_take_9 : decode cX16_take 9 = .ok (.new 41, 3) := dk_187 0 41 (dk_at dksX16_take_0 9 rfl rfl)
theorem dX16_take_12 : decode cX16_take 12 = .ok (.dup, 1) := dk_89 (dk_at dksX16_take_0 12 rfl rfl)
theorem dX16_take_13 : decode cX16_take 13 = .ok (.aload_n 0, 1) := dk_42 (dk_at dksX16_take_0 13 rfl rfl)
theorem dX16_take_14 : decode cX16_take 14 = .ok (.getfield 13, 3) := dk_180 0 13 (dk_at dksX16_take_0 14 rfl rfl)
theorem dX16_take_17 : decode cX16_take 17 = .ok (.invokespecial 43, 3) := dk_183 0 43 (dk_at dksX16_take_0 17 rfl rfl)
theorem dX16_take_20 : decode cX16_take 20 = .ok (.athrow, 1) := dk_191 (dk_at dksX16_take_0 20 rfl rfl)
theorem dX16_take_21 : decode cX16_take 21 = .ok (.aload_n 0, 1) := dk_42 (dk_at dksX16_take_0 21 rfl rfl)
theorem dX16_take_22 : decode cX16_take 22 = .ok (.dup, 1) := dk_89 (dk_at dksX16_take_0 22 rfl rfl)
theorem dX16_take_23 : decode cX16_take 23 = .ok (.getfield 13, 3) := dk_180 0 13 (dk_at dksX16_take_1 0 rfl rfl)
theorem dX16_take_26 : decode cX16_take 26 = .ok (.iconst 1, 1) := dk_4 (dk_at dksX16_take_1 3 rfl rfl)
theorem dX16_take_27 : decode cX16_take 27 = .ok (.iadd, 1) := dk_96 (dk_at dksX16_take_1 4 rfl rfl)
theorem dX16_take_28 : decode cX16_take 28 = .ok (.putfield 13, 3) := dk_181 0 13 (dk_at dksX16_take_1 5 rfl rfl)
theorem dX16_take_31 : decode cX16_take 31 = .ok (.aload_n 0, 1) := dk_42 (dk_at dksX16_take_1 8 rfl rfl)
theorem dX16_take_32 : decode cX16_take 32 = .ok (.getfield 1, 3) := dk_180 0 1 (dk_at dksX16_take_1 9 rfl rfl)
theorem dX16_take_35 : decode cX16_take 35 = .ok (.getfield 17, 3) := dk_180 0 17 (dk_at dksX16_take_1 12 rfl rfl)
theorem dX16_take_38 : decode cX16_take 38 = .ok (.aload_n 0, 1) := dk_42 (dk_at dksX16_take_1 15 rfl rfl)
theorem dX16_take_39 : decode cX16_take 39 = .ok (.getfield 13, 3) := dk_180 0 13 (dk_at dksX16_take_1 16 rfl rfl)
theorem dX16_take_42 : decode cX16_take 42 = .ok (.iconst 1, 1) := dk_4 (dk_at dksX16_take_1 19 rfl rfl)
theorem dX16_take_43 : decode cX16_take 43 = .ok (.isub, 1) := dk_100 (dk_at dksX16_take_1 20 rfl rfl)
theorem dX16_take_44 : decode cX16_take 44 = .ok (.invokevirtual 29, 3) := dk_182 0 29 (dk_at dksX16_take_1 21 rfl rfl)
theorem dX16_take_47 : decode cX16_take 47 = .ok (.ireturn, 1) := dk_172 (dk_at dksX16_take_2 0 rfl rfl)
abbrev cX16_number : ByteArray := prog_10_method_4_code
def yX16_number : MethodName := ⟨RX16, "number", "(I)I"⟩
def dkwX16_number_2 : List UInt8 := [16, 57, 182, 0, 46, 96, 16, 48, 100, 62, 132, 4, 1, 167, 255, 219, 29, 172]
abbrev dktX16_number_2 : List UInt8 := dkwX16_number_2 ++ []
def dkwX16_number_1 : List UInt8 := [21, 4, 27, 162, 0, 37, 42, 16, 48, 16, 57, 182, 0, 37, 153, 0, 26, 16, 10, 29, 104, 42, 16, 48]
abbrev dktX16_number_1 : List UInt8 := dkwX16_number_1 ++ dktX16_number_2
def dkwX16_number_0 : List UInt8 := [42, 16, 32, 16, 32, 182, 0, 46, 61, 42, 16, 48, 16, 57, 182, 0, 46, 16, 48, 100, 62, 4, 54, 4]
abbrev dktX16_number_0 : List UInt8 := dkwX16_number_0 ++ dktX16_number_1
theorem dksX16_number_0 : cX16_number.data.toList.drop 0 = dktX16_number_0 := by decide +kernel
theorem dksX16_number_1 : cX16_number.data.toList.drop 24 = dktX16_number_1 := dk_seg dksX16_number_0 24 rfl rfl
theorem dksX16_number_2 : cX16_number.data.toList.drop 48 = dktX16_number_2 := dk_seg dksX16_number_1 24 rfl rfl
theorem dX16_number_0 : decode cX16_number 0 = .ok (.aload_n 0, 1) := dk_42 (dk_at dksX16_number_0 0 rfl rfl)
theorem dX16_number_1 : decode cX16_number 1 = .ok (.bipush 32, 2) := dk_16 32 (dk_at dksX16_number_0 1 rfl rfl)
theorem dX16_number_3 : decode cX16_number 3 = .ok (.bipush 32, 2) := dk_16 32 (dk_at dksX16_number_0 3 rfl rfl)
theorem dX16_number_5 : decode cX16_number 5 = .ok (.invokevirtual 46, 3) := dk_182 0 46 (dk_at dksX16_number_0 5 rfl rfl)
theorem dX16_number_8 : decode cX16_number 8 = .ok (.istore_n 2, 1) := dk_61 (dk_at dksX16_number_0 8 rfl rfl)
theorem dX16_number_9 : decode cX16_number 9 = .ok (.aload_n 0, 1) := dk_42 (dk_at dksX16_number_0 9 rfl rfl)
theorem dX16_number_10 : decode cX16_number 10 = .ok (.bipush 48, 2) := dk_16 48 (dk_at dksX16_number_0 10 rfl rfl)
theorem dX16_number_12 : decode cX16_number 12 = .ok (.bipush 57, 2) := dk_16 57 (dk_at dksX16_number_0 12 rfl rfl)
theorem dX16_number_14 : decode cX16_number 14 = .ok (.invokevirtual 46, 3) := dk_182 0 46 (dk_at dksX16_number_0 14 rfl rfl)
theorem dX16_number_17 : decode cX16_number 17 = .ok (.bipush 48, 2) := dk_16 48 (dk_at dksX16_number_0 17 rfl rfl)
theorem dX16_number_19 : decode cX16_number 19 = .ok (.isub, 1) := dk_100 (dk_at dksX16_number_0 19 rfl rfl)
theorem dX16_number_20 : decode cX16_number 20 = .ok (.istore_n 3, 1) := dk_62 (dk_at dksX16_number_0 20 rfl rfl)
theorem dX16_number_21 : decode cX16_number 21 = .ok (.iconst 1, 1) := dk_4 (dk_at dksX16_number_0 21 rfl rfl)
theorem dX16_number_22 : decode cX16_number 22 = .ok (.istore 4, 2) := dk_54 4 (dk_at dksX16_number_0 22 rfl rfl)
theorem dX16_number_24 : decode cX16_number 24 = .ok (.iload 4, 2) := dk_21 4 (dk_at dksX16_number_1 0 rfl rfl)
theorem dX16_number_26 : decode cX16_number 26 = .ok (.iload_n 1, 1) := dk_27 (dk_at dksX16_number_1 2 rfl rfl)
theorem dX16_number_27 : decode cX16_number 27 = .ok (.if_icmp .ge 37, 3) := dk_162 0 37 (dk_at dksX16_number_1 3 rfl rfl)
theorem dX16_number_30 : decode cX16_number 30 = .ok (.aload_n 0, 1) := dk_42 (dk_at dksX16_number_1 6 rfl rfl)
theorem dX16_number_31 : decode cX16_number 31 = .ok (.bipush 48, 2) := dk_16 48 (dk_at dksX16_number_1 7 rfl rfl)
theorem dX16_number_33 : decode cX16_number 33 = .ok (.bipush 57, 2) := dk_16 57 (dk_at dksX16_number_1 9 rfl rfl)
theorem dX16_number_35 : decode cX16_number 35 = .ok (.invokevirtual 37, 3) := dk_182 0 37 (dk_at dksX16_number_1 11 rfl rfl)
theorem dX16_number_38 : decode cX16_number 38 = .ok (.ifCond .eq 26, 3) := dk_153 0 26 (dk_at dksX16_number_1 14 rfl rfl)
theorem dX16_number_41 : decode cX16_number 41 = .ok (.bipush 10, 2) := dk_16 10 (dk_at dksX16_number_1 17 rfl rfl)
theorem dX16_number_43 : decode cX16_number 43 = .ok (.iload_n 3, 1) := dk_29 (dk_at dksX16_number_1 19 rfl rfl)
theorem dX16_number_44 : decode cX16_number 44 = .ok (.imul, 1) := dk_104 (dk_at dksX16_number_1 20 rfl rfl)
theorem dX16_number_45 : decode cX16_number 45 = .ok (.aload_n 0, 1) := dk_42 (dk_at dksX16_number_1 21 rfl rfl)
theorem dX16_number_46 : decode cX16_number 46 = .ok (.bipush 48, 2) := dk_16 48 (dk_at dksX16_number_1 22 rfl rfl)
theorem dX16_number_48 : decode cX16_number 48 = .ok (.bipush 57, 2) := dk_16 57 (dk_at dksX16_number_2 0 rfl rfl)
theorem dX16_number_50 : decode cX16_number 50 = .ok (.invokevirtual 46, 3) := dk_182 0 46 (dk_at dksX16_number_2 2 rfl rfl)
theorem dX16_number_53 : decode cX16_number 53 = .ok (.iadd, 1) := dk_96 (dk_at dksX16_number_2 5 rfl rfl)
theorem dX16_number_54 : decode cX16_number 54 = .ok (.bipush 48, 2) := dk_16 48 (dk_at dksX16_number_2 6 rfl rfl)
theorem dX16_number_56 : decode cX16_number 56 = .ok (.isub, 1) := dk_100 (dk_at dksX16_number_2 8 rfl rfl)
theorem dX16_number_57 : decode cX16_number 57 = .ok (.istore_n 3, 1) := dk_62 (dk_at dksX16_number_2 9 rfl rfl)
theorem dX16_number_58 : decode cX16_number 58 = .ok (.iinc 4 1, 3) := dk_132 4 1 (dk_at dksX16_number_2 10 rfl rfl)
theorem dX16_number_61 : decode cX16_number 61 = .ok (.goto (-37), 3) := dk_167 255 219 (dk_at dksX16_number_2 13 rfl rfl)
theorem dX16_number_64 : decode cX16_number 64 = .ok (.iload_n 3, 1) := dk_29 (dk_at dksX16_number_2 16 rfl rfl)
theorem dX16_number_65 : decode cX16_number 65 = .ok (.ireturn, 1) := dk_172 (dk_at dksX16_number_2 17 rfl rfl)
theorem q118 : (Jvm.Cond.initialized "BlockPapers$Parser") ∈ lw_all := lw_g (lw_at lw_m1 44 rfl) rfl
theorem q237 : (Jvm.Cond.fieldLinkNest "BlockPapers$Parser" (17 : Nat) "BlockPapers" "input" "Ljava/lang/StringBuilder;" "BlockPapers") ∈ lw_tbl := lw_at lw_m1 163 rfl
theorem q829 : (Jvm.Cond.selects "BlockPapers$Parser" ({ cls := "java/lang/Object", name := "getClass", desc := "()Ljava/lang/Class;" } : Jvm.MethodName) ({ cls := "java/lang/Object", name := "getClass", desc := "()Ljava/lang/Class;" } : Jvm.MethodName)) ∈ lw_all := lw_g (lw_at lw_m4 35 rfl) rfl
theorem q1963 : (Jvm.Cond.instantiable "BlockPapers$Parser" (2 : Nat)) ∈ lw_all := lw_g (lw_at lw_m8 209 rfl) rfl
theorem q1965 : (Jvm.Cond.instanceMethod ({ cls := "BlockPapers$Parser", name := "<init>", desc := "(LBlockPapers;)V" } : Jvm.MethodName)) ∈ lw_all := lw_g (lw_at lw_m8 211 rfl) rfl
theorem q1966 : (Jvm.Cond.code ({ cls := "BlockPapers$Parser", name := "<init>", desc := "(LBlockPapers;)V" } : Jvm.MethodName) prog_10_method_1_code (2 : Nat) (Option.none : Option Jvm.ClassFile.FieldType)) ∈ lw_all := lw_g (lw_at lw_m8 212 rfl) rfl
theorem q1967 : (Jvm.Cond.methodLink "BlockPapers$Parser" (7 : Nat) ({ cls := "java/lang/Object", name := "<init>", desc := "()V" } : Jvm.MethodName)) ∈ lw_all := lw_g (lw_at lw_m8 213 rfl) rfl
theorem q1968 : (Jvm.Cond.fieldLink "BlockPapers$Parser" (13 : Nat) "BlockPapers$Parser" "position" "I") ∈ lw_all := lw_g (lw_at lw_m8 214 rfl) rfl
theorem q1969 : (Jvm.Cond.fieldLink "BlockPapers$Parser" (1 : Nat) "BlockPapers$Parser" "this$0" "LBlockPapers;") ∈ lw_all := lw_g (lw_at lw_m8 215 rfl) rfl
theorem q1970 : (Jvm.Cond.lays "BlockPapers$Parser" "BlockPapers$Parser" "position" "I") ∈ lw_all := lw_g (lw_at lw_m8 216 rfl) rfl
theorem q1971 : (Jvm.Cond.soleField "BlockPapers$Parser" "position") ∈ lw_all := lw_g (lw_at lw_m8 217 rfl) rfl
theorem q1972 : (Jvm.Cond.laysFinal "BlockPapers$Parser" "BlockPapers$Parser" "this$0" "LBlockPapers;") ∈ lw_all := lw_g (lw_at lw_m8 218 rfl) rfl
theorem q1973 : (Jvm.Cond.soleField "BlockPapers$Parser" "this$0") ∈ lw_all := lw_g (lw_at lw_m8 219 rfl) rfl
theorem q1974 : (Jvm.Cond.superclass "BlockPapers$Parser" "java/lang/Object") ∈ lw_all := lw_g (lw_at lw_m8 220 rfl) rfl
theorem q1976 : (Jvm.Cond.instanceMethod ({ cls := "BlockPapers$Parser", name := "text", desc := "()Ljava/util/List;" } : Jvm.MethodName)) ∈ lw_all := lw_g (lw_at lw_m8 222 rfl) rfl
theorem q1977 : (Jvm.Cond.selects "BlockPapers$Parser" ({ cls := "BlockPapers$Parser", name := "text", desc := "()Ljava/util/List;" } : Jvm.MethodName) ({ cls := "BlockPapers$Parser", name := "text", desc := "()Ljava/util/List;" } : Jvm.MethodName)) ∈ lw_all := lw_g (lw_at lw_m8 223 rfl) rfl
theorem q1978 : (Jvm.Cond.code ({ cls := "BlockPapers$Parser", name := "text", desc := "()Ljava/util/List;" } : Jvm.MethodName) prog_10_method_7_code (3 : Nat) (Option.some (Jvm.ClassFile.FieldType.object "java/util/List"))) ∈ lw_all := lw_g (lw_at lw_m8 224 rfl) rfl
theorem q1979 : (Jvm.Cond.classLink "BlockPapers$Parser" (109 : Nat) "java/util/ArrayList") ∈ lw_all := lw_g (lw_at lw_m8 225 rfl) rfl
theorem q1980 : (Jvm.Cond.methodLink "BlockPapers$Parser" (111 : Nat) ({ cls := "java/util/ArrayList", name := "<init>", desc := "()V" } : Jvm.MethodName)) ∈ lw_all := lw_g (lw_at lw_m8 226 rfl) rfl
theorem q1981 : (Jvm.Cond.methodLink "BlockPapers$Parser" (112 : Nat) ({ cls := "BlockPapers$Parser", name := "command", desc := "()LBlockPapers$Deed;" } : Jvm.MethodName)) ∈ lw_all := lw_g (lw_at lw_m8 227 rfl) rfl
theorem q1982 : (Jvm.Cond.privateMethod ({ cls := "BlockPapers$Parser", name := "command", desc := "()LBlockPapers$Deed;" } : Jvm.MethodName)) ∈ lw_tbl := lw_at lw_m8 228 rfl
theorem q1983 : (Jvm.Cond.instanceMethod ({ cls := "BlockPapers$Parser", name := "command", desc := "()LBlockPapers$Deed;" } : Jvm.MethodName)) ∈ lw_all := lw_g (lw_at lw_m8 229 rfl) rfl
theorem q1984 : (Jvm.Cond.code ({ cls := "BlockPapers$Parser", name := "command", desc := "()LBlockPapers$Deed;" } : Jvm.MethodName) prog_10_method_6_code (6 : Nat) (Option.some (Jvm.ClassFile.FieldType.object "BlockPapers$Deed"))) ∈ lw_all := lw_g (lw_at lw_m8 230 rfl) rfl
theorem q1985 : (Jvm.Cond.methodLink "BlockPapers$Parser" (76 : Nat) ({ cls := "BlockPapers$Parser", name := "word", desc := "()Ljava/lang/String;" } : Jvm.MethodName)) ∈ lw_all := lw_g (lw_at lw_m8 231 rfl) rfl
theorem q1986 : (Jvm.Cond.privateMethod ({ cls := "BlockPapers$Parser", name := "word", desc := "()Ljava/lang/String;" } : Jvm.MethodName)) ∈ lw_tbl := lw_at lw_m8 232 rfl
theorem q1987 : (Jvm.Cond.instanceMethod ({ cls := "BlockPapers$Parser", name := "word", desc := "()Ljava/lang/String;" } : Jvm.MethodName)) ∈ lw_all := lw_g (lw_at lw_m8 233 rfl) rfl
theorem q1988 : (Jvm.Cond.code ({ cls := "BlockPapers$Parser", name := "word", desc := "()Ljava/lang/String;" } : Jvm.MethodName) prog_10_method_5_code (4 : Nat) (Option.some (Jvm.ClassFile.FieldType.object "java/lang/String"))) ∈ lw_all := lw_g (lw_at lw_m8 234 rfl) rfl
theorem q1989 : (Jvm.Cond.stringRef "BlockPapers$Parser" (50 : Nat) " print hang strip back finish carve mix ") ∈ lw_tbl := lw_at lw_m8 235 rfl
theorem q1990 : (Jvm.Cond.stringRef "BlockPapers$Parser" (52 : Nat) " ") ∈ lw_tbl := lw_at lw_m8 236 rfl
theorem q1991 : (Jvm.Cond.classLink "BlockPapers$Parser" (24 : Nat) "java/lang/StringBuilder") ∈ lw_all := lw_g (lw_at lw_m8 237 rfl) rfl
theorem q1992 : (Jvm.Cond.methodLink "BlockPapers$Parser" (54 : Nat) ({ cls := "java/lang/StringBuilder", name := "<init>", desc := "()V" } : Jvm.MethodName)) ∈ lw_all := lw_g (lw_at lw_m8 238 rfl) rfl
theorem q1993 : (Jvm.Cond.methodLink "BlockPapers$Parser" (55 : Nat) ({ cls := "java/lang/StringBuilder", name := "append", desc := "(Ljava/lang/String;)Ljava/lang/StringBuilder;" } : Jvm.MethodName)) ∈ lw_all := lw_g (lw_at lw_m8 239 rfl) rfl
theorem q1994 : (Jvm.Cond.methodLink "BlockPapers$Parser" (59 : Nat) ({ cls := "java/lang/StringBuilder", name := "toString", desc := "()Ljava/lang/String;" } : Jvm.MethodName)) ∈ lw_all := lw_g (lw_at lw_m9 0 rfl) rfl
theorem q1995 : (Jvm.Cond.methodLink "BlockPapers$Parser" (63 : Nat) ({ cls := "java/lang/String", name := "contains", desc := "(Ljava/lang/CharSequence;)Z" } : Jvm.MethodName)) ∈ lw_all := lw_g (lw_at lw_m9 1 rfl) rfl
theorem q2033 : (Jvm.Cond.methodLink "BlockPapers$Parser" (37 : Nat) ({ cls := "BlockPapers$Parser", name := "isAt", desc := "(CC)Z" } : Jvm.MethodName)) ∈ lw_all := lw_g (lw_at lw_m9 39 rfl) rfl
theorem q2034 : (Jvm.Cond.privateMethod ({ cls := "BlockPapers$Parser", name := "isAt", desc := "(CC)Z" } : Jvm.MethodName)) ∈ lw_tbl := lw_at lw_m9 40 rfl
theorem q2035 : (Jvm.Cond.instanceMethod ({ cls := "BlockPapers$Parser", name := "isAt", desc := "(CC)Z" } : Jvm.MethodName)) ∈ lw_all := lw_g (lw_at lw_m9 41 rfl) rfl
theorem q2036 : (Jvm.Cond.code ({ cls := "BlockPapers$Parser", name := "isAt", desc := "(CC)Z" } : Jvm.MethodName) prog_10_method_2_code (3 : Nat) (Option.some Jvm.ClassFile.FieldType.boolean)) ∈ lw_all := lw_g (lw_at lw_m9 42 rfl) rfl
theorem q2037 : (Jvm.Cond.methodLink "BlockPapers$Parser" (23 : Nat) ({ cls := "java/lang/StringBuilder", name := "length", desc := "()I" } : Jvm.MethodName)) ∈ lw_all := lw_g (lw_at lw_m9 43 rfl) rfl
theorem q2038 : (Jvm.Cond.methodLink "BlockPapers$Parser" (29 : Nat) ({ cls := "java/lang/StringBuilder", name := "charAt", desc := "(I)C" } : Jvm.MethodName)) ∈ lw_all := lw_g (lw_at lw_m9 44 rfl) rfl
theorem q2039 : (Jvm.Cond.methodLinkNest "BlockPapers$Parser" (33 : Nat) ({ cls := "BlockPapers", name := "inRange", desc := "(III)Z" } : Jvm.MethodName) "BlockPapers") ∈ lw_tbl := lw_at lw_m9 45 rfl
theorem q2040 : (Jvm.Cond.methodLink "BlockPapers$Parser" (69 : Nat) ({ cls := "java/lang/StringBuilder", name := "append", desc := "(C)Ljava/lang/StringBuilder;" } : Jvm.MethodName)) ∈ lw_all := lw_g (lw_at lw_m9 46 rfl) rfl
theorem q2041 : (Jvm.Cond.classLink "BlockPapers$Parser" (41 : Nat) "BlockPapers$FaultException") ∈ lw_all := lw_g (lw_at lw_m9 47 rfl) rfl
theorem q2050 : (Jvm.Cond.methodLink "BlockPapers$Parser" (43 : Nat) ({ cls := "BlockPapers$FaultException", name := "<init>", desc := "(I)V" } : Jvm.MethodName)) ∈ lw_all := lw_g (lw_at lw_m9 56 rfl) rfl
theorem q2060 : (Jvm.Cond.methodLink "BlockPapers$Parser" (46 : Nat) ({ cls := "BlockPapers$Parser", name := "take", desc := "(CC)C" } : Jvm.MethodName)) ∈ lw_all := lw_g (lw_at lw_m9 66 rfl) rfl
theorem q2061 : (Jvm.Cond.privateMethod ({ cls := "BlockPapers$Parser", name := "take", desc := "(CC)C" } : Jvm.MethodName)) ∈ lw_tbl := lw_at lw_m9 67 rfl
theorem q2062 : (Jvm.Cond.instanceMethod ({ cls := "BlockPapers$Parser", name := "take", desc := "(CC)C" } : Jvm.MethodName)) ∈ lw_all := lw_g (lw_at lw_m9 68 rfl) rfl
theorem q2063 : (Jvm.Cond.code ({ cls := "BlockPapers$Parser", name := "take", desc := "(CC)C" } : Jvm.MethodName) prog_10_method_3_code (3 : Nat) (Option.some Jvm.ClassFile.FieldType.char)) ∈ lw_all := lw_g (lw_at lw_m9 69 rfl) rfl
theorem q2064 : (Jvm.Cond.methodLink "BlockPapers$Parser" (72 : Nat) ({ cls := "java/lang/String", name := "substring", desc := "(I)Ljava/lang/String;" } : Jvm.MethodName)) ∈ lw_all := lw_g (lw_at lw_m9 70 rfl) rfl
theorem q2092 : (Jvm.Cond.methodLink "BlockPapers$Parser" (79 : Nat) ({ cls := "java/lang/String", name := "hashCode", desc := "()I" } : Jvm.MethodName)) ∈ lw_all := lw_g (lw_at lw_m9 98 rfl) rfl
theorem q2093 : (Jvm.Cond.stringRef "BlockPapers$Parser" (82 : Nat) "print") ∈ lw_tbl := lw_at lw_m9 99 rfl
theorem q2094 : (Jvm.Cond.methodLink "BlockPapers$Parser" (84 : Nat) ({ cls := "java/lang/String", name := "equals", desc := "(Ljava/lang/Object;)Z" } : Jvm.MethodName)) ∈ lw_all := lw_g (lw_at lw_m9 100 rfl) rfl
theorem q2095 : (Jvm.Cond.stringRef "BlockPapers$Parser" (88 : Nat) "mix") ∈ lw_tbl := lw_at lw_m9 101 rfl
theorem q2096 : (Jvm.Cond.stringRef "BlockPapers$Parser" (90 : Nat) "hang") ∈ lw_tbl := lw_at lw_m9 102 rfl
theorem q2097 : (Jvm.Cond.stringRef "BlockPapers$Parser" (92 : Nat) "back") ∈ lw_tbl := lw_at lw_m9 103 rfl
theorem q2098 : (Jvm.Cond.methodLink "BlockPapers$Parser" (94 : Nat) ({ cls := "BlockPapers$Parser", name := "number", desc := "(I)I" } : Jvm.MethodName)) ∈ lw_all := lw_g (lw_at lw_m9 104 rfl) rfl
theorem q2099 : (Jvm.Cond.privateMethod ({ cls := "BlockPapers$Parser", name := "number", desc := "(I)I" } : Jvm.MethodName)) ∈ lw_tbl := lw_at lw_m9 105 rfl
theorem q2100 : (Jvm.Cond.instanceMethod ({ cls := "BlockPapers$Parser", name := "number", desc := "(I)I" } : Jvm.MethodName)) ∈ lw_all := lw_g (lw_at lw_m9 106 rfl) rfl
theorem q2101 : (Jvm.Cond.code ({ cls := "BlockPapers$Parser", name := "number", desc := "(I)I" } : Jvm.MethodName) prog_10_method_4_code (5 : Nat) (Option.some Jvm.ClassFile.FieldType.int)) ∈ lw_all := lw_g (lw_at lw_m9 107 rfl) rfl
theorem q2102 : (Jvm.Cond.classLink "BlockPapers$Parser" (98 : Nat) "BlockPapers$Named") ∈ lw_all := lw_g (lw_at lw_m9 108 rfl) rfl
theorem q2103 : (Jvm.Cond.methodLink "BlockPapers$Parser" (100 : Nat) ({ cls := "BlockPapers$Named", name := "<init>", desc := "(Ljava/lang/String;III)V" } : Jvm.MethodName)) ∈ lw_all := lw_g (lw_at lw_m9 109 rfl) rfl
theorem q2104 : (Jvm.Cond.methodLink "BlockPapers$Parser" (103 : Nat) ({ cls := "BlockPapers$Named", name := "<init>", desc := "(Ljava/lang/String;II)V" } : Jvm.MethodName)) ∈ lw_all := lw_g (lw_at lw_m9 110 rfl) rfl
theorem q2105 : (Jvm.Cond.methodLink "BlockPapers$Parser" (106 : Nat) ({ cls := "BlockPapers$Named", name := "<init>", desc := "(Ljava/lang/String;I)V" } : Jvm.MethodName)) ∈ lw_all := lw_g (lw_at lw_m9 111 rfl) rfl
theorem q2106 : (Jvm.Cond.interfaceEntry "BlockPapers$Parser" (116 : Nat)) ∈ lw_tbl := lw_at lw_m9 112 rfl
theorem q2107 : (Jvm.Cond.methodLink "BlockPapers$Parser" (116 : Nat) ({ cls := "java/util/List", name := "add", desc := "(Ljava/lang/Object;)Z" } : Jvm.MethodName)) ∈ lw_all := lw_g (lw_at lw_m9 113 rfl) rfl
theorem q2727 : (Jvm.Cond.castable "BlockPapers$Parser" "java/lang/Object") ∈ lw_tbl := lw_at lw_m12 13 rfl
theorem in_X16 : ∀ w ∈ wsX160, w ∈ lw_all := lw_in wsX160 [1970, 1972] (by decide +kernel) (by decide +kernel)
/-! BlockPapers$FaultException -/
set_option maxRecDepth 100000
def RX17 : String := "BlockPapers$FaultException"
def TX17 : u_T := fun k => match k with
  | 0 => ("java/lang/Throwable", "cause", "Ljava/lang/Throwable;", false)
  | 1 => ("java/lang/Throwable", "stackTrace", "[Ljava/lang/StackTraceElement;", false)
  | 2 => ("java/lang/Throwable", "suppressedExceptions", "Ljava/util/List;", false)
  | 3 => ("java/lang/Throwable", "detailMessage", "Ljava/lang/String;", false)
  | 4 => ("java/lang/Throwable", "backtrace", "Ljava/lang/Object;", false)
  | 5 => ("java/lang/Throwable", "depth", "I", false)
  | _ => ("BlockPapers$FaultException", "position", "I", true)
def tyX17 : Nat → FieldType := fun k => match k with
  | 0 => .object "java/lang/Throwable"
  | 1 => .array (.object "java/lang/StackTraceElement")
  | 2 => .object "java/util/List"
  | 3 => .object "java/lang/String"
  | 4 => .object "java/lang/Object"
  | 5 => .int
  | _ => .int
abbrev wsX170 : List Cond := u_ws RX17 TX17 7
theorem nmX17 : ∀ a, a < 7 → ∀ b, b < 7 → a ≠ b → (TX17 a).2.1 ≠ (TX17 b).2.1 := by decide +kernel
theorem tyX17_ok : ∀ k, k < 7 → parseFieldDescriptor (TX17 k).2.2.1 = some (tyX17 k) := by decide +kernel
abbrev cX17_init : ByteArray := prog_7_method_1_code
def yX17_init : MethodName := ⟨RX17, "<init>", "(I)V"⟩
def dkwX17_init_0 : List UInt8 := [42, 1, 1, 3, 3, 183, 0, 1, 42, 27, 181, 0, 7, 177]
abbrev dktX17_init_0 : List UInt8 := dkwX17_init_0 ++ []
theorem dksX17_init_0 : cX17_init.data.toList.drop 0 = dktX17_init_0 := by decide +kernel
theorem dX17_init_0 : decode cX17_init 0 = .ok (.aload_n 0, 1) := dk_42 (dk_at dksX17_init_0 0 rfl rfl)
theorem dX17_init_1 : decode cX17_init 1 = .ok (.aconst_null, 1) := dk_1 (dk_at dksX17_init_0 1 rfl rfl)
theorem dX17_init_2 : decode cX17_init 2 = .ok (.aconst_null, 1) := dk_1 (dk_at dksX17_init_0 2 rfl rfl)
theorem dX17_init_3 : decode cX17_init 3 = .ok (.iconst 0, 1) := dk_3 (dk_at dksX17_init_0 3 rfl rfl)
theorem dX17_init_4 : decode cX17_init 4 = .ok (.iconst 0, 1) := dk_3 (dk_at dksX17_init_0 4 rfl rfl)
theorem dX17_init_5 : decode cX17_init 5 = .ok (.invokespecial 1, 3) := dk_183 0 1 (dk_at dksX17_init_0 5 rfl rfl)
theorem dX17_init_8 : decode cX17_init 8 = .ok (.aload_n 0, 1) := dk_42 (dk_at dksX17_init_0 8 rfl rfl)
theorem dX17_init_9 : decode cX17_init 9 = .ok (.iload_n 1, 1) := dk_27 (dk_at dksX17_init_0 9 rfl rfl)
theorem dX17_init_10 : decode cX17_init 10 = .ok (.putfield 7, 3) := dk_181 0 7 (dk_at dksX17_init_0 10 rfl rfl)
theorem dX17_init_13 : decode cX17_init 13 = .ok (.return_, 1) := dk_177 (dk_at dksX17_init_0 13 rfl rfl)
theorem q119 : (Jvm.Cond.initialized "BlockPapers$FaultException") ∈ lw_all := lw_g (lw_at lw_m1 45 rfl) rfl
theorem q306 : (Jvm.Cond.selects "BlockPapers$FaultException" ({ cls := "java/lang/Throwable", name := "fillInStackTrace", desc := "()Ljava/lang/Throwable;" } : Jvm.MethodName) ({ cls := "java/lang/Throwable", name := "fillInStackTrace", desc := "()Ljava/lang/Throwable;" } : Jvm.MethodName)) ∈ lw_all := lw_g (lw_at lw_m1 232 rfl) rfl
theorem q826 : (Jvm.Cond.selects "BlockPapers$FaultException" ({ cls := "java/lang/Object", name := "getClass", desc := "()Ljava/lang/Class;" } : Jvm.MethodName) ({ cls := "java/lang/Object", name := "getClass", desc := "()Ljava/lang/Class;" } : Jvm.MethodName)) ∈ lw_all := lw_g (lw_at lw_m4 32 rfl) rfl
theorem q2042 : (Jvm.Cond.instantiable "BlockPapers$FaultException" (7 : Nat)) ∈ lw_all := lw_g (lw_at lw_m9 48 rfl) rfl
theorem q2043 : (Jvm.Cond.castable "BlockPapers$FaultException" "BlockPapers$FaultException") ∈ lw_tbl := lw_at lw_m9 49 rfl
theorem q2044 : (Jvm.Cond.selects "BlockPapers$FaultException" ({ cls := "java/lang/Throwable", name := "fillInStackTrace", desc := "(I)Ljava/lang/Throwable;" } : Jvm.MethodName) ({ cls := "java/lang/Throwable", name := "fillInStackTrace", desc := "(I)Ljava/lang/Throwable;" } : Jvm.MethodName)) ∈ lw_all := lw_g (lw_at lw_m9 50 rfl) rfl
theorem q2045 : (Jvm.Cond.lays "BlockPapers$FaultException" "java/lang/Throwable" "cause" "Ljava/lang/Throwable;") ∈ lw_all := lw_g (lw_at lw_m9 51 rfl) rfl
theorem q2046 : (Jvm.Cond.lays "BlockPapers$FaultException" "java/lang/Throwable" "stackTrace" "[Ljava/lang/StackTraceElement;") ∈ lw_all := lw_g (lw_at lw_m9 52 rfl) rfl
theorem q2047 : (Jvm.Cond.lays "BlockPapers$FaultException" "java/lang/Throwable" "suppressedExceptions" "Ljava/util/List;") ∈ lw_all := lw_g (lw_at lw_m9 53 rfl) rfl
theorem q2048 : (Jvm.Cond.lays "BlockPapers$FaultException" "java/lang/Throwable" "detailMessage" "Ljava/lang/String;") ∈ lw_all := lw_g (lw_at lw_m9 54 rfl) rfl
theorem q2049 : (Jvm.Cond.lays "BlockPapers$FaultException" "java/lang/Throwable" "backtrace" "Ljava/lang/Object;") ∈ lw_all := lw_g (lw_at lw_m9 55 rfl) rfl
theorem q2051 : (Jvm.Cond.instanceMethod ({ cls := "BlockPapers$FaultException", name := "<init>", desc := "(I)V" } : Jvm.MethodName)) ∈ lw_all := lw_g (lw_at lw_m9 57 rfl) rfl
theorem q2052 : (Jvm.Cond.code ({ cls := "BlockPapers$FaultException", name := "<init>", desc := "(I)V" } : Jvm.MethodName) prog_7_method_1_code (2 : Nat) (Option.none : Option Jvm.ClassFile.FieldType)) ∈ lw_all := lw_g (lw_at lw_m9 58 rfl) rfl
theorem q2053 : (Jvm.Cond.methodLink "BlockPapers$FaultException" (1 : Nat) ({ cls := "java/lang/Exception", name := "<init>", desc := "(Ljava/lang/String;Ljava/lang/Throwable;ZZ)V" } : Jvm.MethodName)) ∈ lw_all := lw_g (lw_at lw_m9 59 rfl) rfl
theorem q2054 : (Jvm.Cond.fieldLink "BlockPapers$FaultException" (7 : Nat) "BlockPapers$FaultException" "position" "I") ∈ lw_all := lw_g (lw_at lw_m9 60 rfl) rfl
theorem q2056 : (Jvm.Cond.laysFinal "BlockPapers$FaultException" "BlockPapers$FaultException" "position" "I") ∈ lw_all := lw_g (lw_at lw_m9 62 rfl) rfl
theorem q2057 : (Jvm.Cond.soleField "BlockPapers$FaultException" "position") ∈ lw_all := lw_g (lw_at lw_m9 63 rfl) rfl
theorem q2058 : (Jvm.Cond.lays "BlockPapers$FaultException" "java/lang/Throwable" "depth" "I") ∈ lw_all := lw_g (lw_at lw_m9 64 rfl) rfl
theorem q2059 : (Jvm.Cond.superclass "BlockPapers$FaultException" "java/lang/Exception") ∈ lw_all := lw_g (lw_at lw_m9 65 rfl) rfl
theorem q2728 : (Jvm.Cond.castable "BlockPapers$FaultException" "java/lang/Object") ∈ lw_tbl := lw_at lw_m12 14 rfl
theorem in_X17 : ∀ w ∈ wsX170, w ∈ lw_all := lw_in wsX170 [2045, 2046, 2047, 2048, 2049, 2058, 2056] (by decide +kernel) (by decide +kernel)
