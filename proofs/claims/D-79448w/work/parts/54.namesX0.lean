/-! RosaryCarvers -/
set_option maxRecDepth 100000
def RX0 : String := "RosaryCarvers"
def TX0 : u_T := fun k => match k with
  | 0 => ("RosaryCarvers", "now", "LRosaryCarvers$Shop;", false)
  | 1 => ("RosaryCarvers", "saved", "LRosaryCarvers$Shop;", false)
  | 2 => ("RosaryCarvers", "before", "Ljava/util/ArrayDeque;", true)
  | 3 => ("RosaryCarvers", "refusal", "LRosaryCarvers$Refused;", false)
  | 4 => ("RosaryCarvers", "line", "Ljava/lang/String;", false)
  | 5 => ("RosaryCarvers", "input", "[C", true)
  | 6 => ("RosaryCarvers", "fed", "I", false)
  | _ => ("RosaryCarvers", "faultAt", "I", false)
def tyX0 : Nat → FieldType := fun k => match k with
  | 0 => .object "RosaryCarvers$Shop"
  | 1 => .object "RosaryCarvers$Shop"
  | 2 => .object "java/util/ArrayDeque"
  | 3 => .object "RosaryCarvers$Refused"
  | 4 => .object "java/lang/String"
  | 5 => .array .char
  | 6 => .int
  | _ => .int
abbrev wsX00 : List Cond := u_ws RX0 TX0 8
theorem nmX0 : ∀ a, a < 8 → ∀ b, b < 8 → a ≠ b → (TX0 a).2.1 ≠ (TX0 b).2.1 := by decide +kernel
theorem tyX0_ok : ∀ k, k < 8 → parseFieldDescriptor (TX0 k).2.2.1 = some (tyX0 k) := by decide +kernel
abbrev cX0_init : ByteArray := prog_1_method_5_code
def yX0_init : MethodName := ⟨RX0, "<init>", "()V"⟩
def dkwX0_init_1 : List UInt8 := [181, 0, 24, 42, 18, 28, 181, 0, 30, 42, 16, 60, 188, 5, 181, 0, 34, 42, 2, 181, 0, 38, 177]
abbrev dktX0_init_1 : List UInt8 := dkwX0_init_1 ++ []
def dkwX0_init_0 : List UInt8 := [42, 183, 0, 9, 42, 187, 0, 14, 89, 183, 0, 16, 181, 0, 17, 42, 187, 0, 21, 89, 183, 0, 23]
abbrev dktX0_init_0 : List UInt8 := dkwX0_init_0 ++ dktX0_init_1
theorem dksX0_init_0 : cX0_init.data.toList.drop 0 = dktX0_init_0 := by decide +kernel
theorem dksX0_init_1 : cX0_init.data.toList.drop 23 = dktX0_init_1 := dk_seg dksX0_init_0 23 rfl rfl
theorem dX0_init_0 : decode cX0_init 0 = .ok (.aload_n 0, 1) := dk_42 (dk_at dksX0_init_0 0 rfl rfl)
theorem dX0_init_1 : decode cX0_init 1 = .ok (.invokespecial 9, 3) := dk_183 0 9 (dk_at dksX0_init_0 1 rfl rfl)
theorem dX0_init_4 : decode cX0_init 4 = .ok (.aload_n 0, 1) := dk_42 (dk_at dksX0_init_0 4 rfl rfl)
theorem dX0_init_5 : decode cX0_init 5 = .ok (.new 14, 3) := dk_187 0 14 (dk_at dksX0_init_0 5 rfl rfl)
theorem dX0_init_8 : decode cX0_init 8 = .ok (.dup, 1) := dk_89 (dk_at dksX0_init_0 8 rfl rfl)
theorem dX0_init_9 : decode cX0_init 9 = .ok (.invokespecial 16, 3) := dk_183 0 16 (dk_at dksX0_init_0 9 rfl rfl)
theorem dX0_init_12 : decode cX0_init 12 = .ok (.putfield 17, 3) := dk_181 0 17 (dk_at dksX0_init_0 12 rfl rfl)
theorem dX0_init_15 : decode cX0_init 15 = .ok (.aload_n 0, 1) := dk_42 (dk_at dksX0_init_0 15 rfl rfl)
theorem dX0_init_16 : decode cX0_init 16 = .ok (.new 21, 3) := dk_187 0 21 (dk_at dksX0_init_0 16 rfl rfl)
theorem dX0_init_19 : decode cX0_init 19 = .ok (.dup, 1) := dk_89 (dk_at dksX0_init_0 19 rfl rfl)
theorem dX0_init_20 : decode cX0_init 20 = .ok (.invokespecial 23, 3) := dk_183 0 23 (dk_at dksX0_init_0 20 rfl rfl)
theorem dX0_init_23 : decode cX0_init 23 = .ok (.putfield 24, 3) := dk_181 0 24 (dk_at dksX0_init_1 0 rfl rfl)
theorem dX0_init_26 : decode cX0_init 26 = .ok (.aload_n 0, 1) := dk_42 (dk_at dksX0_init_1 3 rfl rfl)
theorem dX0_init_27 : decode cX0_init 27 = .ok (.ldc 28, 2) := dk_18 28 (dk_at dksX0_init_1 4 rfl rfl)
theorem dX0_init_29 : decode cX0_init 29 = .ok (.putfield 30, 3) := dk_181 0 30 (dk_at dksX0_init_1 6 rfl rfl)
theorem dX0_init_32 : decode cX0_init 32 = .ok (.aload_n 0, 1) := dk_42 (dk_at dksX0_init_1 9 rfl rfl)
theorem dX0_init_33 : decode cX0_init 33 = .ok (.bipush 60, 2) := dk_16 60 (dk_at dksX0_init_1 10 rfl rfl)
theorem dX0_init_35 : decode cX0_init 35 = .ok (.newarray .char, 2) := dk_188_5 (dk_at dksX0_init_1 12 rfl rfl)
theorem dX0_init_37 : decode cX0_init 37 = .ok (.putfield 34, 3) := dk_181 0 34 (dk_at dksX0_init_1 14 rfl rfl)
theorem dX0_init_40 : decode cX0_init 40 = .ok (.aload_n 0, 1) := dk_42 (dk_at dksX0_init_1 17 rfl rfl)
theorem dX0_init_41 : decode cX0_init 41 = .ok (.iconst (-1), 1) := dk_2 (dk_at dksX0_init_1 18 rfl rfl)
theorem dX0_init_42 : decode cX0_init 42 = .ok (.putfield 38, 3) := dk_181 0 38 (dk_at dksX0_init_1 19 rfl rfl)
theorem dX0_init_45 : decode cX0_init 45 = .ok (.return_, 1) := dk_177 (dk_at dksX0_init_1 22 rfl rfl)
abbrev cX0_stones : ByteArray := prog_1_method_6_code
def yX0_stones : MethodName := ⟨RX0, "stones", "(I)I"⟩
def dkwX0_stones_1 : List UInt8 := [182, 0, 51, 172]
abbrev dktX0_stones_1 : List UInt8 := dkwX0_stones_1 ++ []
def dkwX0_stones_0 : List UInt8 := [27, 4, 17, 0, 200, 184, 0, 42, 154, 0, 6, 16, 254, 172, 187, 0, 46, 89, 42, 27, 183, 0, 48]
abbrev dktX0_stones_0 : List UInt8 := dkwX0_stones_0 ++ dktX0_stones_1
theorem dksX0_stones_0 : cX0_stones.data.toList.drop 0 = dktX0_stones_0 := by decide +kernel
theorem dksX0_stones_1 : cX0_stones.data.toList.drop 23 = dktX0_stones_1 := dk_seg dksX0_stones_0 23 rfl rfl
theorem dX0_stones_0 : decode cX0_stones 0 = .ok (.iload_n 1, 1) := dk_27 (dk_at dksX0_stones_0 0 rfl rfl)
theorem dX0_stones_1 : decode cX0_stones 1 = .ok (.iconst 1, 1) := dk_4 (dk_at dksX0_stones_0 1 rfl rfl)
theorem dX0_stones_2 : decode cX0_stones 2 = .ok (.sipush 200, 3) := dk_17 0 200 (dk_at dksX0_stones_0 2 rfl rfl)
theorem dX0_stones_5 : decode cX0_stones 5 = .ok (.invokestatic 42, 3) := dk_184 0 42 (dk_at dksX0_stones_0 5 rfl rfl)
theorem dX0_stones_8 : decode cX0_stones 8 = .ok (.ifCond .ne 6, 3) := dk_154 0 6 (dk_at dksX0_stones_0 8 rfl rfl)
theorem dX0_stones_11 : decode cX0_stones 11 = .ok (.bipush (-2), 2) := dk_16 254 (dk_at dksX0_stones_0 11 rfl rfl)
theorem dX0_stones_13 : decode cX0_stones 13 = .ok (.ireturn, 1) := dk_172 (dk_at dksX0_stones_0 13 rfl rfl)
theorem dX0_stones_14 : decode cX0_stones 14 = .ok (.new 46, 3) := dk_187 0 46 (dk_at dksX0_stones_0 14 rfl rfl)
theorem dX0_stones_17 : decode cX0_stones 17 = .ok (.dup, 1) := dk_89 (dk_at dksX0_stones_0 17 rfl rfl)
theorem dX0_stones_18 : decode cX0_stones 18 = .ok (.aload_n 0, 1) := dk_42 (dk_at dksX0_stones_0 18 rfl rfl)
theorem dX0_stones_19 : decode cX0_stones 19 = .ok (.iload_n 1, 1) := dk_27 (dk_at dksX0_stones_0 19 rfl rfl)
theorem dX0_stones_20 : decode cX0_stones 20 = .ok (.invokespecial 48, 3) := dk_183 0 48 (dk_at dksX0_stones_0 20 rfl rfl)
theorem dX0_stones_23 : decode cX0_stones 23 = .ok (.invokevirtual 51, 3) := dk_182 0 51 (dk_at dksX0_stones_1 0 rfl rfl)
theorem dX0_stones_26 : decode cX0_stones 26 = .ok (.ireturn, 1) := dk_172 (dk_at dksX0_stones_1 3 rfl rfl)
abbrev cX0_in : ByteArray := prog_1_method_1_code
def yX0_in : MethodName := ⟨RX0, "in", "(III)Z"⟩
def dkwX0_in_0 : List UInt8 := [26, 27, 161, 0, 12, 26, 28, 163, 0, 7, 4, 167, 0, 4, 3, 172]
abbrev dktX0_in_0 : List UInt8 := dkwX0_in_0 ++ []
theorem dksX0_in_0 : cX0_in.data.toList.drop 0 = dktX0_in_0 := by decide +kernel
theorem dX0_in_0 : decode cX0_in 0 = .ok (.iload_n 0, 1) := dk_26 (dk_at dksX0_in_0 0 rfl rfl)
theorem dX0_in_1 : decode cX0_in 1 = .ok (.iload_n 1, 1) := dk_27 (dk_at dksX0_in_0 1 rfl rfl)
theorem dX0_in_2 : decode cX0_in 2 = .ok (.if_icmp .lt 12, 3) := dk_161 0 12 (dk_at dksX0_in_0 2 rfl rfl)
theorem dX0_in_5 : decode cX0_in 5 = .ok (.iload_n 0, 1) := dk_26 (dk_at dksX0_in_0 5 rfl rfl)
theorem dX0_in_6 : decode cX0_in 6 = .ok (.iload_n 2, 1) := dk_28 (dk_at dksX0_in_0 6 rfl rfl)
theorem dX0_in_7 : decode cX0_in 7 = .ok (.if_icmp .gt 7, 3) := dk_163 0 7 (dk_at dksX0_in_0 7 rfl rfl)
theorem dX0_in_10 : decode cX0_in 10 = .ok (.iconst 1, 1) := dk_4 (dk_at dksX0_in_0 10 rfl rfl)
theorem dX0_in_11 : decode cX0_in 11 = .ok (.goto 4, 3) := dk_167 0 4 (dk_at dksX0_in_0 11 rfl rfl)
theorem dX0_in_14 : decode cX0_in 14 = .ok (.iconst 0, 1) := dk_3 (dk_at dksX0_in_0 14 rfl rfl)
theorem dX0_in_15 : decode cX0_in 15 = .ok (.ireturn, 1) := dk_172 (dk_at dksX0_in_0 15 rfl rfl)
abbrev cX0_needs : ByteArray := prog_1_method_4_code
def yX0_needs : MethodName := ⟨RX0, "needs", "(ZII)V"⟩
def dkwX0_needs_0 : List UInt8 := [26, 154, 0, 13, 187, 0, 3, 89, 27, 28, 183, 0, 5, 191, 177]
abbrev dktX0_needs_0 : List UInt8 := dkwX0_needs_0 ++ []
theorem dksX0_needs_0 : cX0_needs.data.toList.drop 0 = dktX0_needs_0 := by decide +kernel
theorem dX0_needs_0 : decode cX0_needs 0 = .ok (.iload_n 0, 1) := dk_26 (dk_at dksX0_needs_0 0 rfl rfl)
theorem dX0_needs_1 : decode cX0_needs 1 = .ok (.ifCond .ne 13, 3) := dk_154 0 13 (dk_at dksX0_needs_0 1 rfl rfl)
theorem dX0_needs_4 : decode cX0_needs 4 = .ok (.new 3, 3) := dk_187 0 3 (dk_at dksX0_needs_0 4 rfl rfl)
theorem dX0_needs_7 : decode cX0_needs 7 = .ok (.dup, 1) := dk_89 (dk_at dksX0_needs_0 7 rfl rfl)
theorem dX0_needs_8 : decode cX0_needs 8 = .ok (.iload_n 1, 1) := dk_27 (dk_at dksX0_needs_0 8 rfl rfl)
theorem dX0_needs_9 : decode cX0_needs 9 = .ok (.iload_n 2, 1) := dk_28 (dk_at dksX0_needs_0 9 rfl rfl)
theorem dX0_needs_10 : decode cX0_needs 10 = .ok (.invokespecial 5, 3) := dk_183 0 5 (dk_at dksX0_needs_0 10 rfl rfl)
theorem dX0_needs_13 : decode cX0_needs 13 = .ok (.athrow, 1) := dk_191 (dk_at dksX0_needs_0 13 rfl rfl)
theorem dX0_needs_14 : decode cX0_needs 14 = .ok (.return_, 1) := dk_177 (dk_at dksX0_needs_0 14 rfl rfl)
abbrev cX0_seasonOf : ByteArray := prog_1_method_3_code
def yX0_seasonOf : MethodName := ⟨RX0, "seasonOf", "(I)I"⟩
def dkwX0_seasonOf_0 : List UInt8 := [26, 16, 30, 108, 7, 112, 172]
abbrev dktX0_seasonOf_0 : List UInt8 := dkwX0_seasonOf_0 ++ []
theorem dksX0_seasonOf_0 : cX0_seasonOf.data.toList.drop 0 = dktX0_seasonOf_0 := by decide +kernel
theorem dX0_seasonOf_0 : decode cX0_seasonOf 0 = .ok (.iload_n 0, 1) := dk_26 (dk_at dksX0_seasonOf_0 0 rfl rfl)
theorem dX0_seasonOf_1 : decode cX0_seasonOf 1 = .ok (.bipush 30, 2) := dk_16 30 (dk_at dksX0_seasonOf_0 1 rfl rfl)
theorem dX0_seasonOf_3 : decode cX0_seasonOf 3 = .ok (.idiv, 1) := dk_108 (dk_at dksX0_seasonOf_0 3 rfl rfl)
theorem dX0_seasonOf_4 : decode cX0_seasonOf 4 = .ok (.iconst 4, 1) := dk_7 (dk_at dksX0_seasonOf_0 4 rfl rfl)
theorem dX0_seasonOf_5 : decode cX0_seasonOf 5 = .ok (.irem, 1) := dk_112 (dk_at dksX0_seasonOf_0 5 rfl rfl)
theorem dX0_seasonOf_6 : decode cX0_seasonOf 6 = .ok (.ireturn, 1) := dk_172 (dk_at dksX0_seasonOf_0 6 rfl rfl)
abbrev cX0_bit : ByteArray := prog_1_method_2_code
def yX0_bit : MethodName := ⟨RX0, "bit", "(Z)I"⟩
def dkwX0_bit_0 : List UInt8 := [26, 153, 0, 7, 4, 167, 0, 4, 3, 172]
abbrev dktX0_bit_0 : List UInt8 := dkwX0_bit_0 ++ []
theorem dksX0_bit_0 : cX0_bit.data.toList.drop 0 = dktX0_bit_0 := by decide +kernel
theorem dX0_bit_0 : decode cX0_bit 0 = .ok (.iload_n 0, 1) := dk_26 (dk_at dksX0_bit_0 0 rfl rfl)
theorem dX0_bit_1 : decode cX0_bit 1 = .ok (.ifCond .eq 7, 3) := dk_153 0 7 (dk_at dksX0_bit_0 1 rfl rfl)
theorem dX0_bit_4 : decode cX0_bit 4 = .ok (.iconst 1, 1) := dk_4 (dk_at dksX0_bit_0 4 rfl rfl)
theorem dX0_bit_5 : decode cX0_bit 5 = .ok (.goto 4, 3) := dk_167 0 4 (dk_at dksX0_bit_0 5 rfl rfl)
theorem dX0_bit_8 : decode cX0_bit 8 = .ok (.iconst 0, 1) := dk_3 (dk_at dksX0_bit_0 8 rfl rfl)
theorem dX0_bit_9 : decode cX0_bit 9 = .ok (.ireturn, 1) := dk_172 (dk_at dksX0_bit_0 9 rfl rfl)
abbrev cX0_doesAll : ByteArray := prog_1_method_45_code
def yX0_doesAll : MethodName := ⟨RX0, "doesAll", "(LRosaryCarvers$Shop;Ljava/util/ArrayDeque;)I"⟩
def dkwX0_doesAll_2 : List UInt8 := [28, 25, 5, 183, 1, 187, 191, 132, 2, 1, 167, 255, 207, 28, 172]
abbrev dktX0_doesAll_2 : List UInt8 := dkwX0_doesAll_2 ++ []
def dkwX0_doesAll_1 : List UInt8 := [192, 1, 126, 58, 4, 42, 25, 4, 184, 1, 183, 54, 5, 167, 0, 18, 58, 5, 187, 0, 3, 89, 16, 9]
abbrev dktX0_doesAll_1 : List UInt8 := dkwX0_doesAll_1 ++ dktX0_doesAll_2
def dkwX0_doesAll_0 : List UInt8 := [3, 61, 43, 182, 1, 182, 78, 45, 185, 0, 204, 1, 0, 153, 0, 46, 45, 185, 0, 210, 1, 0]
abbrev dktX0_doesAll_0 : List UInt8 := dkwX0_doesAll_0 ++ dktX0_doesAll_1
theorem dksX0_doesAll_0 : cX0_doesAll.data.toList.drop 0 = dktX0_doesAll_0 := by decide +kernel
theorem dksX0_doesAll_1 : cX0_doesAll.data.toList.drop 22 = dktX0_doesAll_1 := dk_seg dksX0_doesAll_0 22 rfl rfl
theorem dksX0_doesAll_2 : cX0_doesAll.data.toList.drop 46 = dktX0_doesAll_2 := dk_seg dksX0_doesAll_1 24 rfl rfl
theorem dX0_doesAll_0 : decode cX0_doesAll 0 = .ok (.iconst 0, 1) := dk_3 (dk_at dksX0_doesAll_0 0 rfl rfl)
theorem dX0_doesAll_1 : decode cX0_doesAll 1 = .ok (.istore_n 2, 1) := dk_61 (dk_at dksX0_doesAll_0 1 rfl rfl)
theorem dX0_doesAll_2 : decode cX0_doesAll 2 = .ok (.aload_n 1, 1) := dk_43 (dk_at dksX0_doesAll_0 2 rfl rfl)
theorem dX0_doesAll_3 : decode cX0_doesAll 3 = .ok (.invokevirtual 438, 3) := dk_182 1 182 (dk_at dksX0_doesAll_0 3 rfl rfl)
theorem dX0_doesAll_6 : decode cX0_doesAll 6 = .ok (.astore_n 3, 1) := dk_78 (dk_at dksX0_doesAll_0 6 rfl rfl)
theorem dX0_doesAll_7 : decode cX0_doesAll 7 = .ok (.aload_n 3, 1) := dk_45 (dk_at dksX0_doesAll_0 7 rfl rfl)
theorem dX0_doesAll_8 : decode cX0_doesAll 8 = .ok (.invokeinterface 204 1, 5) := by decide +kernel
theorem dX0_doesAll_13 : decode cX0_doesAll 13 = .ok (.ifCond .eq 46, 3) := dk_153 0 46 (dk_at dksX0_doesAll_0 13 rfl rfl)
theorem dX0_doesAll_16 : decode cX0_doesAll 16 = .ok (.aload_n 3, 1) := dk_45 (dk_at dksX0_doesAll_0 16 rfl rfl)
theorem dX0_doesAll_17 : decode cX0_doesAll 17 = .ok (.invokeinterface 210 1, 5) := by decide +kernel
theorem dX0_doesAll_22 : decode cX0_doesAll 22 = .ok (.checkcast 382, 3) := dk_192 1 126 (dk_at dksX0_doesAll_1 0 rfl rfl)
theorem dX0_doesAll_25 : decode cX0_doesAll 25 = .ok (.astore 4, 2) := dk_58 4 (dk_at dksX0_doesAll_1 3 rfl rfl)
theorem dX0_doesAll_27 : decode cX0_doesAll 27 = .ok (.aload_n 0, 1) := dk_42 (dk_at dksX0_doesAll_1 5 rfl rfl)
theorem dX0_doesAll_28 : decode cX0_doesAll 28 = .ok (.aload 4, 2) := dk_25 4 (dk_at dksX0_doesAll_1 6 rfl rfl)
theorem dX0_doesAll_30 : decode cX0_doesAll 30 = .ok (.invokestatic 439, 3) := dk_184 1 183 (dk_at dksX0_doesAll_1 8 rfl rfl)
theorem dX0_doesAll_33 : decode cX0_doesAll 33 = .ok (.istore 5, 2) := dk_54 5 (dk_at dksX0_doesAll_1 11 rfl rfl)
theorem dX0_doesAll_35 : decode cX0_doesAll 35 = .ok (.goto 18, 3) := dk_167 0 18 (dk_at dksX0_doesAll_1 13 rfl rfl)
theorem dX0_doesAll_38 : decode cX0_doesAll 38 = .ok (.astore 5, 2) := dk_58 5 (dk_at dksX0_doesAll_1 16 rfl rfl)
theorem dX0_doesAll_40 : decode cX0_doesAll 40 = .ok (.new 3, 3) := dk_187 0 3 (dk_at dksX0_doesAll_1 18 rfl rfl)
theorem dX0_doesAll_43 : decode cX0_doesAll 43 = .ok (.dup, 1) := dk_89 (dk_at dksX0_doesAll_1 21 rfl rfl)
theorem dX0_doesAll_44 : decode cX0_doesAll 44 = .ok (.bipush 9, 2) := dk_16 9 (dk_at dksX0_doesAll_1 22 rfl rfl)
theorem dX0_doesAll_46 : decode cX0_doesAll 46 = .ok (.iload_n 2, 1) := dk_28 (dk_at dksX0_doesAll_2 0 rfl rfl)
theorem dX0_doesAll_47 : decode cX0_doesAll 47 = .ok (.aload 5, 2) := dk_25 5 (dk_at dksX0_doesAll_2 1 rfl rfl)
theorem dX0_doesAll_49 : decode cX0_doesAll 49 = .ok (.invokespecial 443, 3) := dk_183 1 187 (dk_at dksX0_doesAll_2 3 rfl rfl)
theorem dX0_doesAll_52 : decode cX0_doesAll 52 = .ok (.athrow, 1) := dk_191 (dk_at dksX0_doesAll_2 6 rfl rfl)
theorem dX0_doesAll_53 : decode cX0_doesAll 53 = .ok (.iinc 2 1, 3) := dk_132 2 1 (dk_at dksX0_doesAll_2 7 rfl rfl)
theorem dX0_doesAll_56 : decode cX0_doesAll 56 = .ok (.goto (-49), 3) := dk_167 255 207 (dk_at dksX0_doesAll_2 10 rfl rfl)
theorem dX0_doesAll_59 : decode cX0_doesAll 59 = .ok (.iload_n 2, 1) := dk_28 (dk_at dksX0_doesAll_2 13 rfl rfl)
theorem dX0_doesAll_60 : decode cX0_doesAll 60 = .ok (.ireturn, 1) := dk_172 (dk_at dksX0_doesAll_2 14 rfl rfl)
abbrev cX0_does : ByteArray := prog_1_method_44_code
def yX0_does : MethodName := ⟨RX0, "does", "(LRosaryCarvers$Shop;LRosaryCarvers$Command;)I"⟩
def dkwX0_does_14 : List UInt8 := [43, 3, 182, 1, 125, 184, 0, 108, 184, 1, 130, 42, 43, 3, 182, 1, 125, 182, 1, 179, 172]
abbrev dktX0_does_14 : List UInt8 := dkwX0_does_14 ++ []
def dkwX0_does_13 : List UInt8 := [182, 1, 125, 182, 0, 93, 184, 1, 130, 42, 43, 3, 182, 1, 125, 182, 1, 173, 172, 42, 182, 1, 176, 172]
abbrev dktX0_does_13 : List UInt8 := dkwX0_does_13 ++ dktX0_does_14
def dkwX0_does_12 : List UInt8 := [3, 182, 1, 125, 182, 0, 93, 184, 1, 130, 42, 43, 3, 182, 1, 125, 182, 1, 170, 172, 42, 43, 3]
abbrev dktX0_does_12 : List UInt8 := dkwX0_does_12 ++ dktX0_does_13
def dkwX0_does_11 : List UInt8 := [167, 0, 4, 3, 184, 1, 130, 42, 43, 3, 182, 1, 125, 43, 4, 182, 1, 125, 182, 1, 167, 172, 42, 43]
abbrev dktX0_does_11 : List UInt8 := dkwX0_does_11 ++ dktX0_does_12
def dkwX0_does_10 : List UInt8 := [182, 1, 125, 182, 0, 93, 153, 0, 21, 43, 4, 182, 1, 125, 4, 16, 28, 184, 0, 42, 153, 0, 7, 4]
abbrev dktX0_does_10 : List UInt8 := dkwX0_does_10 ++ dktX0_does_11
def dkwX0_does_9 : List UInt8 := [184, 0, 85, 184, 1, 130, 42, 43, 3, 182, 1, 125, 43, 4, 182, 1, 125, 182, 1, 164, 172, 42, 43, 3]
abbrev dktX0_does_9 : List UInt8 := dkwX0_does_9 ++ dktX0_does_10
def dkwX0_does_8 : List UInt8 := [42, 43, 4, 184, 1, 161, 172, 42, 43, 3, 184, 1, 161, 172, 43, 3, 182, 1, 125, 43, 4, 182, 1, 125]
abbrev dktX0_does_8 : List UInt8 := dkwX0_does_8 ++ dktX0_does_9
def dkwX0_does_7 : List UInt8 := [170, 0, 0, 0, 0, 0, 0, 187, 0, 0, 0, 0, 0, 0, 0, 6, 0, 0, 0, 44, 0, 0, 0, 51, 0, 0, 0, 58, 0, 0, 0, 89, 0, 0, 0, 138, 0, 0, 0, 160, 0, 0, 0, 182]
abbrev dktX0_does_7 : List UInt8 := dkwX0_does_7 ++ dktX0_does_8
def dkwX0_does_6 : List UInt8 := [182, 1, 146, 153, 0, 6, 16, 6, 62, 29]
abbrev dktX0_does_6 : List UInt8 := dkwX0_does_6 ++ dktX0_does_7
def dkwX0_does_5 : List UInt8 := [7, 62, 167, 0, 31, 44, 19, 1, 157, 182, 1, 146, 153, 0, 21, 8, 62, 167, 0, 16, 44, 19, 1, 159]
abbrev dktX0_does_5 : List UInt8 := dkwX0_does_5 ++ dktX0_does_6
def dkwX0_does_4 : List UInt8 := [19, 1, 153, 182, 1, 146, 153, 0, 51, 6, 62, 167, 0, 46, 44, 19, 1, 155, 182, 1, 146, 153, 0, 36]
abbrev dktX0_does_4 : List UInt8 := dkwX0_does_4 ++ dktX0_does_5
def dkwX0_does_3 : List UInt8 := [153, 0, 81, 4, 62, 167, 0, 76, 44, 19, 1, 151, 182, 1, 146, 153, 0, 66, 5, 62, 167, 0, 61, 44]
abbrev dktX0_does_3 : List UInt8 := dkwX0_does_3 ++ dktX0_does_4
def dkwX0_does_2 : List UInt8 := [44, 19, 1, 144, 182, 1, 146, 153, 0, 96, 3, 62, 167, 0, 91, 44, 19, 1, 150, 182, 1, 146]
abbrev dktX0_does_2 : List UInt8 := dkwX0_does_2 ++ dktX0_does_3
def dkwX0_does_1 : List UInt8 := [171, 0, 0, 0, 168, 0, 0, 0, 7, 203, 225, 14, 10, 0, 0, 0, 110, 0, 47, 46, 239, 0, 0, 0, 140, 0, 50, 78, 136, 0, 0, 0, 125, 0, 51, 21, 78, 0, 0, 0, 155, 5, 148, 120, 169, 0, 0, 0, 95, 6, 31, 187, 59, 0, 0, 0, 65, 6, 135, 149, 7, 0, 0, 0, 80]
abbrev dktX0_does_1 : List UInt8 := dkwX0_does_1 ++ dktX0_does_2
def dkwX0_does_0 : List UInt8 := [43, 180, 1, 138, 77, 2, 62, 44, 182, 1, 141]
abbrev dktX0_does_0 : List UInt8 := dkwX0_does_0 ++ dktX0_does_1
theorem dksX0_does_0 : cX0_does.data.toList.drop 0 = dktX0_does_0 := by decide +kernel
theorem dksX0_does_1 : cX0_does.data.toList.drop 11 = dktX0_does_1 := dk_seg dksX0_does_0 11 rfl rfl
theorem dksX0_does_2 : cX0_does.data.toList.drop 76 = dktX0_does_2 := dk_seg dksX0_does_1 65 rfl rfl
theorem dksX0_does_3 : cX0_does.data.toList.drop 98 = dktX0_does_3 := dk_seg dksX0_does_2 22 rfl rfl
theorem dksX0_does_4 : cX0_does.data.toList.drop 122 = dktX0_does_4 := dk_seg dksX0_does_3 24 rfl rfl
theorem dksX0_does_5 : cX0_does.data.toList.drop 146 = dktX0_does_5 := dk_seg dksX0_does_4 24 rfl rfl
theorem dksX0_does_6 : cX0_does.data.toList.drop 170 = dktX0_does_6 := dk_seg dksX0_does_5 24 rfl rfl
theorem dksX0_does_7 : cX0_does.data.toList.drop 180 = dktX0_does_7 := dk_seg dksX0_does_6 10 rfl rfl
theorem dksX0_does_8 : cX0_does.data.toList.drop 224 = dktX0_does_8 := dk_seg dksX0_does_7 44 rfl rfl
theorem dksX0_does_9 : cX0_does.data.toList.drop 248 = dktX0_does_9 := dk_seg dksX0_does_8 24 rfl rfl
theorem dksX0_does_10 : cX0_does.data.toList.drop 272 = dktX0_does_10 := dk_seg dksX0_does_9 24 rfl rfl
theorem dksX0_does_11 : cX0_does.data.toList.drop 296 = dktX0_does_11 := dk_seg dksX0_does_10 24 rfl rfl
theorem dksX0_does_12 : cX0_does.data.toList.drop 320 = dktX0_does_12 := dk_seg dksX0_does_11 24 rfl rfl
theorem dksX0_does_13 : cX0_does.data.toList.drop 343 = dktX0_does_13 := dk_seg dksX0_does_12 23 rfl rfl
theorem dksX0_does_14 : cX0_does.data.toList.drop 367 = dktX0_does_14 := dk_seg dksX0_does_13 24 rfl rfl
theorem dX0_does_0 : decode cX0_does 0 = .ok (.aload_n 1, 1) := dk_43 (dk_at dksX0_does_0 0 rfl rfl)
theorem dX0_does_1 : decode cX0_does 1 = .ok (.getfield 394, 3) := dk_180 1 138 (dk_at dksX0_does_0 1 rfl rfl)
theorem dX0_does_4 : decode cX0_does 4 = .ok (.astore_n 2, 1) := dk_77 (dk_at dksX0_does_0 4 rfl rfl)
theorem dX0_does_5 : decode cX0_does 5 = .ok (.iconst (-1), 1) := dk_2 (dk_at dksX0_does_0 5 rfl rfl)
theorem dX0_does_6 : decode cX0_does 6 = .ok (.istore_n 3, 1) := dk_62 (dk_at dksX0_does_0 6 rfl rfl)
theorem dX0_does_7 : decode cX0_does 7 = .ok (.aload_n 2, 1) := dk_44 (dk_at dksX0_does_0 7 rfl rfl)
theorem dX0_does_8 : decode cX0_does 8 = .ok (.invokevirtual 397, 3) := dk_182 1 141 (dk_at dksX0_does_0 8 rfl rfl)
theorem dX0_does_11 : decode cX0_does 11 = .ok (.lookupswitch 168 #[(-874443254, 110), (3092207, 140), (3296904, 125), (3347790, 155), (93616297, 95), (102742843, 65), (109548807, 80)], 65) := by decide +kernel
theorem dX0_does_76 : decode cX0_does 76 = .ok (.aload_n 2, 1) := dk_44 (dk_at dksX0_does_2 0 rfl rfl)
theorem dX0_does_77 : decode cX0_does 77 = .ok (.ldc_w 400, 3) := dk_19 1 144 (dk_at dksX0_does_2 1 rfl rfl)
theorem dX0_does_80 : decode cX0_does 80 = .ok (.invokevirtual 402, 3) := dk_182 1 146 (dk_at dksX0_does_2 4 rfl rfl)
theorem dX0_does_83 : decode cX0_does 83 = .ok (.ifCond .eq 96, 3) := dk_153 0 96 (dk_at dksX0_does_2 7 rfl rfl)
theorem dX0_does_86 : decode cX0_does 86 = .ok (.iconst 0, 1) := dk_3 (dk_at dksX0_does_2 10 rfl rfl)
theorem dX0_does_87 : decode cX0_does 87 = .ok (.istore_n 3, 1) := dk_62 (dk_at dksX0_does_2 11 rfl rfl)
theorem dX0_does_88 : decode cX0_does 88 = .ok (.goto 91, 3) := dk_167 0 91 (dk_at dksX0_does_2 12 rfl rfl)
theorem dX0_does_91 : decode cX0_does 91 = .ok (.aload_n 2, 1) := dk_44 (dk_at dksX0_does_2 15 rfl rfl)
theorem dX0_does_92 : decode cX0_does 92 = .ok (.ldc_w 406, 3) := dk_19 1 150 (dk_at dksX0_does_2 16 rfl rfl)
theorem dX0_does_95 : decode cX0_does 95 = .ok (.invokevirtual 402, 3) := dk_182 1 146 (dk_at dksX0_does_2 19 rfl rfl)
theorem dX0_does_98 : decode cX0_does 98 = .ok (.ifCond .eq 81, 3) := dk_153 0 81 (dk_at dksX0_does_3 0 rfl rfl)
theorem dX0_does_101 : decode cX0_does 101 = .ok (.iconst 1, 1) := dk_4 (dk_at dksX0_does_3 3 rfl rfl)
theorem dX0_does_102 : decode cX0_does 102 = .ok (.istore_n 3, 1) := dk_62 (dk_at dksX0_does_3 4 rfl rfl)
theorem dX0_does_103 : decode cX0_does 103 = .ok (.goto 76, 3) := dk_167 0 76 (dk_at dksX0_does_3 5 rfl rfl)
theorem dX0_does_106 : decode cX0_does 106 = .ok (.aload_n 2, 1) := dk_44 (dk_at dksX0_does_3 8 rfl rfl)
theorem dX0_does_107 : decode cX0_does 107 = .ok (.ldc_w 407, 3) := dk_19 1 151 (dk_at dksX0_does_3 9 rfl rfl)
theorem dX0_does_110 : decode cX0_does 110 = .ok (.invokevirtual 402, 3) := dk_182 1 146 (dk_at dksX0_does_3 12 rfl rfl)
theorem dX0_does_113 : decode cX0_does 113 = .ok (.ifCond .eq 66, 3) := dk_153 0 66 (dk_at dksX0_does_3 15 rfl rfl)
theorem dX0_does_116 : decode cX0_does 116 = .ok (.iconst 2, 1) := dk_5 (dk_at dksX0_does_3 18 rfl rfl)
theorem dX0_does_117 : decode cX0_does 117 = .ok (.istore_n 3, 1) := dk_62 (dk_at dksX0_does_3 19 rfl rfl)
theorem dX0_does_118 : decode cX0_does 118 = .ok (.goto 61, 3) := dk_167 0 61 (dk_at dksX0_does_3 20 rfl rfl)
theorem dX0_does_121 : decode cX0_does 121 = .ok (.aload_n 2, 1) := dk_44 (dk_at dksX0_does_3 23 rfl rfl)
theorem dX0_does_122 : decode cX0_does 122 = .ok (.ldc_w 409, 3) := dk_19 1 153 (dk_at dksX0_does_4 0 rfl rfl)
theorem dX0_does_125 : decode cX0_does 125 = .ok (.invokevirtual 402, 3) := dk_182 1 146 (dk_at dksX0_does_4 3 rfl rfl)
theorem dX0_does_128 : decode cX0_does 128 = .ok (.ifCond .eq 51, 3) := dk_153 0 51 (dk_at dksX0_does_4 6 rfl rfl)
theorem dX0_does_131 : decode cX0_does 131 = .ok (.iconst 3, 1) := dk_6 (dk_at dksX0_does_4 9 rfl rfl)
theorem dX0_does_132 : decode cX0_does 132 = .ok (.istore_n 3, 1) := dk_62 (dk_at dksX0_does_4 10 rfl rfl)
theorem dX0_does_133 : decode cX0_does 133 = .ok (.goto 46, 3) := dk_167 0 46 (dk_at dksX0_does_4 11 rfl rfl)
theorem dX0_does_136 : decode cX0_does 136 = .ok (.aload_n 2, 1) := dk_44 (dk_at dksX0_does_4 14 rfl rfl)
theorem dX0_does_137 : decode cX0_does 137 = .ok (.ldc_w 411, 3) := dk_19 1 155 (dk_at dksX0_does_4 15 rfl rfl)
theorem dX0_does_140 : decode cX0_does 140 = .ok (.invokevirtual 402, 3) := dk_182 1 146 (dk_at dksX0_does_4 18 rfl rfl)
theorem dX0_does_143 : decode cX0_does 143 = .ok (.ifCond .eq 36, 3) := dk_153 0 36 (dk_at dksX0_does_4 21 rfl rfl)
theorem dX0_does_146 : decode cX0_does 146 = .ok (.iconst 4, 1) := dk_7 (dk_at dksX0_does_5 0 rfl rfl)
theorem dX0_does_147 : decode cX0_does 147 = .ok (.istore_n 3, 1) := dk_62 (dk_at dksX0_does_5 1 rfl rfl)
theorem dX0_does_148 : decode cX0_does 148 = .ok (.goto 31, 3) := dk_167 0 31 (dk_at dksX0_does_5 2 rfl rfl)
theorem dX0_does_151 : decode cX0_does 151 = .ok (.aload_n 2, 1) := dk_44 (dk_at dksX0_does_5 5 rfl rfl)
theorem dX0_does_152 : decode cX0_does 152 = .ok (.ldc_w 413, 3) := dk_19 1 157 (dk_at dksX0_does_5 6 rfl rfl)
theorem dX0_does_155 : decode cX0_does 155 = .ok (.invokevirtual 402, 3) := dk_182 1 146 (dk_at dksX0_does_5 9 rfl rfl)
theorem dX0_does_158 : decode cX0_does 158 = .ok (.ifCond .eq 21, 3) := dk_153 0 21 (dk_at dksX0_does_5 12 rfl rfl)
theorem dX0_does_161 : decode cX0_does 161 = .ok (.iconst 5, 1) := dk_8 (dk_at dksX0_does_5 15 rfl rfl)
theorem dX0_does_162 : decode cX0_does 162 = .ok (.istore_n 3, 1) := dk_62 (dk_at dksX0_does_5 16 rfl rfl)
theorem dX0_does_163 : decode cX0_does 163 = .ok (.goto 16, 3) := dk_167 0 16 (dk_at dksX0_does_5 17 rfl rfl)
theorem dX0_does_166 : decode cX0_does 166 = .ok (.aload_n 2, 1) := dk_44 (dk_at dksX0_does_5 20 rfl rfl)
theorem dX0_does_167 : decode cX0_does 167 = .ok (.ldc_w 415, 3) := dk_19 1 159 (dk_at dksX0_does_5 21 rfl rfl)
theorem dX0_does_170 : decode cX0_does 170 = .ok (.invokevirtual 402, 3) := dk_182 1 146 (dk_at dksX0_does_6 0 rfl rfl)
theorem dX0_does_173 : decode cX0_does 173 = .ok (.ifCond .eq 6, 3) := dk_153 0 6 (dk_at dksX0_does_6 3 rfl rfl)
theorem dX0_does_176 : decode cX0_does 176 = .ok (.bipush 6, 2) := dk_16 6 (dk_at dksX0_does_6 6 rfl rfl)
theorem dX0_does_178 : decode cX0_does 178 = .ok (.istore_n 3, 1) := dk_62 (dk_at dksX0_does_6 8 rfl rfl)
theorem dX0_does_179 : decode cX0_does 179 = .ok (.iload_n 3, 1) := dk_29 (dk_at dksX0_does_6 9 rfl rfl)
theorem dX0_does_180 : decode cX0_does 180 = .ok (.tableswitch 187 0 6 #[44, 51, 58, 89, 138, 160, 182], 44) := by decide +kernel
theorem dX0_does_224 : decode cX0_does 224 = .ok (.aload_n 0, 1) := dk_42 (dk_at dksX0_does_8 0 rfl rfl)
theorem dX0_does_225 : decode cX0_does 225 = .ok (.aload_n 1, 1) := dk_43 (dk_at dksX0_does_8 1 rfl rfl)
theorem dX0_does_226 : decode cX0_does 226 = .ok (.iconst 1, 1) := dk_4 (dk_at dksX0_does_8 2 rfl rfl)
theorem dX0_does_227 : decode cX0_does 227 = .ok (.invokestatic 417, 3) := dk_184 1 161 (dk_at dksX0_does_8 3 rfl rfl)
theorem dX0_does_230 : decode cX0_does 230 = .ok (.ireturn, 1) := dk_172 (dk_at dksX0_does_8 6 rfl rfl)
theorem dX0_does_231 : decode cX0_does 231 = .ok (.aload_n 0, 1) := dk_42 (dk_at dksX0_does_8 7 rfl rfl)
theorem dX0_does_232 : decode cX0_does 232 = .ok (.aload_n 1, 1) := dk_43 (dk_at dksX0_does_8 8 rfl rfl)
theorem dX0_does_233 : decode cX0_does 233 = .ok (.iconst 0, 1) := dk_3 (dk_at dksX0_does_8 9 rfl rfl)
theorem dX0_does_234 : decode cX0_does 234 = .ok (.invokestatic 417, 3) := dk_184 1 161 (dk_at dksX0_does_8 10 rfl rfl)
theorem dX0_does_237 : decode cX0_does 237 = .ok (.ireturn, 1) := dk_172 (dk_at dksX0_does_8 13 rfl rfl)
theorem dX0_does_238 : decode cX0_does 238 = .ok (.aload_n 1, 1) := dk_43 (dk_at dksX0_does_8 14 rfl rfl)
theorem dX0_does_239 : decode cX0_does 239 = .ok (.iconst 0, 1) := dk_3 (dk_at dksX0_does_8 15 rfl rfl)
theorem dX0_does_240 : decode cX0_does 240 = .ok (.invokevirtual 381, 3) := dk_182 1 125 (dk_at dksX0_does_8 16 rfl rfl)
theorem dX0_does_243 : decode cX0_does 243 = .ok (.aload_n 1, 1) := dk_43 (dk_at dksX0_does_8 19 rfl rfl)
theorem dX0_does_244 : decode cX0_does 244 = .ok (.iconst 1, 1) := dk_4 (dk_at dksX0_does_8 20 rfl rfl)
theorem dX0_does_245 : decode cX0_does 245 = .ok (.invokevirtual 381, 3) := dk_182 1 125 (dk_at dksX0_does_8 21 rfl rfl)
theorem dX0_does_248 : decode cX0_does 248 = .ok (.invokestatic 85, 3) := dk_184 0 85 (dk_at dksX0_does_9 0 rfl rfl)
theorem dX0_does_251 : decode cX0_does 251 = .ok (.invokestatic 386, 3) := dk_184 1 130 (dk_at dksX0_does_9 3 rfl rfl)
theorem dX0_does_254 : decode cX0_does 254 = .ok (.aload_n 0, 1) := dk_42 (dk_at dksX0_does_9 6 rfl rfl)
theorem dX0_does_255 : decode cX0_does 255 = .ok (.aload_n 1, 1) := dk_43 (dk_at dksX0_does_9 7 rfl rfl)
theorem dX0_does_256 : decode cX0_does 256 = .ok (.iconst 0, 1) := dk_3 (dk_at dksX0_does_9 8 rfl rfl)
theorem dX0_does_257 : decode cX0_does 257 = .ok (.invokevirtual 381, 3) := dk_182 1 125 (dk_at dksX0_does_9 9 rfl rfl)
theorem dX0_does_260 : decode cX0_does 260 = .ok (.aload_n 1, 1) := dk_43 (dk_at dksX0_does_9 12 rfl rfl)
theorem dX0_does_261 : decode cX0_does 261 = .ok (.iconst 1, 1) := dk_4 (dk_at dksX0_does_9 13 rfl rfl)
theorem dX0_does_262 : decode cX0_does 262 = .ok (.invokevirtual 381, 3) := dk_182 1 125 (dk_at dksX0_does_9 14 rfl rfl)
theorem dX0_does_265 : decode cX0_does 265 = .ok (.invokevirtual 420, 3) := dk_182 1 164 (dk_at dksX0_does_9 17 rfl rfl)
theorem dX0_does_268 : decode cX0_does 268 = .ok (.ireturn, 1) := dk_172 (dk_at dksX0_does_9 20 rfl rfl)
theorem dX0_does_269 : decode cX0_does 269 = .ok (.aload_n 0, 1) := dk_42 (dk_at dksX0_does_9 21 rfl rfl)
theorem dX0_does_270 : decode cX0_does 270 = .ok (.aload_n 1, 1) := dk_43 (dk_at dksX0_does_9 22 rfl rfl)
theorem dX0_does_271 : decode cX0_does 271 = .ok (.iconst 0, 1) := dk_3 (dk_at dksX0_does_9 23 rfl rfl)
theorem dX0_does_272 : decode cX0_does 272 = .ok (.invokevirtual 381, 3) := dk_182 1 125 (dk_at dksX0_does_10 0 rfl rfl)
theorem dX0_does_275 : decode cX0_does 275 = .ok (.invokevirtual 93, 3) := dk_182 0 93 (dk_at dksX0_does_10 3 rfl rfl)
theorem dX0_does_278 : decode cX0_does 278 = .ok (.ifCond .eq 21, 3) := dk_153 0 21 (dk_at dksX0_does_10 6 rfl rfl)
theorem dX0_does_281 : decode cX0_does 281 = .ok (.aload_n 1, 1) := dk_43 (dk_at dksX0_does_10 9 rfl rfl)
theorem dX0_does_282 : decode cX0_does 282 = .ok (.iconst 1, 1) := dk_4 (dk_at dksX0_does_10 10 rfl rfl)
theorem dX0_does_283 : decode cX0_does 283 = .ok (.invokevirtual 381, 3) := dk_182 1 125 (dk_at dksX0_does_10 11 rfl rfl)
theorem dX0_does_286 : decode cX0_does 286 = .ok (.iconst 1, 1) := dk_4 (dk_at dksX0_does_10 14 rfl rfl)
theorem dX0_does_287 : decode cX0_does 287 = .ok (.bipush 28, 2) := dk_16 28 (dk_at dksX0_does_10 15 rfl rfl)
theorem dX0_does_289 : decode cX0_does 289 = .ok (.invokestatic 42, 3) := dk_184 0 42 (dk_at dksX0_does_10 17 rfl rfl)
theorem dX0_does_292 : decode cX0_does 292 = .ok (.ifCond .eq 7, 3) := dk_153 0 7 (dk_at dksX0_does_10 20 rfl rfl)
theorem dX0_does_295 : decode cX0_does 295 = .ok (.iconst 1, 1) := dk_4 (dk_at dksX0_does_10 23 rfl rfl)
theorem dX0_does_296 : decode cX0_does 296 = .ok (.goto 4, 3) := dk_167 0 4 (dk_at dksX0_does_11 0 rfl rfl)
theorem dX0_does_299 : decode cX0_does 299 = .ok (.iconst 0, 1) := dk_3 (dk_at dksX0_does_11 3 rfl rfl)
theorem dX0_does_300 : decode cX0_does 300 = .ok (.invokestatic 386, 3) := dk_184 1 130 (dk_at dksX0_does_11 4 rfl rfl)
theorem dX0_does_303 : decode cX0_does 303 = .ok (.aload_n 0, 1) := dk_42 (dk_at dksX0_does_11 7 rfl rfl)
theorem dX0_does_304 : decode cX0_does 304 = .ok (.aload_n 1, 1) := dk_43 (dk_at dksX0_does_11 8 rfl rfl)
theorem dX0_does_305 : decode cX0_does 305 = .ok (.iconst 0, 1) := dk_3 (dk_at dksX0_does_11 9 rfl rfl)
theorem dX0_does_306 : decode cX0_does 306 = .ok (.invokevirtual 381, 3) := dk_182 1 125 (dk_at dksX0_does_11 10 rfl rfl)
theorem dX0_does_309 : decode cX0_does 309 = .ok (.aload_n 1, 1) := dk_43 (dk_at dksX0_does_11 13 rfl rfl)
theorem dX0_does_310 : decode cX0_does 310 = .ok (.iconst 1, 1) := dk_4 (dk_at dksX0_does_11 14 rfl rfl)
theorem dX0_does_311 : decode cX0_does 311 = .ok (.invokevirtual 381, 3) := dk_182 1 125 (dk_at dksX0_does_11 15 rfl rfl)
theorem dX0_does_314 : decode cX0_does 314 = .ok (.invokevirtual 423, 3) := dk_182 1 167 (dk_at dksX0_does_11 18 rfl rfl)
theorem dX0_does_317 : decode cX0_does 317 = .ok (.ireturn, 1) := dk_172 (dk_at dksX0_does_11 21 rfl rfl)
theorem dX0_does_318 : decode cX0_does 318 = .ok (.aload_n 0, 1) := dk_42 (dk_at dksX0_does_11 22 rfl rfl)
theorem dX0_does_319 : decode cX0_does 319 = .ok (.aload_n 1, 1) := dk_43 (dk_at dksX0_does_11 23 rfl rfl)
theorem dX0_does_320 : decode cX0_does 320 = .ok (.iconst 0, 1) := dk_3 (dk_at dksX0_does_12 0 rfl rfl)
theorem dX0_does_321 : decode cX0_does 321 = .ok (.invokevirtual 381, 3) := dk_182 1 125 (dk_at dksX0_does_12 1 rfl rfl)
theorem dX0_does_324 : decode cX0_does 324 = .ok (.invokevirtual 93, 3) := dk_182 0 93 (dk_at dksX0_does_12 4 rfl rfl)
theorem dX0_does_327 : decode cX0_does 327 = .ok (.invokestatic 386, 3) := dk_184 1 130 (dk_at dksX0_does_12 7 rfl rfl)
theorem dX0_does_330 : decode cX0_does 330 = .ok (.aload_n 0, 1) := dk_42 (dk_at dksX0_does_12 10 rfl rfl)
theorem dX0_does_331 : decode cX0_does 331 = .ok (.aload_n 1, 1) := dk_43 (dk_at dksX0_does_12 11 rfl rfl)
theorem dX0_does_332 : decode cX0_does 332 = .ok (.iconst 0, 1) := dk_3 (dk_at dksX0_does_12 12 rfl rfl)
theorem dX0_does_333 : decode cX0_does 333 = .ok (.invokevirtual 381, 3) := dk_182 1 125 (dk_at dksX0_does_12 13 rfl rfl)
theorem dX0_does_336 : decode cX0_does 336 = .ok (.invokevirtual 426, 3) := dk_182 1 170 (dk_at dksX0_does_12 16 rfl rfl)
theorem dX0_does_339 : decode cX0_does 339 = .ok (.ireturn, 1) := dk_172 (dk_at dksX0_does_12 19 rfl rfl)
theorem dX0_does_340 : decode cX0_does 340 = .ok (.aload_n 0, 1) := dk_42 (dk_at dksX0_does_12 20 rfl rfl)
theorem dX0_does_341 : decode cX0_does 341 = .ok (.aload_n 1, 1) := dk_43 (dk_at dksX0_does_12 21 rfl rfl)
theorem dX0_does_342 : decode cX0_does 342 = .ok (.iconst 0, 1) := dk_3 (dk_at dksX0_does_12 22 rfl rfl)
theorem dX0_does_343 : decode cX0_does 343 = .ok (.invokevirtual 381, 3) := dk_182 1 125 (dk_at dksX0_does_13 0 rfl rfl)
theorem dX0_does_346 : decode cX0_does 346 = .ok (.invokevirtual 93, 3) := dk_182 0 93 (dk_at dksX0_does_13 3 rfl rfl)
theorem dX0_does_349 : decode cX0_does 349 = .ok (.invokestatic 386, 3) := dk_184 1 130 (dk_at dksX0_does_13 6 rfl rfl)
theorem dX0_does_352 : decode cX0_does 352 = .ok (.aload_n 0, 1) := dk_42 (dk_at dksX0_does_13 9 rfl rfl)
theorem dX0_does_353 : decode cX0_does 353 = .ok (.aload_n 1, 1) := dk_43 (dk_at dksX0_does_13 10 rfl rfl)
theorem dX0_does_354 : decode cX0_does 354 = .ok (.iconst 0, 1) := dk_3 (dk_at dksX0_does_13 11 rfl rfl)
theorem dX0_does_355 : decode cX0_does 355 = .ok (.invokevirtual 381, 3) := dk_182 1 125 (dk_at dksX0_does_13 12 rfl rfl)
theorem dX0_does_358 : decode cX0_does 358 = .ok (.invokevirtual 429, 3) := dk_182 1 173 (dk_at dksX0_does_13 15 rfl rfl)
theorem dX0_does_361 : decode cX0_does 361 = .ok (.ireturn, 1) := dk_172 (dk_at dksX0_does_13 18 rfl rfl)
theorem dX0_does_362 : decode cX0_does 362 = .ok (.aload_n 0, 1) := dk_42 (dk_at dksX0_does_13 19 rfl rfl)
theorem dX0_does_363 : decode cX0_does 363 = .ok (.invokevirtual 432, 3) := dk_182 1 176 (dk_at dksX0_does_13 20 rfl rfl)
theorem dX0_does_366 : decode cX0_does 366 = .ok (.ireturn, 1) := dk_172 (dk_at dksX0_does_13 23 rfl rfl)
theorem dX0_does_367 : decode cX0_does 367 = .ok (.aload_n 1, 1) := dk_43 (dk_at dksX0_does_14 0 rfl rfl)
theorem dX0_does_368 : decode cX0_does 368 = .ok (.iconst 0, 1) := dk_3 (dk_at dksX0_does_14 1 rfl rfl)
theorem dX0_does_369 : decode cX0_does 369 = .ok (.invokevirtual 381, 3) := dk_182 1 125 (dk_at dksX0_does_14 2 rfl rfl)
theorem dX0_does_372 : decode cX0_does 372 = .ok (.invokestatic 108, 3) := dk_184 0 108 (dk_at dksX0_does_14 5 rfl rfl)
theorem dX0_does_375 : decode cX0_does 375 = .ok (.invokestatic 386, 3) := dk_184 1 130 (dk_at dksX0_does_14 8 rfl rfl)
theorem dX0_does_378 : decode cX0_does 378 = .ok (.aload_n 0, 1) := dk_42 (dk_at dksX0_does_14 11 rfl rfl)
theorem dX0_does_379 : decode cX0_does 379 = .ok (.aload_n 1, 1) := dk_43 (dk_at dksX0_does_14 12 rfl rfl)
theorem dX0_does_380 : decode cX0_does 380 = .ok (.iconst 0, 1) := dk_3 (dk_at dksX0_does_14 13 rfl rfl)
theorem dX0_does_381 : decode cX0_does 381 = .ok (.invokevirtual 381, 3) := dk_182 1 125 (dk_at dksX0_does_14 14 rfl rfl)
theorem dX0_does_384 : decode cX0_does 384 = .ok (.invokevirtual 435, 3) := dk_182 1 179 (dk_at dksX0_does_14 17 rfl rfl)
theorem dX0_does_387 : decode cX0_does 387 = .ok (.ireturn, 1) := dk_172 (dk_at dksX0_does_14 20 rfl rfl)
abbrev cX0_carves : ByteArray := prog_1_method_43_code
def yX0_carves : MethodName := ⟨RX0, "carves", "(LRosaryCarvers$Shop;LRosaryCarvers$Command;Z)I"⟩
def dkwX0_carves_1 : List UInt8 := [167, 0, 4, 3, 184, 1, 130, 42, 43, 3, 182, 1, 125, 28, 43, 4, 182, 1, 125, 182, 1, 134, 172]
abbrev dktX0_carves_1 : List UInt8 := dkwX0_carves_1 ++ []
def dkwX0_carves_0 : List UInt8 := [42, 43, 3, 182, 1, 125, 182, 0, 67, 153, 0, 18, 43, 4, 182, 1, 125, 184, 0, 76, 153, 0, 7, 4]
abbrev dktX0_carves_0 : List UInt8 := dkwX0_carves_0 ++ dktX0_carves_1
theorem dksX0_carves_0 : cX0_carves.data.toList.drop 0 = dktX0_carves_0 := by decide +kernel
theorem dksX0_carves_1 : cX0_carves.data.toList.drop 24 = dktX0_carves_1 := dk_seg dksX0_carves_0 24 rfl rfl
theorem dX0_carves_0 : decode cX0_carves 0 = .ok (.aload_n 0, 1) := dk_42 (dk_at dksX0_carves_0 0 rfl rfl)
theorem dX0_carves_1 : decode cX0_carves 1 = .ok (.aload_n 1, 1) := dk_43 (dk_at dksX0_carves_0 1 rfl rfl)
theorem dX0_carves_2 : decode cX0_carves 2 = .ok (.iconst 0, 1) := dk_3 (dk_at dksX0_carves_0 2 rfl rfl)
theorem dX0_carves_3 : decode cX0_carves 3 = .ok (.invokevirtual 381, 3) := dk_182 1 125 (dk_at dksX0_carves_0 3 rfl rfl)
theorem dX0_carves_6 : decode cX0_carves 6 = .ok (.invokevirtual 67, 3) := dk_182 0 67 (dk_at dksX0_carves_0 6 rfl rfl)
theorem dX0_carves_9 : decode cX0_carves 9 = .ok (.ifCond .eq 18, 3) := dk_153 0 18 (dk_at dksX0_carves_0 9 rfl rfl)
theorem dX0_carves_12 : decode cX0_carves 12 = .ok (.aload_n 1, 1) := dk_43 (dk_at dksX0_carves_0 12 rfl rfl)
theorem dX0_carves_13 : decode cX0_carves 13 = .ok (.iconst 1, 1) := dk_4 (dk_at dksX0_carves_0 13 rfl rfl)
theorem dX0_carves_14 : decode cX0_carves 14 = .ok (.invokevirtual 381, 3) := dk_182 1 125 (dk_at dksX0_carves_0 14 rfl rfl)
theorem dX0_carves_17 : decode cX0_carves 17 = .ok (.invokestatic 76, 3) := dk_184 0 76 (dk_at dksX0_carves_0 17 rfl rfl)
theorem dX0_carves_20 : decode cX0_carves 20 = .ok (.ifCond .eq 7, 3) := dk_153 0 7 (dk_at dksX0_carves_0 20 rfl rfl)
theorem dX0_carves_23 : decode cX0_carves 23 = .ok (.iconst 1, 1) := dk_4 (dk_at dksX0_carves_0 23 rfl rfl)
theorem dX0_carves_24 : decode cX0_carves 24 = .ok (.goto 4, 3) := dk_167 0 4 (dk_at dksX0_carves_1 0 rfl rfl)
theorem dX0_carves_27 : decode cX0_carves 27 = .ok (.iconst 0, 1) := dk_3 (dk_at dksX0_carves_1 3 rfl rfl)
theorem dX0_carves_28 : decode cX0_carves 28 = .ok (.invokestatic 386, 3) := dk_184 1 130 (dk_at dksX0_carves_1 4 rfl rfl)
theorem dX0_carves_31 : decode cX0_carves 31 = .ok (.aload_n 0, 1) := dk_42 (dk_at dksX0_carves_1 7 rfl rfl)
theorem dX0_carves_32 : decode cX0_carves 32 = .ok (.aload_n 1, 1) := dk_43 (dk_at dksX0_carves_1 8 rfl rfl)
theorem dX0_carves_33 : decode cX0_carves 33 = .ok (.iconst 0, 1) := dk_3 (dk_at dksX0_carves_1 9 rfl rfl)
theorem dX0_carves_34 : decode cX0_carves 34 = .ok (.invokevirtual 381, 3) := dk_182 1 125 (dk_at dksX0_carves_1 10 rfl rfl)
theorem dX0_carves_37 : decode cX0_carves 37 = .ok (.iload_n 2, 1) := dk_28 (dk_at dksX0_carves_1 13 rfl rfl)
theorem dX0_carves_38 : decode cX0_carves 38 = .ok (.aload_n 1, 1) := dk_43 (dk_at dksX0_carves_1 14 rfl rfl)
theorem dX0_carves_39 : decode cX0_carves 39 = .ok (.iconst 1, 1) := dk_4 (dk_at dksX0_carves_1 15 rfl rfl)
theorem dX0_carves_40 : decode cX0_carves 40 = .ok (.invokevirtual 381, 3) := dk_182 1 125 (dk_at dksX0_carves_1 16 rfl rfl)
theorem dX0_carves_43 : decode cX0_carves 43 = .ok (.invokevirtual 390, 3) := dk_182 1 134 (dk_at dksX0_carves_1 19 rfl rfl)
theorem dX0_carves_46 : decode cX0_carves 46 = .ok (.ireturn, 1) := dk_172 (dk_at dksX0_carves_1 22 rfl rfl)
abbrev cX0_isCarved : ByteArray := prog_1_method_10_code
def yX0_isCarved : MethodName := ⟨RX0, "isCarved", "(I)Z"⟩
def dkwX0_isCarved_0 : List UInt8 := [26, 4, 16, 10, 184, 0, 42, 172]
abbrev dktX0_isCarved_0 : List UInt8 := dkwX0_isCarved_0 ++ []
theorem dksX0_isCarved_0 : cX0_isCarved.data.toList.drop 0 = dktX0_isCarved_0 := by decide +kernel
theorem dX0_isCarved_0 : decode cX0_isCarved 0 = .ok (.iload_n 0, 1) := dk_26 (dk_at dksX0_isCarved_0 0 rfl rfl)
theorem dX0_isCarved_1 : decode cX0_isCarved 1 = .ok (.iconst 1, 1) := dk_4 (dk_at dksX0_isCarved_0 1 rfl rfl)
theorem dX0_isCarved_2 : decode cX0_isCarved 2 = .ok (.bipush 10, 2) := dk_16 10 (dk_at dksX0_isCarved_0 2 rfl rfl)
theorem dX0_isCarved_4 : decode cX0_isCarved 4 = .ok (.invokestatic 42, 3) := dk_184 0 42 (dk_at dksX0_isCarved_0 4 rfl rfl)
theorem dX0_isCarved_7 : decode cX0_isCarved 7 = .ok (.ireturn, 1) := dk_172 (dk_at dksX0_isCarved_0 7 rfl rfl)
abbrev cX0_inRange : ByteArray := prog_1_method_42_code
def yX0_inRange : MethodName := ⟨RX0, "inRange", "(Z)V"⟩
def dkwX0_inRange_0 : List UInt8 := [26, 154, 0, 11, 187, 1, 122, 89, 183, 1, 124, 191, 177]
abbrev dktX0_inRange_0 : List UInt8 := dkwX0_inRange_0 ++ []
theorem dksX0_inRange_0 : cX0_inRange.data.toList.drop 0 = dktX0_inRange_0 := by decide +kernel
theorem dX0_inRange_0 : decode cX0_inRange 0 = .ok (.iload_n 0, 1) := dk_26 (dk_at dksX0_inRange_0 0 rfl rfl)
theorem dX0_inRange_1 : decode cX0_inRange 1 = .ok (.ifCond .ne 11, 3) := dk_154 0 11 (dk_at dksX0_inRange_0 1 rfl rfl)
theorem dX0_inRange_4 : decode cX0_inRange 4 = .ok (.new 378, 3) := dk_187 1 122 (dk_at dksX0_inRange_0 4 rfl rfl)
theorem dX0_inRange_7 : decode cX0_inRange 7 = .ok (.dup, 1) := dk_89 (dk_at dksX0_inRange_0 7 rfl rfl)
theorem dX0_inRange_8 : decode cX0_inRange 8 = .ok (.invokespecial 380, 3) := dk_183 1 124 (dk_at dksX0_inRange_0 8 rfl rfl)
theorem dX0_inRange_11 : decode cX0_inRange 11 = .ok (.athrow, 1) := dk_191 (dk_at dksX0_inRange_0 11 rfl rfl)
theorem dX0_inRange_12 : decode cX0_inRange 12 = .ok (.return_, 1) := dk_177 (dk_at dksX0_inRange_0 12 rfl rfl)
abbrev cX0_isPattern : ByteArray := prog_1_method_12_code
def yX0_isPattern : MethodName := ⟨RX0, "isPattern", "(II)Z"⟩
def dkwX0_isPattern_1 : List UInt8 := [172]
abbrev dktX0_isPattern_1 : List UInt8 := dkwX0_isPattern_1 ++ []
def dkwX0_isPattern_0 : List UInt8 := [26, 4, 7, 184, 0, 42, 153, 0, 17, 27, 4, 16, 6, 184, 0, 42, 153, 0, 7, 4, 167, 0, 4, 3]
abbrev dktX0_isPattern_0 : List UInt8 := dkwX0_isPattern_0 ++ dktX0_isPattern_1
theorem dksX0_isPattern_0 : cX0_isPattern.data.toList.drop 0 = dktX0_isPattern_0 := by decide +kernel
theorem dksX0_isPattern_1 : cX0_isPattern.data.toList.drop 24 = dktX0_isPattern_1 := dk_seg dksX0_isPattern_0 24 rfl rfl
theorem dX0_isPattern_0 : decode cX0_isPattern 0 = .ok (.iload_n 0, 1) := dk_26 (dk_at dksX0_isPattern_0 0 rfl rfl)
theorem dX0_isPattern_1 : decode cX0_isPattern 1 = .ok (.iconst 1, 1) := dk_4 (dk_at dksX0_isPattern_0 1 rfl rfl)
theorem dX0_isPattern_2 : decode cX0_isPattern 2 = .ok (.iconst 4, 1) := dk_7 (dk_at dksX0_isPattern_0 2 rfl rfl)
theorem dX0_isPattern_3 : decode cX0_isPattern 3 = .ok (.invokestatic 42, 3) := dk_184 0 42 (dk_at dksX0_isPattern_0 3 rfl rfl)
theorem dX0_isPattern_6 : decode cX0_isPattern 6 = .ok (.ifCond .eq 17, 3) := dk_153 0 17 (dk_at dksX0_isPattern_0 6 rfl rfl)
theorem dX0_isPattern_9 : decode cX0_isPattern 9 = .ok (.iload_n 1, 1) := dk_27 (dk_at dksX0_isPattern_0 9 rfl rfl)
theorem dX0_isPattern_10 : decode cX0_isPattern 10 = .ok (.iconst 1, 1) := dk_4 (dk_at dksX0_isPattern_0 10 rfl rfl)
theorem dX0_isPattern_11 : decode cX0_isPattern 11 = .ok (.bipush 6, 2) := dk_16 6 (dk_at dksX0_isPattern_0 11 rfl rfl)
theorem dX0_isPattern_13 : decode cX0_isPattern 13 = .ok (.invokestatic 42, 3) := dk_184 0 42 (dk_at dksX0_isPattern_0 13 rfl rfl)
theorem dX0_isPattern_16 : decode cX0_isPattern 16 = .ok (.ifCond .eq 7, 3) := dk_153 0 7 (dk_at dksX0_isPattern_0 16 rfl rfl)
theorem dX0_isPattern_19 : decode cX0_isPattern 19 = .ok (.iconst 1, 1) := dk_4 (dk_at dksX0_isPattern_0 19 rfl rfl)
theorem dX0_isPattern_20 : decode cX0_isPattern 20 = .ok (.goto 4, 3) := dk_167 0 4 (dk_at dksX0_isPattern_0 20 rfl rfl)
theorem dX0_isPattern_23 : decode cX0_isPattern 23 = .ok (.iconst 0, 1) := dk_3 (dk_at dksX0_isPattern_0 23 rfl rfl)
theorem dX0_isPattern_24 : decode cX0_isPattern 24 = .ok (.ireturn, 1) := dk_172 (dk_at dksX0_isPattern_1 0 rfl rfl)
abbrev cX0_areDays : ByteArray := prog_1_method_17_code
def yX0_areDays : MethodName := ⟨RX0, "areDays", "(I)Z"⟩
def dkwX0_areDays_0 : List UInt8 := [26, 4, 16, 60, 184, 0, 42, 172]
abbrev dktX0_areDays_0 : List UInt8 := dkwX0_areDays_0 ++ []
theorem dksX0_areDays_0 : cX0_areDays.data.toList.drop 0 = dktX0_areDays_0 := by decide +kernel
theorem dX0_areDays_0 : decode cX0_areDays 0 = .ok (.iload_n 0, 1) := dk_26 (dk_at dksX0_areDays_0 0 rfl rfl)
theorem dX0_areDays_1 : decode cX0_areDays 1 = .ok (.iconst 1, 1) := dk_4 (dk_at dksX0_areDays_0 1 rfl rfl)
theorem dX0_areDays_2 : decode cX0_areDays 2 = .ok (.bipush 60, 2) := dk_16 60 (dk_at dksX0_areDays_0 2 rfl rfl)
theorem dX0_areDays_4 : decode cX0_areDays 4 = .ok (.invokestatic 42, 3) := dk_184 0 42 (dk_at dksX0_areDays_0 4 rfl rfl)
theorem dX0_areDays_7 : decode cX0_areDays 7 = .ok (.ireturn, 1) := dk_172 (dk_at dksX0_areDays_0 7 rfl rfl)
abbrev cX0_carver : ByteArray := prog_1_method_7_code
def yX0_carver : MethodName := ⟨RX0, "carver", "(I)I"⟩
def dkwX0_carver_1 : List UInt8 := [182, 0, 58, 172]
abbrev dktX0_carver_1 : List UInt8 := dkwX0_carver_1 ++ []
def dkwX0_carver_0 : List UInt8 := [27, 4, 16, 9, 184, 0, 42, 154, 0, 6, 16, 254, 172, 187, 0, 55, 89, 42, 27, 183, 0, 57]
abbrev dktX0_carver_0 : List UInt8 := dkwX0_carver_0 ++ dktX0_carver_1
theorem dksX0_carver_0 : cX0_carver.data.toList.drop 0 = dktX0_carver_0 := by decide +kernel
theorem dksX0_carver_1 : cX0_carver.data.toList.drop 22 = dktX0_carver_1 := dk_seg dksX0_carver_0 22 rfl rfl
theorem dX0_carver_0 : decode cX0_carver 0 = .ok (.iload_n 1, 1) := dk_27 (dk_at dksX0_carver_0 0 rfl rfl)
theorem dX0_carver_1 : decode cX0_carver 1 = .ok (.iconst 1, 1) := dk_4 (dk_at dksX0_carver_0 1 rfl rfl)
theorem dX0_carver_2 : decode cX0_carver 2 = .ok (.bipush 9, 2) := dk_16 9 (dk_at dksX0_carver_0 2 rfl rfl)
theorem dX0_carver_4 : decode cX0_carver 4 = .ok (.invokestatic 42, 3) := dk_184 0 42 (dk_at dksX0_carver_0 4 rfl rfl)
theorem dX0_carver_7 : decode cX0_carver 7 = .ok (.ifCond .ne 6, 3) := dk_154 0 6 (dk_at dksX0_carver_0 7 rfl rfl)
theorem dX0_carver_10 : decode cX0_carver 10 = .ok (.bipush (-2), 2) := dk_16 254 (dk_at dksX0_carver_0 10 rfl rfl)
theorem dX0_carver_12 : decode cX0_carver 12 = .ok (.ireturn, 1) := dk_172 (dk_at dksX0_carver_0 12 rfl rfl)
theorem dX0_carver_13 : decode cX0_carver 13 = .ok (.new 55, 3) := dk_187 0 55 (dk_at dksX0_carver_0 13 rfl rfl)
theorem dX0_carver_16 : decode cX0_carver 16 = .ok (.dup, 1) := dk_89 (dk_at dksX0_carver_0 16 rfl rfl)
theorem dX0_carver_17 : decode cX0_carver 17 = .ok (.aload_n 0, 1) := dk_42 (dk_at dksX0_carver_0 17 rfl rfl)
theorem dX0_carver_18 : decode cX0_carver 18 = .ok (.iload_n 1, 1) := dk_27 (dk_at dksX0_carver_0 18 rfl rfl)
theorem dX0_carver_19 : decode cX0_carver 19 = .ok (.invokespecial 57, 3) := dk_183 0 57 (dk_at dksX0_carver_0 19 rfl rfl)
theorem dX0_carver_22 : decode cX0_carver 22 = .ok (.invokevirtual 58, 3) := dk_182 0 58 (dk_at dksX0_carver_1 0 rfl rfl)
theorem dX0_carver_25 : decode cX0_carver 25 = .ok (.ireturn, 1) := dk_172 (dk_at dksX0_carver_1 3 rfl rfl)
abbrev cX0_lens : ByteArray := prog_1_method_8_code
def yX0_lens : MethodName := ⟨RX0, "lens", "(I)I"⟩
def dkwX0_lens_1 : List UInt8 := [182, 0, 62, 172]
abbrev dktX0_lens_1 : List UInt8 := dkwX0_lens_1 ++ []
def dkwX0_lens_0 : List UInt8 := [27, 4, 16, 9, 184, 0, 42, 154, 0, 6, 16, 254, 172, 187, 0, 59, 89, 42, 27, 183, 0, 61]
abbrev dktX0_lens_0 : List UInt8 := dkwX0_lens_0 ++ dktX0_lens_1
theorem dksX0_lens_0 : cX0_lens.data.toList.drop 0 = dktX0_lens_0 := by decide +kernel
theorem dksX0_lens_1 : cX0_lens.data.toList.drop 22 = dktX0_lens_1 := dk_seg dksX0_lens_0 22 rfl rfl
theorem dX0_lens_0 : decode cX0_lens 0 = .ok (.iload_n 1, 1) := dk_27 (dk_at dksX0_lens_0 0 rfl rfl)
theorem dX0_lens_1 : decode cX0_lens 1 = .ok (.iconst 1, 1) := dk_4 (dk_at dksX0_lens_0 1 rfl rfl)
theorem dX0_lens_2 : decode cX0_lens 2 = .ok (.bipush 9, 2) := dk_16 9 (dk_at dksX0_lens_0 2 rfl rfl)
theorem dX0_lens_4 : decode cX0_lens 4 = .ok (.invokestatic 42, 3) := dk_184 0 42 (dk_at dksX0_lens_0 4 rfl rfl)
theorem dX0_lens_7 : decode cX0_lens 7 = .ok (.ifCond .ne 6, 3) := dk_154 0 6 (dk_at dksX0_lens_0 7 rfl rfl)
theorem dX0_lens_10 : decode cX0_lens 10 = .ok (.bipush (-2), 2) := dk_16 254 (dk_at dksX0_lens_0 10 rfl rfl)
theorem dX0_lens_12 : decode cX0_lens 12 = .ok (.ireturn, 1) := dk_172 (dk_at dksX0_lens_0 12 rfl rfl)
theorem dX0_lens_13 : decode cX0_lens 13 = .ok (.new 59, 3) := dk_187 0 59 (dk_at dksX0_lens_0 13 rfl rfl)
theorem dX0_lens_16 : decode cX0_lens 16 = .ok (.dup, 1) := dk_89 (dk_at dksX0_lens_0 16 rfl rfl)
theorem dX0_lens_17 : decode cX0_lens 17 = .ok (.aload_n 0, 1) := dk_42 (dk_at dksX0_lens_0 17 rfl rfl)
theorem dX0_lens_18 : decode cX0_lens 18 = .ok (.iload_n 1, 1) := dk_27 (dk_at dksX0_lens_0 18 rfl rfl)
theorem dX0_lens_19 : decode cX0_lens 19 = .ok (.invokespecial 61, 3) := dk_183 0 61 (dk_at dksX0_lens_0 19 rfl rfl)
theorem dX0_lens_22 : decode cX0_lens 22 = .ok (.invokevirtual 62, 3) := dk_182 0 62 (dk_at dksX0_lens_1 0 rfl rfl)
theorem dX0_lens_25 : decode cX0_lens 25 = .ok (.ireturn, 1) := dk_172 (dk_at dksX0_lens_1 3 rfl rfl)
abbrev cX0_give : ByteArray := prog_1_method_9_code
def yX0_give : MethodName := ⟨RX0, "give", "(II)I"⟩
def dkwX0_give_1 : List UInt8 := [154, 0, 5, 2, 172, 187, 0, 70, 89, 42, 27, 28, 183, 0, 72, 182, 0, 75, 172]
abbrev dktX0_give_1 : List UInt8 := dkwX0_give_1 ++ []
def dkwX0_give_0 : List UInt8 := [42, 180, 0, 17, 27, 182, 0, 63, 153, 0, 19, 28, 2, 159, 0, 16, 42, 180, 0, 17, 28, 182, 0, 67]
abbrev dktX0_give_0 : List UInt8 := dkwX0_give_0 ++ dktX0_give_1
theorem dksX0_give_0 : cX0_give.data.toList.drop 0 = dktX0_give_0 := by decide +kernel
theorem dksX0_give_1 : cX0_give.data.toList.drop 24 = dktX0_give_1 := dk_seg dksX0_give_0 24 rfl rfl
theorem dX0_give_0 : decode cX0_give 0 = .ok (.aload_n 0, 1) := dk_42 (dk_at dksX0_give_0 0 rfl rfl)
theorem dX0_give_1 : decode cX0_give 1 = .ok (.getfield 17, 3) := dk_180 0 17 (dk_at dksX0_give_0 1 rfl rfl)
theorem dX0_give_4 : decode cX0_give 4 = .ok (.iload_n 1, 1) := dk_27 (dk_at dksX0_give_0 4 rfl rfl)
theorem dX0_give_5 : decode cX0_give 5 = .ok (.invokevirtual 63, 3) := dk_182 0 63 (dk_at dksX0_give_0 5 rfl rfl)
theorem dX0_give_8 : decode cX0_give 8 = .ok (.ifCond .eq 19, 3) := dk_153 0 19 (dk_at dksX0_give_0 8 rfl rfl)
theorem dX0_give_11 : decode cX0_give 11 = .ok (.iload_n 2, 1) := dk_28 (dk_at dksX0_give_0 11 rfl rfl)
theorem dX0_give_12 : decode cX0_give 12 = .ok (.iconst (-1), 1) := dk_2 (dk_at dksX0_give_0 12 rfl rfl)
theorem dX0_give_13 : decode cX0_give 13 = .ok (.if_icmp .eq 16, 3) := dk_159 0 16 (dk_at dksX0_give_0 13 rfl rfl)
theorem dX0_give_16 : decode cX0_give 16 = .ok (.aload_n 0, 1) := dk_42 (dk_at dksX0_give_0 16 rfl rfl)
theorem dX0_give_17 : decode cX0_give 17 = .ok (.getfield 17, 3) := dk_180 0 17 (dk_at dksX0_give_0 17 rfl rfl)
theorem dX0_give_20 : decode cX0_give 20 = .ok (.iload_n 2, 1) := dk_28 (dk_at dksX0_give_0 20 rfl rfl)
theorem dX0_give_21 : decode cX0_give 21 = .ok (.invokevirtual 67, 3) := dk_182 0 67 (dk_at dksX0_give_0 21 rfl rfl)
theorem dX0_give_24 : decode cX0_give 24 = .ok (.ifCond .ne 5, 3) := dk_154 0 5 (dk_at dksX0_give_1 0 rfl rfl)
theorem dX0_give_27 : decode cX0_give 27 = .ok (.iconst (-1), 1) := dk_2 (dk_at dksX0_give_1 3 rfl rfl)
theorem dX0_give_28 : decode cX0_give 28 = .ok (.ireturn, 1) := dk_172 (dk_at dksX0_give_1 4 rfl rfl)
theorem dX0_give_29 : decode cX0_give 29 = .ok (.new 70, 3) := dk_187 0 70 (dk_at dksX0_give_1 5 rfl rfl)
theorem dX0_give_32 : decode cX0_give 32 = .ok (.dup, 1) := dk_89 (dk_at dksX0_give_1 8 rfl rfl)
theorem dX0_give_33 : decode cX0_give 33 = .ok (.aload_n 0, 1) := dk_42 (dk_at dksX0_give_1 9 rfl rfl)
theorem dX0_give_34 : decode cX0_give 34 = .ok (.iload_n 1, 1) := dk_27 (dk_at dksX0_give_1 10 rfl rfl)
theorem dX0_give_35 : decode cX0_give 35 = .ok (.iload_n 2, 1) := dk_28 (dk_at dksX0_give_1 11 rfl rfl)
theorem dX0_give_36 : decode cX0_give 36 = .ok (.invokespecial 72, 3) := dk_183 0 72 (dk_at dksX0_give_1 12 rfl rfl)
theorem dX0_give_39 : decode cX0_give 39 = .ok (.invokevirtual 75, 3) := dk_182 0 75 (dk_at dksX0_give_1 15 rfl rfl)
theorem dX0_give_42 : decode cX0_give 42 = .ok (.ireturn, 1) := dk_172 (dk_at dksX0_give_1 18 rfl rfl)
abbrev cX0_carve : ByteArray := prog_1_method_11_code
def yX0_carve : MethodName := ⟨RX0, "carve", "(IZI)I"⟩
def dkwX0_carve_1 : List UInt8 := [187, 0, 79, 89, 42, 27, 28, 29, 183, 0, 81, 182, 0, 84, 172]
abbrev dktX0_carve_1 : List UInt8 := dkwX0_carve_1 ++ []
def dkwX0_carve_0 : List UInt8 := [42, 180, 0, 17, 27, 182, 0, 67, 154, 0, 5, 2, 172, 29, 184, 0, 76, 154, 0, 6, 16, 254, 172]
abbrev dktX0_carve_0 : List UInt8 := dkwX0_carve_0 ++ dktX0_carve_1
theorem dksX0_carve_0 : cX0_carve.data.toList.drop 0 = dktX0_carve_0 := by decide +kernel
theorem dksX0_carve_1 : cX0_carve.data.toList.drop 23 = dktX0_carve_1 := dk_seg dksX0_carve_0 23 rfl rfl
theorem dX0_carve_0 : decode cX0_carve 0 = .ok (.aload_n 0, 1) := dk_42 (dk_at dksX0_carve_0 0 rfl rfl)
theorem dX0_carve_1 : decode cX0_carve 1 = .ok (.getfield 17, 3) := dk_180 0 17 (dk_at dksX0_carve_0 1 rfl rfl)
theorem dX0_carve_4 : decode cX0_carve 4 = .ok (.iload_n 1, 1) := dk_27 (dk_at dksX0_carve_0 4 rfl rfl)
theorem dX0_carve_5 : decode cX0_carve 5 = .ok (.invokevirtual 67, 3) := dk_182 0 67 (dk_at dksX0_carve_0 5 rfl rfl)
theorem dX0_carve_8 : decode cX0_carve 8 = .ok (.ifCond .ne 5, 3) := dk_154 0 5 (dk_at dksX0_carve_0 8 rfl rfl)
theorem dX0_carve_11 : decode cX0_carve 11 = .ok (.iconst (-1), 1) := dk_2 (dk_at dksX0_carve_0 11 rfl rfl)
theorem dX0_carve_12 : decode cX0_carve 12 = .ok (.ireturn, 1) := dk_172 (dk_at dksX0_carve_0 12 rfl rfl)
theorem dX0_carve_13 : decode cX0_carve 13 = .ok (.iload_n 3, 1) := dk_29 (dk_at dksX0_carve_0 13 rfl rfl)
theorem dX0_carve_14 : decode cX0_carve 14 = .ok (.invokestatic 76, 3) := dk_184 0 76 (dk_at dksX0_carve_0 14 rfl rfl)
theorem dX0_carve_17 : decode cX0_carve 17 = .ok (.ifCond .ne 6, 3) := dk_154 0 6 (dk_at dksX0_carve_0 17 rfl rfl)
theorem dX0_carve_20 : decode cX0_carve 20 = .ok (.bipush (-2), 2) := dk_16 254 (dk_at dksX0_carve_0 20 rfl rfl)
theorem dX0_carve_22 : decode cX0_carve 22 = .ok (.ireturn, 1) := dk_172 (dk_at dksX0_carve_0 22 rfl rfl)
theorem dX0_carve_23 : decode cX0_carve 23 = .ok (.new 79, 3) := dk_187 0 79 (dk_at dksX0_carve_1 0 rfl rfl)
theorem dX0_carve_26 : decode cX0_carve 26 = .ok (.dup, 1) := dk_89 (dk_at dksX0_carve_1 3 rfl rfl)
theorem dX0_carve_27 : decode cX0_carve 27 = .ok (.aload_n 0, 1) := dk_42 (dk_at dksX0_carve_1 4 rfl rfl)
theorem dX0_carve_28 : decode cX0_carve 28 = .ok (.iload_n 1, 1) := dk_27 (dk_at dksX0_carve_1 5 rfl rfl)
theorem dX0_carve_29 : decode cX0_carve 29 = .ok (.iload_n 2, 1) := dk_28 (dk_at dksX0_carve_1 6 rfl rfl)
theorem dX0_carve_30 : decode cX0_carve 30 = .ok (.iload_n 3, 1) := dk_29 (dk_at dksX0_carve_1 7 rfl rfl)
theorem dX0_carve_31 : decode cX0_carve 31 = .ok (.invokespecial 81, 3) := dk_183 0 81 (dk_at dksX0_carve_1 8 rfl rfl)
theorem dX0_carve_34 : decode cX0_carve 34 = .ok (.invokevirtual 84, 3) := dk_182 0 84 (dk_at dksX0_carve_1 11 rfl rfl)
theorem dX0_carve_37 : decode cX0_carve 37 = .ok (.ireturn, 1) := dk_172 (dk_at dksX0_carve_1 14 rfl rfl)
abbrev cX0_begin : ByteArray := prog_1_method_13_code
def yX0_begin : MethodName := ⟨RX0, "begin", "(II)I"⟩
def dkwX0_begin_1 : List UInt8 := [172]
abbrev dktX0_begin_1 : List UInt8 := dkwX0_begin_1 ++ []
def dkwX0_begin_0 : List UInt8 := [27, 28, 184, 0, 85, 154, 0, 6, 16, 254, 172, 187, 0, 89, 89, 42, 27, 28, 183, 0, 91, 182, 0, 92]
abbrev dktX0_begin_0 : List UInt8 := dkwX0_begin_0 ++ dktX0_begin_1
theorem dksX0_begin_0 : cX0_begin.data.toList.drop 0 = dktX0_begin_0 := by decide +kernel
theorem dksX0_begin_1 : cX0_begin.data.toList.drop 24 = dktX0_begin_1 := dk_seg dksX0_begin_0 24 rfl rfl
theorem dX0_begin_0 : decode cX0_begin 0 = .ok (.iload_n 1, 1) := dk_27 (dk_at dksX0_begin_0 0 rfl rfl)
theorem dX0_begin_1 : decode cX0_begin 1 = .ok (.iload_n 2, 1) := dk_28 (dk_at dksX0_begin_0 1 rfl rfl)
theorem dX0_begin_2 : decode cX0_begin 2 = .ok (.invokestatic 85, 3) := dk_184 0 85 (dk_at dksX0_begin_0 2 rfl rfl)
theorem dX0_begin_5 : decode cX0_begin 5 = .ok (.ifCond .ne 6, 3) := dk_154 0 6 (dk_at dksX0_begin_0 5 rfl rfl)
theorem dX0_begin_8 : decode cX0_begin 8 = .ok (.bipush (-2), 2) := dk_16 254 (dk_at dksX0_begin_0 8 rfl rfl)
theorem dX0_begin_10 : decode cX0_begin 10 = .ok (.ireturn, 1) := dk_172 (dk_at dksX0_begin_0 10 rfl rfl)
theorem dX0_begin_11 : decode cX0_begin 11 = .ok (.new 89, 3) := dk_187 0 89 (dk_at dksX0_begin_0 11 rfl rfl)
theorem dX0_begin_14 : decode cX0_begin 14 = .ok (.dup, 1) := dk_89 (dk_at dksX0_begin_0 14 rfl rfl)
theorem dX0_begin_15 : decode cX0_begin 15 = .ok (.aload_n 0, 1) := dk_42 (dk_at dksX0_begin_0 15 rfl rfl)
theorem dX0_begin_16 : decode cX0_begin 16 = .ok (.iload_n 1, 1) := dk_27 (dk_at dksX0_begin_0 16 rfl rfl)
theorem dX0_begin_17 : decode cX0_begin 17 = .ok (.iload_n 2, 1) := dk_28 (dk_at dksX0_begin_0 17 rfl rfl)
theorem dX0_begin_18 : decode cX0_begin 18 = .ok (.invokespecial 91, 3) := dk_183 0 91 (dk_at dksX0_begin_0 18 rfl rfl)
theorem dX0_begin_21 : decode cX0_begin 21 = .ok (.invokevirtual 92, 3) := dk_182 0 92 (dk_at dksX0_begin_0 21 rfl rfl)
theorem dX0_begin_24 : decode cX0_begin 24 = .ok (.ireturn, 1) := dk_172 (dk_at dksX0_begin_1 0 rfl rfl)
abbrev cX0_thread : ByteArray := prog_1_method_14_code
def yX0_thread : MethodName := ⟨RX0, "thread", "(I)I"⟩
def dkwX0_thread_1 : List UInt8 := [182, 0, 99, 172]
abbrev dktX0_thread_1 : List UInt8 := dkwX0_thread_1 ++ []
def dkwX0_thread_0 : List UInt8 := [42, 180, 0, 17, 27, 182, 0, 93, 154, 0, 5, 2, 172, 187, 0, 96, 89, 42, 27, 183, 0, 98]
abbrev dktX0_thread_0 : List UInt8 := dkwX0_thread_0 ++ dktX0_thread_1
theorem dksX0_thread_0 : cX0_thread.data.toList.drop 0 = dktX0_thread_0 := by decide +kernel
theorem dksX0_thread_1 : cX0_thread.data.toList.drop 22 = dktX0_thread_1 := dk_seg dksX0_thread_0 22 rfl rfl
theorem dX0_thread_0 : decode cX0_thread 0 = .ok (.aload_n 0, 1) := dk_42 (dk_at dksX0_thread_0 0 rfl rfl)
theorem dX0_thread_1 : decode cX0_thread 1 = .ok (.getfield 17, 3) := dk_180 0 17 (dk_at dksX0_thread_0 1 rfl rfl)
theorem dX0_thread_4 : decode cX0_thread 4 = .ok (.iload_n 1, 1) := dk_27 (dk_at dksX0_thread_0 4 rfl rfl)
theorem dX0_thread_5 : decode cX0_thread 5 = .ok (.invokevirtual 93, 3) := dk_182 0 93 (dk_at dksX0_thread_0 5 rfl rfl)
theorem dX0_thread_8 : decode cX0_thread 8 = .ok (.ifCond .ne 5, 3) := dk_154 0 5 (dk_at dksX0_thread_0 8 rfl rfl)
theorem dX0_thread_11 : decode cX0_thread 11 = .ok (.iconst (-1), 1) := dk_2 (dk_at dksX0_thread_0 11 rfl rfl)
theorem dX0_thread_12 : decode cX0_thread 12 = .ok (.ireturn, 1) := dk_172 (dk_at dksX0_thread_0 12 rfl rfl)
theorem dX0_thread_13 : decode cX0_thread 13 = .ok (.new 96, 3) := dk_187 0 96 (dk_at dksX0_thread_0 13 rfl rfl)
theorem dX0_thread_16 : decode cX0_thread 16 = .ok (.dup, 1) := dk_89 (dk_at dksX0_thread_0 16 rfl rfl)
theorem dX0_thread_17 : decode cX0_thread 17 = .ok (.aload_n 0, 1) := dk_42 (dk_at dksX0_thread_0 17 rfl rfl)
theorem dX0_thread_18 : decode cX0_thread 18 = .ok (.iload_n 1, 1) := dk_27 (dk_at dksX0_thread_0 18 rfl rfl)
theorem dX0_thread_19 : decode cX0_thread 19 = .ok (.invokespecial 98, 3) := dk_183 0 98 (dk_at dksX0_thread_0 19 rfl rfl)
theorem dX0_thread_22 : decode cX0_thread 22 = .ok (.invokevirtual 99, 3) := dk_182 0 99 (dk_at dksX0_thread_1 0 rfl rfl)
theorem dX0_thread_25 : decode cX0_thread 25 = .ok (.ireturn, 1) := dk_172 (dk_at dksX0_thread_1 3 rfl rfl)
abbrev cX0_knot : ByteArray := prog_1_method_15_code
def yX0_knot : MethodName := ⟨RX0, "knot", "(I)I"⟩
def dkwX0_knot_1 : List UInt8 := [182, 0, 103, 172]
abbrev dktX0_knot_1 : List UInt8 := dkwX0_knot_1 ++ []
def dkwX0_knot_0 : List UInt8 := [42, 180, 0, 17, 27, 182, 0, 93, 154, 0, 5, 2, 172, 187, 0, 100, 89, 42, 27, 183, 0, 102]
abbrev dktX0_knot_0 : List UInt8 := dkwX0_knot_0 ++ dktX0_knot_1
theorem dksX0_knot_0 : cX0_knot.data.toList.drop 0 = dktX0_knot_0 := by decide +kernel
theorem dksX0_knot_1 : cX0_knot.data.toList.drop 22 = dktX0_knot_1 := dk_seg dksX0_knot_0 22 rfl rfl
theorem dX0_knot_0 : decode cX0_knot 0 = .ok (.aload_n 0, 1) := dk_42 (dk_at dksX0_knot_0 0 rfl rfl)
theorem dX0_knot_1 : decode cX0_knot 1 = .ok (.getfield 17, 3) := dk_180 0 17 (dk_at dksX0_knot_0 1 rfl rfl)
theorem dX0_knot_4 : decode cX0_knot 4 = .ok (.iload_n 1, 1) := dk_27 (dk_at dksX0_knot_0 4 rfl rfl)
theorem dX0_knot_5 : decode cX0_knot 5 = .ok (.invokevirtual 93, 3) := dk_182 0 93 (dk_at dksX0_knot_0 5 rfl rfl)
theorem dX0_knot_8 : decode cX0_knot 8 = .ok (.ifCond .ne 5, 3) := dk_154 0 5 (dk_at dksX0_knot_0 8 rfl rfl)
theorem dX0_knot_11 : decode cX0_knot 11 = .ok (.iconst (-1), 1) := dk_2 (dk_at dksX0_knot_0 11 rfl rfl)
theorem dX0_knot_12 : decode cX0_knot 12 = .ok (.ireturn, 1) := dk_172 (dk_at dksX0_knot_0 12 rfl rfl)
theorem dX0_knot_13 : decode cX0_knot 13 = .ok (.new 100, 3) := dk_187 0 100 (dk_at dksX0_knot_0 13 rfl rfl)
theorem dX0_knot_16 : decode cX0_knot 16 = .ok (.dup, 1) := dk_89 (dk_at dksX0_knot_0 16 rfl rfl)
theorem dX0_knot_17 : decode cX0_knot 17 = .ok (.aload_n 0, 1) := dk_42 (dk_at dksX0_knot_0 17 rfl rfl)
theorem dX0_knot_18 : decode cX0_knot 18 = .ok (.iload_n 1, 1) := dk_27 (dk_at dksX0_knot_0 18 rfl rfl)
theorem dX0_knot_19 : decode cX0_knot 19 = .ok (.invokespecial 102, 3) := dk_183 0 102 (dk_at dksX0_knot_0 19 rfl rfl)
theorem dX0_knot_22 : decode cX0_knot 22 = .ok (.invokevirtual 103, 3) := dk_182 0 103 (dk_at dksX0_knot_1 0 rfl rfl)
theorem dX0_knot_25 : decode cX0_knot 25 = .ok (.ireturn, 1) := dk_172 (dk_at dksX0_knot_1 3 rfl rfl)
abbrev cX0_drop : ByteArray := prog_1_method_16_code
def yX0_drop : MethodName := ⟨RX0, "drop", "(I)I"⟩
def dkwX0_drop_1 : List UInt8 := [182, 0, 107, 172]
abbrev dktX0_drop_1 : List UInt8 := dkwX0_drop_1 ++ []
def dkwX0_drop_0 : List UInt8 := [42, 180, 0, 17, 27, 182, 0, 93, 154, 0, 5, 2, 172, 187, 0, 104, 89, 42, 27, 183, 0, 106]
abbrev dktX0_drop_0 : List UInt8 := dkwX0_drop_0 ++ dktX0_drop_1
theorem dksX0_drop_0 : cX0_drop.data.toList.drop 0 = dktX0_drop_0 := by decide +kernel
theorem dksX0_drop_1 : cX0_drop.data.toList.drop 22 = dktX0_drop_1 := dk_seg dksX0_drop_0 22 rfl rfl
theorem dX0_drop_0 : decode cX0_drop 0 = .ok (.aload_n 0, 1) := dk_42 (dk_at dksX0_drop_0 0 rfl rfl)
theorem dX0_drop_1 : decode cX0_drop 1 = .ok (.getfield 17, 3) := dk_180 0 17 (dk_at dksX0_drop_0 1 rfl rfl)
theorem dX0_drop_4 : decode cX0_drop 4 = .ok (.iload_n 1, 1) := dk_27 (dk_at dksX0_drop_0 4 rfl rfl)
theorem dX0_drop_5 : decode cX0_drop 5 = .ok (.invokevirtual 93, 3) := dk_182 0 93 (dk_at dksX0_drop_0 5 rfl rfl)
theorem dX0_drop_8 : decode cX0_drop 8 = .ok (.ifCond .ne 5, 3) := dk_154 0 5 (dk_at dksX0_drop_0 8 rfl rfl)
theorem dX0_drop_11 : decode cX0_drop 11 = .ok (.iconst (-1), 1) := dk_2 (dk_at dksX0_drop_0 11 rfl rfl)
theorem dX0_drop_12 : decode cX0_drop 12 = .ok (.ireturn, 1) := dk_172 (dk_at dksX0_drop_0 12 rfl rfl)
theorem dX0_drop_13 : decode cX0_drop 13 = .ok (.new 104, 3) := dk_187 0 104 (dk_at dksX0_drop_0 13 rfl rfl)
theorem dX0_drop_16 : decode cX0_drop 16 = .ok (.dup, 1) := dk_89 (dk_at dksX0_drop_0 16 rfl rfl)
theorem dX0_drop_17 : decode cX0_drop 17 = .ok (.aload_n 0, 1) := dk_42 (dk_at dksX0_drop_0 17 rfl rfl)
theorem dX0_drop_18 : decode cX0_drop 18 = .ok (.iload_n 1, 1) := dk_27 (dk_at dksX0_drop_0 18 rfl rfl)
theorem dX0_drop_19 : decode cX0_drop 19 = .ok (.invokespecial 106, 3) := dk_183 0 106 (dk_at dksX0_drop_0 19 rfl rfl)
theorem dX0_drop_22 : decode cX0_drop 22 = .ok (.invokevirtual 107, 3) := dk_182 0 107 (dk_at dksX0_drop_1 0 rfl rfl)
theorem dX0_drop_25 : decode cX0_drop 25 = .ok (.ireturn, 1) := dk_172 (dk_at dksX0_drop_1 3 rfl rfl)
abbrev cX0_pilgrim : ByteArray := prog_1_method_18_code
def yX0_pilgrim : MethodName := ⟨RX0, "pilgrim", "(IIII)I"⟩
def dkwX0_pilgrim_2 : List UInt8 := [29, 21, 4, 183, 0, 113, 182, 0, 116, 172]
abbrev dktX0_pilgrim_2 : List UInt8 := dkwX0_pilgrim_2 ++ []
def dkwX0_pilgrim_1 : List UInt8 := [153, 0, 14, 21, 4, 4, 16, 99, 184, 0, 42, 154, 0, 6, 16, 254, 172, 187, 0, 111, 89, 42, 27, 28]
abbrev dktX0_pilgrim_1 : List UInt8 := dkwX0_pilgrim_1 ++ dktX0_pilgrim_2
def dkwX0_pilgrim_0 : List UInt8 := [27, 184, 0, 108, 153, 0, 33, 28, 4, 7, 184, 0, 42, 153, 0, 24, 29, 3, 16, 9, 184, 0, 42]
abbrev dktX0_pilgrim_0 : List UInt8 := dkwX0_pilgrim_0 ++ dktX0_pilgrim_1
theorem dksX0_pilgrim_0 : cX0_pilgrim.data.toList.drop 0 = dktX0_pilgrim_0 := by decide +kernel
theorem dksX0_pilgrim_1 : cX0_pilgrim.data.toList.drop 23 = dktX0_pilgrim_1 := dk_seg dksX0_pilgrim_0 23 rfl rfl
theorem dksX0_pilgrim_2 : cX0_pilgrim.data.toList.drop 47 = dktX0_pilgrim_2 := dk_seg dksX0_pilgrim_1 24 rfl rfl
theorem dX0_pilgrim_0 : decode cX0_pilgrim 0 = .ok (.iload_n 1, 1) := dk_27 (dk_at dksX0_pilgrim_0 0 rfl rfl)
theorem dX0_pilgrim_1 : decode cX0_pilgrim 1 = .ok (.invokestatic 108, 3) := dk_184 0 108 (dk_at dksX0_pilgrim_0 1 rfl rfl)
theorem dX0_pilgrim_4 : decode cX0_pilgrim 4 = .ok (.ifCond .eq 33, 3) := dk_153 0 33 (dk_at dksX0_pilgrim_0 4 rfl rfl)
theorem dX0_pilgrim_7 : decode cX0_pilgrim 7 = .ok (.iload_n 2, 1) := dk_28 (dk_at dksX0_pilgrim_0 7 rfl rfl)
theorem dX0_pilgrim_8 : decode cX0_pilgrim 8 = .ok (.iconst 1, 1) := dk_4 (dk_at dksX0_pilgrim_0 8 rfl rfl)
theorem dX0_pilgrim_9 : decode cX0_pilgrim 9 = .ok (.iconst 4, 1) := dk_7 (dk_at dksX0_pilgrim_0 9 rfl rfl)
theorem dX0_pilgrim_10 : decode cX0_pilgrim 10 = .ok (.invokestatic 42, 3) := dk_184 0 42 (dk_at dksX0_pilgrim_0 10 rfl rfl)
theorem dX0_pilgrim_13 : decode cX0_pilgrim 13 = .ok (.ifCond .eq 24, 3) := dk_153 0 24 (dk_at dksX0_pilgrim_0 13 rfl rfl)
theorem dX0_pilgrim_16 : decode cX0_pilgrim 16 = .ok (.iload_n 3, 1) := dk_29 (dk_at dksX0_pilgrim_0 16 rfl rfl)
theorem dX0_pilgrim_17 : decode cX0_pilgrim 17 = .ok (.iconst 0, 1) := dk_3 (dk_at dksX0_pilgrim_0 17 rfl rfl)
theorem dX0_pilgrim_18 : decode cX0_pilgrim 18 = .ok (.bipush 9, 2) := dk_16 9 (dk_at dksX0_pilgrim_0 18 rfl rfl)
theorem dX0_pilgrim_20 : decode cX0_pilgrim 20 = .ok (.invokestatic 42, 3) := dk_184 0 42 (dk_at dksX0_pilgrim_0 20 rfl rfl)
theorem dX0_pilgrim_23 : decode cX0_pilgrim 23 = .ok (.ifCond .eq 14, 3) := dk_153 0 14 (dk_at dksX0_pilgrim_1 0 rfl rfl)
theorem dX0_pilgrim_26 : decode cX0_pilgrim 26 = .ok (.iload 4, 2) := dk_21 4 (dk_at dksX0_pilgrim_1 3 rfl rfl)
theorem dX0_pilgrim_28 : decode cX0_pilgrim 28 = .ok (.iconst 1, 1) := dk_4 (dk_at dksX0_pilgrim_1 5 rfl rfl)
theorem dX0_pilgrim_29 : decode cX0_pilgrim 29 = .ok (.bipush 99, 2) := dk_16 99 (dk_at dksX0_pilgrim_1 6 rfl rfl)
theorem dX0_pilgrim_31 : decode cX0_pilgrim 31 = .ok (.invokestatic 42, 3) := dk_184 0 42 (dk_at dksX0_pilgrim_1 8 rfl rfl)
theorem dX0_pilgrim_34 : decode cX0_pilgrim 34 = .ok (.ifCond .ne 6, 3) := dk_154 0 6 (dk_at dksX0_pilgrim_1 11 rfl rfl)
theorem dX0_pilgrim_37 : decode cX0_pilgrim 37 = .ok (.bipush (-2), 2) := dk_16 254 (dk_at dksX0_pilgrim_1 14 rfl rfl)
theorem dX0_pilgrim_39 : decode cX0_pilgrim 39 = .ok (.ireturn, 1) := dk_172 (dk_at dksX0_pilgrim_1 16 rfl rfl)
theorem dX0_pilgrim_40 : decode cX0_pilgrim 40 = .ok (.new 111, 3) := dk_187 0 111 (dk_at dksX0_pilgrim_1 17 rfl rfl)
theorem dX0_pilgrim_43 : decode cX0_pilgrim 43 = .ok (.dup, 1) := dk_89 (dk_at dksX0_pilgrim_1 20 rfl rfl)
theorem dX0_pilgrim_44 : decode cX0_pilgrim 44 = .ok (.aload_n 0, 1) := dk_42 (dk_at dksX0_pilgrim_1 21 rfl rfl)
theorem dX0_pilgrim_45 : decode cX0_pilgrim 45 = .ok (.iload_n 1, 1) := dk_27 (dk_at dksX0_pilgrim_1 22 rfl rfl)
theorem dX0_pilgrim_46 : decode cX0_pilgrim 46 = .ok (.iload_n 2, 1) := dk_28 (dk_at dksX0_pilgrim_1 23 rfl rfl)
theorem dX0_pilgrim_47 : decode cX0_pilgrim 47 = .ok (.iload_n 3, 1) := dk_29 (dk_at dksX0_pilgrim_2 0 rfl rfl)
theorem dX0_pilgrim_48 : decode cX0_pilgrim 48 = .ok (.iload 4, 2) := dk_21 4 (dk_at dksX0_pilgrim_2 1 rfl rfl)
theorem dX0_pilgrim_50 : decode cX0_pilgrim 50 = .ok (.invokespecial 113, 3) := dk_183 0 113 (dk_at dksX0_pilgrim_2 3 rfl rfl)
theorem dX0_pilgrim_53 : decode cX0_pilgrim 53 = .ok (.invokevirtual 116, 3) := dk_182 0 116 (dk_at dksX0_pilgrim_2 6 rfl rfl)
theorem dX0_pilgrim_56 : decode cX0_pilgrim 56 = .ok (.ireturn, 1) := dk_172 (dk_at dksX0_pilgrim_2 9 rfl rfl)
abbrev cX0_mend : ByteArray := prog_1_method_19_code
def yX0_mend : MethodName := ⟨RX0, "mend", "()I"⟩
def dkwX0_mend_0 : List UInt8 := [187, 0, 117, 89, 42, 183, 0, 119, 182, 0, 122, 172]
abbrev dktX0_mend_0 : List UInt8 := dkwX0_mend_0 ++ []
theorem dksX0_mend_0 : cX0_mend.data.toList.drop 0 = dktX0_mend_0 := by decide +kernel
theorem dX0_mend_0 : decode cX0_mend 0 = .ok (.new 117, 3) := dk_187 0 117 (dk_at dksX0_mend_0 0 rfl rfl)
theorem dX0_mend_3 : decode cX0_mend 3 = .ok (.dup, 1) := dk_89 (dk_at dksX0_mend_0 3 rfl rfl)
theorem dX0_mend_4 : decode cX0_mend 4 = .ok (.aload_n 0, 1) := dk_42 (dk_at dksX0_mend_0 4 rfl rfl)
theorem dX0_mend_5 : decode cX0_mend 5 = .ok (.invokespecial 119, 3) := dk_183 0 119 (dk_at dksX0_mend_0 5 rfl rfl)
theorem dX0_mend_8 : decode cX0_mend 8 = .ok (.invokevirtual 122, 3) := dk_182 0 122 (dk_at dksX0_mend_0 8 rfl rfl)
theorem dX0_mend_11 : decode cX0_mend 11 = .ok (.ireturn, 1) := dk_172 (dk_at dksX0_mend_0 11 rfl rfl)
abbrev cX0_pass : ByteArray := prog_1_method_20_code
def yX0_pass : MethodName := ⟨RX0, "pass", "(I)I"⟩
def dkwX0_pass_0 : List UInt8 := [27, 184, 0, 108, 154, 0, 6, 16, 254, 172, 187, 0, 123, 89, 42, 27, 183, 0, 125, 182, 0, 126, 172]
abbrev dktX0_pass_0 : List UInt8 := dkwX0_pass_0 ++ []
theorem dksX0_pass_0 : cX0_pass.data.toList.drop 0 = dktX0_pass_0 := by decide +kernel
theorem dX0_pass_0 : decode cX0_pass 0 = .ok (.iload_n 1, 1) := dk_27 (dk_at dksX0_pass_0 0 rfl rfl)
theorem dX0_pass_1 : decode cX0_pass 1 = .ok (.invokestatic 108, 3) := dk_184 0 108 (dk_at dksX0_pass_0 1 rfl rfl)
theorem dX0_pass_4 : decode cX0_pass 4 = .ok (.ifCond .ne 6, 3) := dk_154 0 6 (dk_at dksX0_pass_0 4 rfl rfl)
theorem dX0_pass_7 : decode cX0_pass 7 = .ok (.bipush (-2), 2) := dk_16 254 (dk_at dksX0_pass_0 7 rfl rfl)
theorem dX0_pass_9 : decode cX0_pass 9 = .ok (.ireturn, 1) := dk_172 (dk_at dksX0_pass_0 9 rfl rfl)
theorem dX0_pass_10 : decode cX0_pass 10 = .ok (.new 123, 3) := dk_187 0 123 (dk_at dksX0_pass_0 10 rfl rfl)
theorem dX0_pass_13 : decode cX0_pass 13 = .ok (.dup, 1) := dk_89 (dk_at dksX0_pass_0 13 rfl rfl)
theorem dX0_pass_14 : decode cX0_pass 14 = .ok (.aload_n 0, 1) := dk_42 (dk_at dksX0_pass_0 14 rfl rfl)
theorem dX0_pass_15 : decode cX0_pass 15 = .ok (.iload_n 1, 1) := dk_27 (dk_at dksX0_pass_0 15 rfl rfl)
theorem dX0_pass_16 : decode cX0_pass 16 = .ok (.invokespecial 125, 3) := dk_183 0 125 (dk_at dksX0_pass_0 16 rfl rfl)
theorem dX0_pass_19 : decode cX0_pass 19 = .ok (.invokevirtual 126, 3) := dk_182 0 126 (dk_at dksX0_pass_0 19 rfl rfl)
theorem dX0_pass_22 : decode cX0_pass 22 = .ok (.ireturn, 1) := dk_172 (dk_at dksX0_pass_0 22 rfl rfl)
abbrev cX0_carverOf : ByteArray := prog_1_method_21_code
def yX0_carverOf : MethodName := ⟨RX0, "carverOf", "(II)I"⟩
def dkwX0_carverOf_4 : List UInt8 := [182, 0, 149, 172, 45, 180, 0, 152, 172, 45, 180, 0, 155, 172, 16, 254, 172]
abbrev dktX0_carverOf_4 : List UInt8 := dkwX0_carverOf_4 ++ []
def dkwX0_carverOf_3 : List UInt8 := [45, 180, 0, 139, 172, 45, 180, 0, 142, 172, 42, 180, 0, 17, 27, 182, 0, 145, 172, 42, 180, 0, 17, 27]
abbrev dktX0_carverOf_3 : List UInt8 := dkwX0_carverOf_3 ++ dktX0_carverOf_4
def dkwX0_carverOf_2 : List UInt8 := [170, 0, 0, 0, 0, 0, 77, 0, 0, 0, 0, 0, 0, 0, 5, 0, 0, 0, 39, 0, 0, 0, 44, 0, 0, 0, 49, 0, 0, 0, 58, 0, 0, 0, 67, 0, 0, 0, 72]
abbrev dktX0_carverOf_2 : List UInt8 := dkwX0_carverOf_2 ++ dktX0_carverOf_3
def dkwX0_carverOf_1 : List UInt8 := [192, 0, 137, 78, 28]
abbrev dktX0_carverOf_1 : List UInt8 := dkwX0_carverOf_1 ++ dktX0_carverOf_2
def dkwX0_carverOf_0 : List UInt8 := [42, 180, 0, 17, 27, 182, 0, 67, 154, 0, 5, 2, 172, 42, 180, 0, 17, 180, 0, 127, 27, 182, 0, 131]
abbrev dktX0_carverOf_0 : List UInt8 := dkwX0_carverOf_0 ++ dktX0_carverOf_1
theorem dksX0_carverOf_0 : cX0_carverOf.data.toList.drop 0 = dktX0_carverOf_0 := by decide +kernel
theorem dksX0_carverOf_1 : cX0_carverOf.data.toList.drop 24 = dktX0_carverOf_1 := dk_seg dksX0_carverOf_0 24 rfl rfl
theorem dksX0_carverOf_2 : cX0_carverOf.data.toList.drop 29 = dktX0_carverOf_2 := dk_seg dksX0_carverOf_1 5 rfl rfl
theorem dksX0_carverOf_3 : cX0_carverOf.data.toList.drop 68 = dktX0_carverOf_3 := dk_seg dksX0_carverOf_2 39 rfl rfl
theorem dksX0_carverOf_4 : cX0_carverOf.data.toList.drop 92 = dktX0_carverOf_4 := dk_seg dksX0_carverOf_3 24 rfl rfl
theorem dX0_carverOf_0 : decode cX0_carverOf 0 = .ok (.aload_n 0, 1) := dk_42 (dk_at dksX0_carverOf_0 0 rfl rfl)
theorem dX0_carverOf_1 : decode cX0_carverOf 1 = .ok (.getfield 17, 3) := dk_180 0 17 (dk_at dksX0_carverOf_0 1 rfl rfl)
theorem dX0_carverOf_4 : decode cX0_carverOf 4 = .ok (.iload_n 1, 1) := dk_27 (dk_at dksX0_carverOf_0 4 rfl rfl)
theorem dX0_carverOf_5 : decode cX0_carverOf 5 = .ok (.invokevirtual 67, 3) := dk_182 0 67 (dk_at dksX0_carverOf_0 5 rfl rfl)
theorem dX0_carverOf_8 : decode cX0_carverOf 8 = .ok (.ifCond .ne 5, 3) := dk_154 0 5 (dk_at dksX0_carverOf_0 8 rfl rfl)
theorem dX0_carverOf_11 : decode cX0_carverOf 11 = .ok (.iconst (-1), 1) := dk_2 (dk_at dksX0_carverOf_0 11 rfl rfl)
theorem dX0_carverOf_12 : decode cX0_carverOf 12 = .ok (.ireturn, 1) := dk_172 (dk_at dksX0_carverOf_0 12 rfl rfl)
theorem dX0_carverOf_13 : decode cX0_carverOf 13 = .ok (.aload_n 0, 1) := dk_42 (dk_at dksX0_carverOf_0 13 rfl rfl)
theorem dX0_carverOf_14 : decode cX0_carverOf 14 = .ok (.getfield 17, 3) := dk_180 0 17 (dk_at dksX0_carverOf_0 14 rfl rfl)
theorem dX0_carverOf_17 : decode cX0_carverOf 17 = .ok (.getfield 127, 3) := dk_180 0 127 (dk_at dksX0_carverOf_0 17 rfl rfl)
theorem dX0_carverOf_20 : decode cX0_carverOf 20 = .ok (.iload_n 1, 1) := dk_27 (dk_at dksX0_carverOf_0 20 rfl rfl)
theorem dX0_carverOf_21 : decode cX0_carverOf 21 = .ok (.invokevirtual 131, 3) := dk_182 0 131 (dk_at dksX0_carverOf_0 21 rfl rfl)
theorem dX0_carverOf_24 : decode cX0_carverOf 24 = .ok (.checkcast 137, 3) := dk_192 0 137 (dk_at dksX0_carverOf_1 0 rfl rfl)
theorem dX0_carverOf_27 : decode cX0_carverOf 27 = .ok (.astore_n 3, 1) := dk_78 (dk_at dksX0_carverOf_1 3 rfl rfl)
theorem dX0_carverOf_28 : decode cX0_carverOf 28 = .ok (.iload_n 2, 1) := dk_28 (dk_at dksX0_carverOf_1 4 rfl rfl)
theorem dX0_carverOf_29 : decode cX0_carverOf 29 = .ok (.tableswitch 77 0 5 #[39, 44, 49, 58, 67, 72], 39) := by decide +kernel
theorem dX0_carverOf_68 : decode cX0_carverOf 68 = .ok (.aload_n 3, 1) := dk_45 (dk_at dksX0_carverOf_3 0 rfl rfl)
theorem dX0_carverOf_69 : decode cX0_carverOf 69 = .ok (.getfield 139, 3) := dk_180 0 139 (dk_at dksX0_carverOf_3 1 rfl rfl)
theorem dX0_carverOf_72 : decode cX0_carverOf 72 = .ok (.ireturn, 1) := dk_172 (dk_at dksX0_carverOf_3 4 rfl rfl)
theorem dX0_carverOf_73 : decode cX0_carverOf 73 = .ok (.aload_n 3, 1) := dk_45 (dk_at dksX0_carverOf_3 5 rfl rfl)
theorem dX0_carverOf_74 : decode cX0_carverOf 74 = .ok (.getfield 142, 3) := dk_180 0 142 (dk_at dksX0_carverOf_3 6 rfl rfl)
theorem dX0_carverOf_77 : decode cX0_carverOf 77 = .ok (.ireturn, 1) := dk_172 (dk_at dksX0_carverOf_3 9 rfl rfl)
theorem dX0_carverOf_78 : decode cX0_carverOf 78 = .ok (.aload_n 0, 1) := dk_42 (dk_at dksX0_carverOf_3 10 rfl rfl)
theorem dX0_carverOf_79 : decode cX0_carverOf 79 = .ok (.getfield 17, 3) := dk_180 0 17 (dk_at dksX0_carverOf_3 11 rfl rfl)
theorem dX0_carverOf_82 : decode cX0_carverOf 82 = .ok (.iload_n 1, 1) := dk_27 (dk_at dksX0_carverOf_3 14 rfl rfl)
theorem dX0_carverOf_83 : decode cX0_carverOf 83 = .ok (.invokevirtual 145, 3) := dk_182 0 145 (dk_at dksX0_carverOf_3 15 rfl rfl)
theorem dX0_carverOf_86 : decode cX0_carverOf 86 = .ok (.ireturn, 1) := dk_172 (dk_at dksX0_carverOf_3 18 rfl rfl)
theorem dX0_carverOf_87 : decode cX0_carverOf 87 = .ok (.aload_n 0, 1) := dk_42 (dk_at dksX0_carverOf_3 19 rfl rfl)
theorem dX0_carverOf_88 : decode cX0_carverOf 88 = .ok (.getfield 17, 3) := dk_180 0 17 (dk_at dksX0_carverOf_3 20 rfl rfl)
theorem dX0_carverOf_91 : decode cX0_carverOf 91 = .ok (.iload_n 1, 1) := dk_27 (dk_at dksX0_carverOf_3 23 rfl rfl)
theorem dX0_carverOf_92 : decode cX0_carverOf 92 = .ok (.invokevirtual 149, 3) := dk_182 0 149 (dk_at dksX0_carverOf_4 0 rfl rfl)
theorem dX0_carverOf_95 : decode cX0_carverOf 95 = .ok (.ireturn, 1) := dk_172 (dk_at dksX0_carverOf_4 3 rfl rfl)
theorem dX0_carverOf_96 : decode cX0_carverOf 96 = .ok (.aload_n 3, 1) := dk_45 (dk_at dksX0_carverOf_4 4 rfl rfl)
theorem dX0_carverOf_97 : decode cX0_carverOf 97 = .ok (.getfield 152, 3) := dk_180 0 152 (dk_at dksX0_carverOf_4 5 rfl rfl)
theorem dX0_carverOf_100 : decode cX0_carverOf 100 = .ok (.ireturn, 1) := dk_172 (dk_at dksX0_carverOf_4 8 rfl rfl)
theorem dX0_carverOf_101 : decode cX0_carverOf 101 = .ok (.aload_n 3, 1) := dk_45 (dk_at dksX0_carverOf_4 9 rfl rfl)
theorem dX0_carverOf_102 : decode cX0_carverOf 102 = .ok (.getfield 155, 3) := dk_180 0 155 (dk_at dksX0_carverOf_4 10 rfl rfl)
theorem dX0_carverOf_105 : decode cX0_carverOf 105 = .ok (.ireturn, 1) := dk_172 (dk_at dksX0_carverOf_4 13 rfl rfl)
theorem dX0_carverOf_106 : decode cX0_carverOf 106 = .ok (.bipush (-2), 2) := dk_16 254 (dk_at dksX0_carverOf_4 14 rfl rfl)
theorem dX0_carverOf_108 : decode cX0_carverOf 108 = .ok (.ireturn, 1) := dk_172 (dk_at dksX0_carverOf_4 16 rfl rfl)
abbrev cX0_lensOf : ByteArray := prog_1_method_22_code
def yX0_lensOf : MethodName := ⟨RX0, "lensOf", "(IZ)I"⟩
def dkwX0_lensOf_2 : List UInt8 := [167, 0, 7, 45, 180, 0, 166, 172]
abbrev dktX0_lensOf_2 : List UInt8 := dkwX0_lensOf_2 ++ []
def dkwX0_lensOf_1 : List UInt8 := [192, 0, 161, 78, 28, 153, 0, 8, 45, 180, 0, 163, 172, 45, 180, 0, 166, 2, 160, 0, 8, 16, 250]
abbrev dktX0_lensOf_1 : List UInt8 := dkwX0_lensOf_1 ++ dktX0_lensOf_2
def dkwX0_lensOf_0 : List UInt8 := [42, 180, 0, 17, 27, 182, 0, 63, 154, 0, 5, 2, 172, 42, 180, 0, 17, 180, 0, 158, 27, 182, 0, 131]
abbrev dktX0_lensOf_0 : List UInt8 := dkwX0_lensOf_0 ++ dktX0_lensOf_1
theorem dksX0_lensOf_0 : cX0_lensOf.data.toList.drop 0 = dktX0_lensOf_0 := by decide +kernel
theorem dksX0_lensOf_1 : cX0_lensOf.data.toList.drop 24 = dktX0_lensOf_1 := dk_seg dksX0_lensOf_0 24 rfl rfl
theorem dksX0_lensOf_2 : cX0_lensOf.data.toList.drop 47 = dktX0_lensOf_2 := dk_seg dksX0_lensOf_1 23 rfl rfl
theorem dX0_lensOf_0 : decode cX0_lensOf 0 = .ok (.aload_n 0, 1) := dk_42 (dk_at dksX0_lensOf_0 0 rfl rfl)
theorem dX0_lensOf_1 : decode cX0_lensOf 1 = .ok (.getfield 17, 3) := dk_180 0 17 (dk_at dksX0_lensOf_0 1 rfl rfl)
theorem dX0_lensOf_4 : decode cX0_lensOf 4 = .ok (.iload_n 1, 1) := dk_27 (dk_at dksX0_lensOf_0 4 rfl rfl)
theorem dX0_lensOf_5 : decode cX0_lensOf 5 = .ok (.invokevirtual 63, 3) := dk_182 0 63 (dk_at dksX0_lensOf_0 5 rfl rfl)
theorem dX0_lensOf_8 : decode cX0_lensOf 8 = .ok (.ifCond .ne 5, 3) := dk_154 0 5 (dk_at dksX0_lensOf_0 8 rfl rfl)
theorem dX0_lensOf_11 : decode cX0_lensOf 11 = .ok (.iconst (-1), 1) := dk_2 (dk_at dksX0_lensOf_0 11 rfl rfl)
theorem dX0_lensOf_12 : decode cX0_lensOf 12 = .ok (.ireturn, 1) := dk_172 (dk_at dksX0_lensOf_0 12 rfl rfl)
theorem dX0_lensOf_13 : decode cX0_lensOf 13 = .ok (.aload_n 0, 1) := dk_42 (dk_at dksX0_lensOf_0 13 rfl rfl)
theorem dX0_lensOf_14 : decode cX0_lensOf 14 = .ok (.getfield 17, 3) := dk_180 0 17 (dk_at dksX0_lensOf_0 14 rfl rfl)
theorem dX0_lensOf_17 : decode cX0_lensOf 17 = .ok (.getfield 158, 3) := dk_180 0 158 (dk_at dksX0_lensOf_0 17 rfl rfl)
theorem dX0_lensOf_20 : decode cX0_lensOf 20 = .ok (.iload_n 1, 1) := dk_27 (dk_at dksX0_lensOf_0 20 rfl rfl)
theorem dX0_lensOf_21 : decode cX0_lensOf 21 = .ok (.invokevirtual 131, 3) := dk_182 0 131 (dk_at dksX0_lensOf_0 21 rfl rfl)
theorem dX0_lensOf_24 : decode cX0_lensOf 24 = .ok (.checkcast 161, 3) := dk_192 0 161 (dk_at dksX0_lensOf_1 0 rfl rfl)
theorem dX0_lensOf_27 : decode cX0_lensOf 27 = .ok (.astore_n 3, 1) := dk_78 (dk_at dksX0_lensOf_1 3 rfl rfl)
theorem dX0_lensOf_28 : decode cX0_lensOf 28 = .ok (.iload_n 2, 1) := dk_28 (dk_at dksX0_lensOf_1 4 rfl rfl)
theorem dX0_lensOf_29 : decode cX0_lensOf 29 = .ok (.ifCond .eq 8, 3) := dk_153 0 8 (dk_at dksX0_lensOf_1 5 rfl rfl)
theorem dX0_lensOf_32 : decode cX0_lensOf 32 = .ok (.aload_n 3, 1) := dk_45 (dk_at dksX0_lensOf_1 8 rfl rfl)
theorem dX0_lensOf_33 : decode cX0_lensOf 33 = .ok (.getfield 163, 3) := dk_180 0 163 (dk_at dksX0_lensOf_1 9 rfl rfl)
theorem dX0_lensOf_36 : decode cX0_lensOf 36 = .ok (.ireturn, 1) := dk_172 (dk_at dksX0_lensOf_1 12 rfl rfl)
theorem dX0_lensOf_37 : decode cX0_lensOf 37 = .ok (.aload_n 3, 1) := dk_45 (dk_at dksX0_lensOf_1 13 rfl rfl)
theorem dX0_lensOf_38 : decode cX0_lensOf 38 = .ok (.getfield 166, 3) := dk_180 0 166 (dk_at dksX0_lensOf_1 14 rfl rfl)
theorem dX0_lensOf_41 : decode cX0_lensOf 41 = .ok (.iconst (-1), 1) := dk_2 (dk_at dksX0_lensOf_1 17 rfl rfl)
theorem dX0_lensOf_42 : decode cX0_lensOf 42 = .ok (.if_icmp .ne 8, 3) := dk_160 0 8 (dk_at dksX0_lensOf_1 18 rfl rfl)
theorem dX0_lensOf_45 : decode cX0_lensOf 45 = .ok (.bipush (-6), 2) := dk_16 250 (dk_at dksX0_lensOf_1 21 rfl rfl)
theorem dX0_lensOf_47 : decode cX0_lensOf 47 = .ok (.goto 7, 3) := dk_167 0 7 (dk_at dksX0_lensOf_2 0 rfl rfl)
theorem dX0_lensOf_50 : decode cX0_lensOf 50 = .ok (.aload_n 3, 1) := dk_45 (dk_at dksX0_lensOf_2 3 rfl rfl)
theorem dX0_lensOf_51 : decode cX0_lensOf 51 = .ok (.getfield 166, 3) := dk_180 0 166 (dk_at dksX0_lensOf_2 4 rfl rfl)
theorem dX0_lensOf_54 : decode cX0_lensOf 54 = .ok (.ireturn, 1) := dk_172 (dk_at dksX0_lensOf_2 7 rfl rfl)
abbrev cX0_box : ByteArray := prog_1_method_23_code
def yX0_box : MethodName := ⟨RX0, "box", "(ZZ)I"⟩
def dkwX0_box_1 : List UInt8 := [180, 0, 17, 180, 0, 169, 27, 182, 0, 185, 172]
abbrev dktX0_box_1 : List UInt8 := dkwX0_box_1 ++ []
def dkwX0_box_0 : List UInt8 := [28, 153, 0, 20, 42, 180, 0, 17, 180, 0, 169, 27, 182, 0, 173, 184, 0, 179, 167, 0, 14, 42]
abbrev dktX0_box_0 : List UInt8 := dkwX0_box_0 ++ dktX0_box_1
theorem dksX0_box_0 : cX0_box.data.toList.drop 0 = dktX0_box_0 := by decide +kernel
theorem dksX0_box_1 : cX0_box.data.toList.drop 22 = dktX0_box_1 := dk_seg dksX0_box_0 22 rfl rfl
theorem dX0_box_0 : decode cX0_box 0 = .ok (.iload_n 2, 1) := dk_28 (dk_at dksX0_box_0 0 rfl rfl)
theorem dX0_box_1 : decode cX0_box 1 = .ok (.ifCond .eq 20, 3) := dk_153 0 20 (dk_at dksX0_box_0 1 rfl rfl)
theorem dX0_box_4 : decode cX0_box 4 = .ok (.aload_n 0, 1) := dk_42 (dk_at dksX0_box_0 4 rfl rfl)
theorem dX0_box_5 : decode cX0_box 5 = .ok (.getfield 17, 3) := dk_180 0 17 (dk_at dksX0_box_0 5 rfl rfl)
theorem dX0_box_8 : decode cX0_box 8 = .ok (.getfield 169, 3) := dk_180 0 169 (dk_at dksX0_box_0 8 rfl rfl)
theorem dX0_box_11 : decode cX0_box 11 = .ok (.iload_n 1, 1) := dk_27 (dk_at dksX0_box_0 11 rfl rfl)
theorem dX0_box_12 : decode cX0_box 12 = .ok (.invokevirtual 173, 3) := dk_182 0 173 (dk_at dksX0_box_0 12 rfl rfl)
theorem dX0_box_15 : decode cX0_box 15 = .ok (.invokestatic 179, 3) := dk_184 0 179 (dk_at dksX0_box_0 15 rfl rfl)
theorem dX0_box_18 : decode cX0_box 18 = .ok (.goto 14, 3) := dk_167 0 14 (dk_at dksX0_box_0 18 rfl rfl)
theorem dX0_box_21 : decode cX0_box 21 = .ok (.aload_n 0, 1) := dk_42 (dk_at dksX0_box_0 21 rfl rfl)
theorem dX0_box_22 : decode cX0_box 22 = .ok (.getfield 17, 3) := dk_180 0 17 (dk_at dksX0_box_1 0 rfl rfl)
theorem dX0_box_25 : decode cX0_box 25 = .ok (.getfield 169, 3) := dk_180 0 169 (dk_at dksX0_box_1 3 rfl rfl)
theorem dX0_box_28 : decode cX0_box 28 = .ok (.iload_n 1, 1) := dk_27 (dk_at dksX0_box_1 6 rfl rfl)
theorem dX0_box_29 : decode cX0_box 29 = .ok (.invokevirtual 185, 3) := dk_182 0 185 (dk_at dksX0_box_1 7 rfl rfl)
theorem dX0_box_32 : decode cX0_box 32 = .ok (.ireturn, 1) := dk_172 (dk_at dksX0_box_1 10 rfl rfl)
abbrev cX0_finest : ByteArray := prog_1_method_24_code
def yX0_finest : MethodName := ⟨RX0, "finest", "(Z)I"⟩
def dkwX0_finest_1 : List UInt8 := [180, 0, 193, 172]
abbrev dktX0_finest_1 : List UInt8 := dkwX0_finest_1 ++ []
def dkwX0_finest_0 : List UInt8 := [42, 180, 0, 17, 180, 0, 169, 27, 182, 0, 189, 77, 44, 199, 0, 8, 16, 250, 167, 0, 7, 44]
abbrev dktX0_finest_0 : List UInt8 := dkwX0_finest_0 ++ dktX0_finest_1
theorem dksX0_finest_0 : cX0_finest.data.toList.drop 0 = dktX0_finest_0 := by decide +kernel
theorem dksX0_finest_1 : cX0_finest.data.toList.drop 22 = dktX0_finest_1 := dk_seg dksX0_finest_0 22 rfl rfl
theorem dX0_finest_0 : decode cX0_finest 0 = .ok (.aload_n 0, 1) := dk_42 (dk_at dksX0_finest_0 0 rfl rfl)
theorem dX0_finest_1 : decode cX0_finest 1 = .ok (.getfield 17, 3) := dk_180 0 17 (dk_at dksX0_finest_0 1 rfl rfl)
theorem dX0_finest_4 : decode cX0_finest 4 = .ok (.getfield 169, 3) := dk_180 0 169 (dk_at dksX0_finest_0 4 rfl rfl)
theorem dX0_finest_7 : decode cX0_finest 7 = .ok (.iload_n 1, 1) := dk_27 (dk_at dksX0_finest_0 7 rfl rfl)
theorem dX0_finest_8 : decode cX0_finest 8 = .ok (.invokevirtual 189, 3) := dk_182 0 189 (dk_at dksX0_finest_0 8 rfl rfl)
theorem dX0_finest_11 : decode cX0_finest 11 = .ok (.astore_n 2, 1) := dk_77 (dk_at dksX0_finest_0 11 rfl rfl)
theorem dX0_finest_12 : decode cX0_finest 12 = .ok (.aload_n 2, 1) := dk_44 (dk_at dksX0_finest_0 12 rfl rfl)
theorem dX0_finest_13 : decode cX0_finest 13 = .ok (.ifnonnull 8, 3) := dk_199 0 8 (dk_at dksX0_finest_0 13 rfl rfl)
theorem dX0_finest_16 : decode cX0_finest 16 = .ok (.bipush (-6), 2) := dk_16 250 (dk_at dksX0_finest_0 16 rfl rfl)
theorem dX0_finest_18 : decode cX0_finest 18 = .ok (.goto 7, 3) := dk_167 0 7 (dk_at dksX0_finest_0 18 rfl rfl)
theorem dX0_finest_21 : decode cX0_finest 21 = .ok (.aload_n 2, 1) := dk_44 (dk_at dksX0_finest_0 21 rfl rfl)
theorem dX0_finest_22 : decode cX0_finest 22 = .ok (.getfield 193, 3) := dk_180 0 193 (dk_at dksX0_finest_1 0 rfl rfl)
theorem dX0_finest_25 : decode cX0_finest 25 = .ok (.ireturn, 1) := dk_172 (dk_at dksX0_finest_1 3 rfl rfl)
abbrev cX0_finestAgain : ByteArray := prog_1_method_25_code
def yX0_finestAgain : MethodName := ⟨RX0, "finestAgain", "(Z)I"⟩
def dkwX0_finestAgain_4 : List UInt8 := [132, 2, 255, 167, 255, 165, 16, 250, 172]
abbrev dktX0_finestAgain_4 : List UInt8 := dkwX0_finestAgain_4 ++ []
def dkwX0_finestAgain_3 : List UInt8 := [180, 0, 193, 29, 162, 0, 9, 25, 5, 180, 0, 193, 62, 167, 255, 204, 29, 16, 250, 159, 0, 5, 29, 172]
abbrev dktX0_finestAgain_3 : List UInt8 := dkwX0_finestAgain_3 ++ dktX0_finestAgain_4
def dkwX0_finestAgain_2 : List UInt8 := [192, 0, 194, 58, 5, 25, 5, 180, 0, 214, 28, 160, 0, 24, 29, 16, 250, 159, 0, 12, 25, 5]
abbrev dktX0_finestAgain_2 : List UInt8 := dkwX0_finestAgain_2 ++ dktX0_finestAgain_3
def dkwX0_finestAgain_1 : List UInt8 := [185, 0, 198, 1, 0, 58, 4, 25, 4, 185, 0, 204, 1, 0, 153, 0, 48, 25, 4, 185, 0, 210, 1, 0]
abbrev dktX0_finestAgain_1 : List UInt8 := dkwX0_finestAgain_1 ++ dktX0_finestAgain_2
def dkwX0_finestAgain_0 : List UInt8 := [16, 9, 61, 28, 158, 0, 93, 16, 250, 62, 42, 180, 0, 17, 180, 0, 169, 27, 182, 0, 173]
abbrev dktX0_finestAgain_0 : List UInt8 := dkwX0_finestAgain_0 ++ dktX0_finestAgain_1
theorem dksX0_finestAgain_0 : cX0_finestAgain.data.toList.drop 0 = dktX0_finestAgain_0 := by decide +kernel
theorem dksX0_finestAgain_1 : cX0_finestAgain.data.toList.drop 21 = dktX0_finestAgain_1 := dk_seg dksX0_finestAgain_0 21 rfl rfl
theorem dksX0_finestAgain_2 : cX0_finestAgain.data.toList.drop 45 = dktX0_finestAgain_2 := dk_seg dksX0_finestAgain_1 24 rfl rfl
theorem dksX0_finestAgain_3 : cX0_finestAgain.data.toList.drop 67 = dktX0_finestAgain_3 := dk_seg dksX0_finestAgain_2 22 rfl rfl
theorem dksX0_finestAgain_4 : cX0_finestAgain.data.toList.drop 91 = dktX0_finestAgain_4 := dk_seg dksX0_finestAgain_3 24 rfl rfl
theorem dX0_finestAgain_0 : decode cX0_finestAgain 0 = .ok (.bipush 9, 2) := dk_16 9 (dk_at dksX0_finestAgain_0 0 rfl rfl)
theorem dX0_finestAgain_2 : decode cX0_finestAgain 2 = .ok (.istore_n 2, 1) := dk_61 (dk_at dksX0_finestAgain_0 2 rfl rfl)
theorem dX0_finestAgain_3 : decode cX0_finestAgain 3 = .ok (.iload_n 2, 1) := dk_28 (dk_at dksX0_finestAgain_0 3 rfl rfl)
theorem dX0_finestAgain_4 : decode cX0_finestAgain 4 = .ok (.ifCond .le 93, 3) := dk_158 0 93 (dk_at dksX0_finestAgain_0 4 rfl rfl)
theorem dX0_finestAgain_7 : decode cX0_finestAgain 7 = .ok (.bipush (-6), 2) := dk_16 250 (dk_at dksX0_finestAgain_0 7 rfl rfl)
theorem dX0_finestAgain_9 : decode cX0_finestAgain 9 = .ok (.istore_n 3, 1) := dk_62 (dk_at dksX0_finestAgain_0 9 rfl rfl)
theorem dX0_finestAgain_10 : decode cX0_finestAgain 10 = .ok (.aload_n 0, 1) := dk_42 (dk_at dksX0_finestAgain_0 10 rfl rfl)
theorem dX0_finestAgain_11 : decode cX0_finestAgain 11 = .ok (.getfield 17, 3) := dk_180 0 17 (dk_at dksX0_finestAgain_0 11 rfl rfl)
theorem dX0_finestAgain_14 : decode cX0_finestAgain 14 = .ok (.getfield 169, 3) := dk_180 0 169 (dk_at dksX0_finestAgain_0 14 rfl rfl)
theorem dX0_finestAgain_17 : decode cX0_finestAgain 17 = .ok (.iload_n 1, 1) := dk_27 (dk_at dksX0_finestAgain_0 17 rfl rfl)
theorem dX0_finestAgain_18 : decode cX0_finestAgain 18 = .ok (.invokevirtual 173, 3) := dk_182 0 173 (dk_at dksX0_finestAgain_0 18 rfl rfl)
theorem dX0_finestAgain_21 : decode cX0_finestAgain 21 = .ok (.invokeinterface 198 1, 5) := by decide +kernel
theorem dX0_finestAgain_26 : decode cX0_finestAgain 26 = .ok (.astore 4, 2) := dk_58 4 (dk_at dksX0_finestAgain_1 5 rfl rfl)
theorem dX0_finestAgain_28 : decode cX0_finestAgain 28 = .ok (.aload 4, 2) := dk_25 4 (dk_at dksX0_finestAgain_1 7 rfl rfl)
theorem dX0_finestAgain_30 : decode cX0_finestAgain 30 = .ok (.invokeinterface 204 1, 5) := by decide +kernel
theorem dX0_finestAgain_35 : decode cX0_finestAgain 35 = .ok (.ifCond .eq 48, 3) := dk_153 0 48 (dk_at dksX0_finestAgain_1 14 rfl rfl)
theorem dX0_finestAgain_38 : decode cX0_finestAgain 38 = .ok (.aload 4, 2) := dk_25 4 (dk_at dksX0_finestAgain_1 17 rfl rfl)
theorem dX0_finestAgain_40 : decode cX0_finestAgain 40 = .ok (.invokeinterface 210 1, 5) := by decide +kernel
theorem dX0_finestAgain_45 : decode cX0_finestAgain 45 = .ok (.checkcast 194, 3) := dk_192 0 194 (dk_at dksX0_finestAgain_2 0 rfl rfl)
theorem dX0_finestAgain_48 : decode cX0_finestAgain 48 = .ok (.astore 5, 2) := dk_58 5 (dk_at dksX0_finestAgain_2 3 rfl rfl)
theorem dX0_finestAgain_50 : decode cX0_finestAgain 50 = .ok (.aload 5, 2) := dk_25 5 (dk_at dksX0_finestAgain_2 5 rfl rfl)
theorem dX0_finestAgain_52 : decode cX0_finestAgain 52 = .ok (.getfield 214, 3) := dk_180 0 214 (dk_at dksX0_finestAgain_2 7 rfl rfl)
theorem dX0_finestAgain_55 : decode cX0_finestAgain 55 = .ok (.iload_n 2, 1) := dk_28 (dk_at dksX0_finestAgain_2 10 rfl rfl)
theorem dX0_finestAgain_56 : decode cX0_finestAgain 56 = .ok (.if_icmp .ne 24, 3) := dk_160 0 24 (dk_at dksX0_finestAgain_2 11 rfl rfl)
theorem dX0_finestAgain_59 : decode cX0_finestAgain 59 = .ok (.iload_n 3, 1) := dk_29 (dk_at dksX0_finestAgain_2 14 rfl rfl)
theorem dX0_finestAgain_60 : decode cX0_finestAgain 60 = .ok (.bipush (-6), 2) := dk_16 250 (dk_at dksX0_finestAgain_2 15 rfl rfl)
theorem dX0_finestAgain_62 : decode cX0_finestAgain 62 = .ok (.if_icmp .eq 12, 3) := dk_159 0 12 (dk_at dksX0_finestAgain_2 17 rfl rfl)
theorem dX0_finestAgain_65 : decode cX0_finestAgain 65 = .ok (.aload 5, 2) := dk_25 5 (dk_at dksX0_finestAgain_2 20 rfl rfl)
theorem dX0_finestAgain_67 : decode cX0_finestAgain 67 = .ok (.getfield 193, 3) := dk_180 0 193 (dk_at dksX0_finestAgain_3 0 rfl rfl)
theorem dX0_finestAgain_70 : decode cX0_finestAgain 70 = .ok (.iload_n 3, 1) := dk_29 (dk_at dksX0_finestAgain_3 3 rfl rfl)
theorem dX0_finestAgain_71 : decode cX0_finestAgain 71 = .ok (.if_icmp .ge 9, 3) := dk_162 0 9 (dk_at dksX0_finestAgain_3 4 rfl rfl)
theorem dX0_finestAgain_74 : decode cX0_finestAgain 74 = .ok (.aload 5, 2) := dk_25 5 (dk_at dksX0_finestAgain_3 7 rfl rfl)
theorem dX0_finestAgain_76 : decode cX0_finestAgain 76 = .ok (.getfield 193, 3) := dk_180 0 193 (dk_at dksX0_finestAgain_3 9 rfl rfl)
theorem dX0_finestAgain_79 : decode cX0_finestAgain 79 = .ok (.istore_n 3, 1) := dk_62 (dk_at dksX0_finestAgain_3 12 rfl rfl)
theorem dX0_finestAgain_80 : decode cX0_finestAgain 80 = .ok (.goto (-52), 3) := dk_167 255 204 (dk_at dksX0_finestAgain_3 13 rfl rfl)
theorem dX0_finestAgain_83 : decode cX0_finestAgain 83 = .ok (.iload_n 3, 1) := dk_29 (dk_at dksX0_finestAgain_3 16 rfl rfl)
theorem dX0_finestAgain_84 : decode cX0_finestAgain 84 = .ok (.bipush (-6), 2) := dk_16 250 (dk_at dksX0_finestAgain_3 17 rfl rfl)
theorem dX0_finestAgain_86 : decode cX0_finestAgain 86 = .ok (.if_icmp .eq 5, 3) := dk_159 0 5 (dk_at dksX0_finestAgain_3 19 rfl rfl)
theorem dX0_finestAgain_89 : decode cX0_finestAgain 89 = .ok (.iload_n 3, 1) := dk_29 (dk_at dksX0_finestAgain_3 22 rfl rfl)
theorem dX0_finestAgain_90 : decode cX0_finestAgain 90 = .ok (.ireturn, 1) := dk_172 (dk_at dksX0_finestAgain_3 23 rfl rfl)
theorem dX0_finestAgain_91 : decode cX0_finestAgain 91 = .ok (.iinc 2 (-1), 3) := dk_132 2 255 (dk_at dksX0_finestAgain_4 0 rfl rfl)
theorem dX0_finestAgain_94 : decode cX0_finestAgain 94 = .ok (.goto (-91), 3) := dk_167 255 165 (dk_at dksX0_finestAgain_4 3 rfl rfl)
theorem dX0_finestAgain_97 : decode cX0_finestAgain 97 = .ok (.bipush (-6), 2) := dk_16 250 (dk_at dksX0_finestAgain_4 6 rfl rfl)
theorem dX0_finestAgain_99 : decode cX0_finestAgain 99 = .ok (.ireturn, 1) := dk_172 (dk_at dksX0_finestAgain_4 8 rfl rfl)
abbrev cX0_stringOf : ByteArray := prog_1_method_26_code
def yX0_stringOf : MethodName := ⟨RX0, "stringOf", "(II)I"⟩
def dkwX0_stringOf_4 : List UInt8 := [172, 45, 182, 0, 236, 184, 0, 239, 172, 45, 182, 0, 242, 172, 16, 254, 172]
abbrev dktX0_stringOf_4 : List UInt8 := dkwX0_stringOf_4 ++ []
def dkwX0_stringOf_3 : List UInt8 := [45, 180, 0, 222, 172, 45, 180, 0, 225, 172, 45, 182, 0, 228, 172, 45, 180, 0, 231, 172, 45, 182, 0, 234]
abbrev dktX0_stringOf_3 : List UInt8 := dkwX0_stringOf_3 ++ dktX0_stringOf_4
def dkwX0_stringOf_2 : List UInt8 := [170, 0, 0, 0, 0, 0, 81, 0, 0, 0, 0, 0, 0, 0, 6, 0, 0, 0, 43, 0, 0, 0, 48, 0, 0, 0, 53, 0, 0, 0, 58, 0, 0, 0, 63, 0, 0, 0, 68, 0, 0, 0, 76]
abbrev dktX0_stringOf_2 : List UInt8 := dkwX0_stringOf_2 ++ dktX0_stringOf_3
def dkwX0_stringOf_1 : List UInt8 := [192, 0, 220, 78, 28]
abbrev dktX0_stringOf_1 : List UInt8 := dkwX0_stringOf_1 ++ dktX0_stringOf_2
def dkwX0_stringOf_0 : List UInt8 := [42, 180, 0, 17, 27, 182, 0, 93, 154, 0, 5, 2, 172, 42, 180, 0, 17, 180, 0, 217, 27, 182, 0, 131]
abbrev dktX0_stringOf_0 : List UInt8 := dkwX0_stringOf_0 ++ dktX0_stringOf_1
theorem dksX0_stringOf_0 : cX0_stringOf.data.toList.drop 0 = dktX0_stringOf_0 := by decide +kernel
theorem dksX0_stringOf_1 : cX0_stringOf.data.toList.drop 24 = dktX0_stringOf_1 := dk_seg dksX0_stringOf_0 24 rfl rfl
theorem dksX0_stringOf_2 : cX0_stringOf.data.toList.drop 29 = dktX0_stringOf_2 := dk_seg dksX0_stringOf_1 5 rfl rfl
theorem dksX0_stringOf_3 : cX0_stringOf.data.toList.drop 72 = dktX0_stringOf_3 := dk_seg dksX0_stringOf_2 43 rfl rfl
theorem dksX0_stringOf_4 : cX0_stringOf.data.toList.drop 96 = dktX0_stringOf_4 := dk_seg dksX0_stringOf_3 24 rfl rfl
theorem dX0_stringOf_0 : decode cX0_stringOf 0 = .ok (.aload_n 0, 1) := dk_42 (dk_at dksX0_stringOf_0 0 rfl rfl)
theorem dX0_stringOf_1 : decode cX0_stringOf 1 = .ok (.getfield 17, 3) := dk_180 0 17 (dk_at dksX0_stringOf_0 1 rfl rfl)
theorem dX0_stringOf_4 : decode cX0_stringOf 4 = .ok (.iload_n 1, 1) := dk_27 (dk_at dksX0_stringOf_0 4 rfl rfl)
theorem dX0_stringOf_5 : decode cX0_stringOf 5 = .ok (.invokevirtual 93, 3) := dk_182 0 93 (dk_at dksX0_stringOf_0 5 rfl rfl)
theorem dX0_stringOf_8 : decode cX0_stringOf 8 = .ok (.ifCond .ne 5, 3) := dk_154 0 5 (dk_at dksX0_stringOf_0 8 rfl rfl)
theorem dX0_stringOf_11 : decode cX0_stringOf 11 = .ok (.iconst (-1), 1) := dk_2 (dk_at dksX0_stringOf_0 11 rfl rfl)
theorem dX0_stringOf_12 : decode cX0_stringOf 12 = .ok (.ireturn, 1) := dk_172 (dk_at dksX0_stringOf_0 12 rfl rfl)
theorem dX0_stringOf_13 : decode cX0_stringOf 13 = .ok (.aload_n 0, 1) := dk_42 (dk_at dksX0_stringOf_0 13 rfl rfl)
theorem dX0_stringOf_14 : decode cX0_stringOf 14 = .ok (.getfield 17, 3) := dk_180 0 17 (dk_at dksX0_stringOf_0 14 rfl rfl)
theorem dX0_stringOf_17 : decode cX0_stringOf 17 = .ok (.getfield 217, 3) := dk_180 0 217 (dk_at dksX0_stringOf_0 17 rfl rfl)
theorem dX0_stringOf_20 : decode cX0_stringOf 20 = .ok (.iload_n 1, 1) := dk_27 (dk_at dksX0_stringOf_0 20 rfl rfl)
theorem dX0_stringOf_21 : decode cX0_stringOf 21 = .ok (.invokevirtual 131, 3) := dk_182 0 131 (dk_at dksX0_stringOf_0 21 rfl rfl)
theorem dX0_stringOf_24 : decode cX0_stringOf 24 = .ok (.checkcast 220, 3) := dk_192 0 220 (dk_at dksX0_stringOf_1 0 rfl rfl)
theorem dX0_stringOf_27 : decode cX0_stringOf 27 = .ok (.astore_n 3, 1) := dk_78 (dk_at dksX0_stringOf_1 3 rfl rfl)
theorem dX0_stringOf_28 : decode cX0_stringOf 28 = .ok (.iload_n 2, 1) := dk_28 (dk_at dksX0_stringOf_1 4 rfl rfl)
theorem dX0_stringOf_29 : decode cX0_stringOf 29 = .ok (.tableswitch 81 0 6 #[43, 48, 53, 58, 63, 68, 76], 43) := by decide +kernel
theorem dX0_stringOf_72 : decode cX0_stringOf 72 = .ok (.aload_n 3, 1) := dk_45 (dk_at dksX0_stringOf_3 0 rfl rfl)
theorem dX0_stringOf_73 : decode cX0_stringOf 73 = .ok (.getfield 222, 3) := dk_180 0 222 (dk_at dksX0_stringOf_3 1 rfl rfl)
theorem dX0_stringOf_76 : decode cX0_stringOf 76 = .ok (.ireturn, 1) := dk_172 (dk_at dksX0_stringOf_3 4 rfl rfl)
theorem dX0_stringOf_77 : decode cX0_stringOf 77 = .ok (.aload_n 3, 1) := dk_45 (dk_at dksX0_stringOf_3 5 rfl rfl)
theorem dX0_stringOf_78 : decode cX0_stringOf 78 = .ok (.getfield 225, 3) := dk_180 0 225 (dk_at dksX0_stringOf_3 6 rfl rfl)
theorem dX0_stringOf_81 : decode cX0_stringOf 81 = .ok (.ireturn, 1) := dk_172 (dk_at dksX0_stringOf_3 9 rfl rfl)
theorem dX0_stringOf_82 : decode cX0_stringOf 82 = .ok (.aload_n 3, 1) := dk_45 (dk_at dksX0_stringOf_3 10 rfl rfl)
theorem dX0_stringOf_83 : decode cX0_stringOf 83 = .ok (.invokevirtual 228, 3) := dk_182 0 228 (dk_at dksX0_stringOf_3 11 rfl rfl)
theorem dX0_stringOf_86 : decode cX0_stringOf 86 = .ok (.ireturn, 1) := dk_172 (dk_at dksX0_stringOf_3 14 rfl rfl)
theorem dX0_stringOf_87 : decode cX0_stringOf 87 = .ok (.aload_n 3, 1) := dk_45 (dk_at dksX0_stringOf_3 15 rfl rfl)
theorem dX0_stringOf_88 : decode cX0_stringOf 88 = .ok (.getfield 231, 3) := dk_180 0 231 (dk_at dksX0_stringOf_3 16 rfl rfl)
theorem dX0_stringOf_91 : decode cX0_stringOf 91 = .ok (.ireturn, 1) := dk_172 (dk_at dksX0_stringOf_3 19 rfl rfl)
theorem dX0_stringOf_92 : decode cX0_stringOf 92 = .ok (.aload_n 3, 1) := dk_45 (dk_at dksX0_stringOf_3 20 rfl rfl)
theorem dX0_stringOf_93 : decode cX0_stringOf 93 = .ok (.invokevirtual 234, 3) := dk_182 0 234 (dk_at dksX0_stringOf_3 21 rfl rfl)
theorem dX0_stringOf_96 : decode cX0_stringOf 96 = .ok (.ireturn, 1) := dk_172 (dk_at dksX0_stringOf_4 0 rfl rfl)
theorem dX0_stringOf_97 : decode cX0_stringOf 97 = .ok (.aload_n 3, 1) := dk_45 (dk_at dksX0_stringOf_4 1 rfl rfl)
theorem dX0_stringOf_98 : decode cX0_stringOf 98 = .ok (.invokevirtual 236, 3) := dk_182 0 236 (dk_at dksX0_stringOf_4 2 rfl rfl)
theorem dX0_stringOf_101 : decode cX0_stringOf 101 = .ok (.invokestatic 239, 3) := dk_184 0 239 (dk_at dksX0_stringOf_4 5 rfl rfl)
theorem dX0_stringOf_104 : decode cX0_stringOf 104 = .ok (.ireturn, 1) := dk_172 (dk_at dksX0_stringOf_4 8 rfl rfl)
theorem dX0_stringOf_105 : decode cX0_stringOf 105 = .ok (.aload_n 3, 1) := dk_45 (dk_at dksX0_stringOf_4 9 rfl rfl)
theorem dX0_stringOf_106 : decode cX0_stringOf 106 = .ok (.invokevirtual 242, 3) := dk_182 0 242 (dk_at dksX0_stringOf_4 10 rfl rfl)
theorem dX0_stringOf_109 : decode cX0_stringOf 109 = .ok (.ireturn, 1) := dk_172 (dk_at dksX0_stringOf_4 13 rfl rfl)
theorem dX0_stringOf_110 : decode cX0_stringOf 110 = .ok (.bipush (-2), 2) := dk_16 254 (dk_at dksX0_stringOf_4 14 rfl rfl)
theorem dX0_stringOf_112 : decode cX0_stringOf 112 = .ok (.ireturn, 1) := dk_172 (dk_at dksX0_stringOf_4 16 rfl rfl)
abbrev cX0_bead : ByteArray := prog_1_method_27_code
def yX0_bead : MethodName := ⟨RX0, "bead", "(IIZ)I"⟩
def dkwX0_bead_4 : List UInt8 := [172]
abbrev dktX0_bead_4 : List UInt8 := dkwX0_bead_4 ++ []
def dkwX0_bead_3 : List UInt8 := [153, 0, 11, 25, 6, 180, 0, 214, 167, 0, 8, 25, 6, 180, 0, 193, 172, 132, 4, 1, 167, 255, 207, 2]
abbrev dktX0_bead_3 : List UInt8 := dkwX0_bead_3 ++ dktX0_bead_4
def dkwX0_bead_2 : List UInt8 := [153, 0, 45, 25, 5, 185, 0, 210, 1, 0, 192, 0, 194, 58, 6, 21, 4, 28, 160, 0, 21, 29]
abbrev dktX0_bead_2 : List UInt8 := dkwX0_bead_2 ++ dktX0_bead_3
def dkwX0_bead_1 : List UInt8 := [180, 0, 217, 27, 182, 0, 131, 192, 0, 220, 182, 0, 245, 58, 5, 25, 5, 185, 0, 204, 1, 0]
abbrev dktX0_bead_1 : List UInt8 := dkwX0_bead_1 ++ dktX0_bead_2
def dkwX0_bead_0 : List UInt8 := [42, 180, 0, 17, 27, 182, 0, 93, 153, 0, 7, 28, 156, 0, 5, 2, 172, 3, 54, 4, 42, 180, 0, 17]
abbrev dktX0_bead_0 : List UInt8 := dkwX0_bead_0 ++ dktX0_bead_1
theorem dksX0_bead_0 : cX0_bead.data.toList.drop 0 = dktX0_bead_0 := by decide +kernel
theorem dksX0_bead_1 : cX0_bead.data.toList.drop 24 = dktX0_bead_1 := dk_seg dksX0_bead_0 24 rfl rfl
theorem dksX0_bead_2 : cX0_bead.data.toList.drop 46 = dktX0_bead_2 := dk_seg dksX0_bead_1 22 rfl rfl
theorem dksX0_bead_3 : cX0_bead.data.toList.drop 68 = dktX0_bead_3 := dk_seg dksX0_bead_2 22 rfl rfl
theorem dksX0_bead_4 : cX0_bead.data.toList.drop 92 = dktX0_bead_4 := dk_seg dksX0_bead_3 24 rfl rfl
theorem dX0_bead_0 : decode cX0_bead 0 = .ok (.aload_n 0, 1) := dk_42 (dk_at dksX0_bead_0 0 rfl rfl)
theorem dX0_bead_1 : decode cX0_bead 1 = .ok (.getfield 17, 3) := dk_180 0 17 (dk_at dksX0_bead_0 1 rfl rfl)
theorem dX0_bead_4 : decode cX0_bead 4 = .ok (.iload_n 1, 1) := dk_27 (dk_at dksX0_bead_0 4 rfl rfl)
theorem dX0_bead_5 : decode cX0_bead 5 = .ok (.invokevirtual 93, 3) := dk_182 0 93 (dk_at dksX0_bead_0 5 rfl rfl)
theorem dX0_bead_8 : decode cX0_bead 8 = .ok (.ifCond .eq 7, 3) := dk_153 0 7 (dk_at dksX0_bead_0 8 rfl rfl)
theorem dX0_bead_11 : decode cX0_bead 11 = .ok (.iload_n 2, 1) := dk_28 (dk_at dksX0_bead_0 11 rfl rfl)
theorem dX0_bead_12 : decode cX0_bead 12 = .ok (.ifCond .ge 5, 3) := dk_156 0 5 (dk_at dksX0_bead_0 12 rfl rfl)
theorem dX0_bead_15 : decode cX0_bead 15 = .ok (.iconst (-1), 1) := dk_2 (dk_at dksX0_bead_0 15 rfl rfl)
theorem dX0_bead_16 : decode cX0_bead 16 = .ok (.ireturn, 1) := dk_172 (dk_at dksX0_bead_0 16 rfl rfl)
theorem dX0_bead_17 : decode cX0_bead 17 = .ok (.iconst 0, 1) := dk_3 (dk_at dksX0_bead_0 17 rfl rfl)
theorem dX0_bead_18 : decode cX0_bead 18 = .ok (.istore 4, 2) := dk_54 4 (dk_at dksX0_bead_0 18 rfl rfl)
theorem dX0_bead_20 : decode cX0_bead 20 = .ok (.aload_n 0, 1) := dk_42 (dk_at dksX0_bead_0 20 rfl rfl)
theorem dX0_bead_21 : decode cX0_bead 21 = .ok (.getfield 17, 3) := dk_180 0 17 (dk_at dksX0_bead_0 21 rfl rfl)
theorem dX0_bead_24 : decode cX0_bead 24 = .ok (.getfield 217, 3) := dk_180 0 217 (dk_at dksX0_bead_1 0 rfl rfl)
theorem dX0_bead_27 : decode cX0_bead 27 = .ok (.iload_n 1, 1) := dk_27 (dk_at dksX0_bead_1 3 rfl rfl)
theorem dX0_bead_28 : decode cX0_bead 28 = .ok (.invokevirtual 131, 3) := dk_182 0 131 (dk_at dksX0_bead_1 4 rfl rfl)
theorem dX0_bead_31 : decode cX0_bead 31 = .ok (.checkcast 220, 3) := dk_192 0 220 (dk_at dksX0_bead_1 7 rfl rfl)
theorem dX0_bead_34 : decode cX0_bead 34 = .ok (.invokevirtual 245, 3) := dk_182 0 245 (dk_at dksX0_bead_1 10 rfl rfl)
theorem dX0_bead_37 : decode cX0_bead 37 = .ok (.astore 5, 2) := dk_58 5 (dk_at dksX0_bead_1 13 rfl rfl)
theorem dX0_bead_39 : decode cX0_bead 39 = .ok (.aload 5, 2) := dk_25 5 (dk_at dksX0_bead_1 15 rfl rfl)
theorem dX0_bead_41 : decode cX0_bead 41 = .ok (.invokeinterface 204 1, 5) := by decide +kernel
theorem dX0_bead_46 : decode cX0_bead 46 = .ok (.ifCond .eq 45, 3) := dk_153 0 45 (dk_at dksX0_bead_2 0 rfl rfl)
theorem dX0_bead_49 : decode cX0_bead 49 = .ok (.aload 5, 2) := dk_25 5 (dk_at dksX0_bead_2 3 rfl rfl)
theorem dX0_bead_51 : decode cX0_bead 51 = .ok (.invokeinterface 210 1, 5) := by decide +kernel
theorem dX0_bead_56 : decode cX0_bead 56 = .ok (.checkcast 194, 3) := dk_192 0 194 (dk_at dksX0_bead_2 10 rfl rfl)
theorem dX0_bead_59 : decode cX0_bead 59 = .ok (.astore 6, 2) := dk_58 6 (dk_at dksX0_bead_2 13 rfl rfl)
theorem dX0_bead_61 : decode cX0_bead 61 = .ok (.iload 4, 2) := dk_21 4 (dk_at dksX0_bead_2 15 rfl rfl)
theorem dX0_bead_63 : decode cX0_bead 63 = .ok (.iload_n 2, 1) := dk_28 (dk_at dksX0_bead_2 17 rfl rfl)
theorem dX0_bead_64 : decode cX0_bead 64 = .ok (.if_icmp .ne 21, 3) := dk_160 0 21 (dk_at dksX0_bead_2 18 rfl rfl)
theorem dX0_bead_67 : decode cX0_bead 67 = .ok (.iload_n 3, 1) := dk_29 (dk_at dksX0_bead_2 21 rfl rfl)
theorem dX0_bead_68 : decode cX0_bead 68 = .ok (.ifCond .eq 11, 3) := dk_153 0 11 (dk_at dksX0_bead_3 0 rfl rfl)
theorem dX0_bead_71 : decode cX0_bead 71 = .ok (.aload 6, 2) := dk_25 6 (dk_at dksX0_bead_3 3 rfl rfl)
theorem dX0_bead_73 : decode cX0_bead 73 = .ok (.getfield 214, 3) := dk_180 0 214 (dk_at dksX0_bead_3 5 rfl rfl)
theorem dX0_bead_76 : decode cX0_bead 76 = .ok (.goto 8, 3) := dk_167 0 8 (dk_at dksX0_bead_3 8 rfl rfl)
theorem dX0_bead_79 : decode cX0_bead 79 = .ok (.aload 6, 2) := dk_25 6 (dk_at dksX0_bead_3 11 rfl rfl)
theorem dX0_bead_81 : decode cX0_bead 81 = .ok (.getfield 193, 3) := dk_180 0 193 (dk_at dksX0_bead_3 13 rfl rfl)
theorem dX0_bead_84 : decode cX0_bead 84 = .ok (.ireturn, 1) := dk_172 (dk_at dksX0_bead_3 16 rfl rfl)
theorem dX0_bead_85 : decode cX0_bead 85 = .ok (.iinc 4 1, 3) := dk_132 4 1 (dk_at dksX0_bead_3 17 rfl rfl)
theorem dX0_bead_88 : decode cX0_bead 88 = .ok (.goto (-49), 3) := dk_167 255 207 (dk_at dksX0_bead_3 20 rfl rfl)
theorem dX0_bead_91 : decode cX0_bead 91 = .ok (.iconst (-1), 1) := dk_2 (dk_at dksX0_bead_3 23 rfl rfl)
theorem dX0_bead_92 : decode cX0_bead 92 = .ok (.ireturn, 1) := dk_172 (dk_at dksX0_bead_4 0 rfl rfl)
abbrev cX0_pilgrimOf : ByteArray := prog_1_method_28_code
def yX0_pilgrimOf : MethodName := ⟨RX0, "pilgrimOf", "(II)I"⟩
def dkwX0_pilgrimOf_4 : List UInt8 := [180, 1, 2, 172, 42, 180, 0, 17, 45, 182, 1, 5, 172, 16, 254, 172]
abbrev dktX0_pilgrimOf_4 : List UInt8 := dkwX0_pilgrimOf_4 ++ []
def dkwX0_pilgrimOf_3 : List UInt8 := [45, 180, 0, 252, 42, 180, 0, 17, 180, 0, 255, 100, 172, 45, 180, 1, 0, 172, 45, 180, 1, 1, 172, 45]
abbrev dktX0_pilgrimOf_3 : List UInt8 := dkwX0_pilgrimOf_3 ++ dktX0_pilgrimOf_4
def dkwX0_pilgrimOf_2 : List UInt8 := [170, 0, 0, 0, 0, 71, 0, 0, 0, 0, 0, 0, 0, 4, 0, 0, 0, 34, 0, 0, 0, 47, 0, 0, 0, 52, 0, 0, 0, 57, 0, 0, 0, 62]
abbrev dktX0_pilgrimOf_2 : List UInt8 := dkwX0_pilgrimOf_2 ++ dktX0_pilgrimOf_3
def dkwX0_pilgrimOf_1 : List UInt8 := [180, 0, 17, 180, 0, 246, 27, 182, 0, 131, 192, 0, 250, 78, 28]
abbrev dktX0_pilgrimOf_1 : List UInt8 := dkwX0_pilgrimOf_1 ++ dktX0_pilgrimOf_2
def dkwX0_pilgrimOf_0 : List UInt8 := [27, 3, 42, 180, 0, 17, 180, 0, 246, 182, 0, 249, 4, 100, 184, 0, 42, 154, 0, 5, 2, 172, 42]
abbrev dktX0_pilgrimOf_0 : List UInt8 := dkwX0_pilgrimOf_0 ++ dktX0_pilgrimOf_1
theorem dksX0_pilgrimOf_0 : cX0_pilgrimOf.data.toList.drop 0 = dktX0_pilgrimOf_0 := by decide +kernel
theorem dksX0_pilgrimOf_1 : cX0_pilgrimOf.data.toList.drop 23 = dktX0_pilgrimOf_1 := dk_seg dksX0_pilgrimOf_0 23 rfl rfl
theorem dksX0_pilgrimOf_2 : cX0_pilgrimOf.data.toList.drop 38 = dktX0_pilgrimOf_2 := dk_seg dksX0_pilgrimOf_1 15 rfl rfl
theorem dksX0_pilgrimOf_3 : cX0_pilgrimOf.data.toList.drop 72 = dktX0_pilgrimOf_3 := dk_seg dksX0_pilgrimOf_2 34 rfl rfl
theorem dksX0_pilgrimOf_4 : cX0_pilgrimOf.data.toList.drop 96 = dktX0_pilgrimOf_4 := dk_seg dksX0_pilgrimOf_3 24 rfl rfl
theorem dX0_pilgrimOf_0 : decode cX0_pilgrimOf 0 = .ok (.iload_n 1, 1) := dk_27 (dk_at dksX0_pilgrimOf_0 0 rfl rfl)
theorem dX0_pilgrimOf_1 : decode cX0_pilgrimOf 1 = .ok (.iconst 0, 1) := dk_3 (dk_at dksX0_pilgrimOf_0 1 rfl rfl)
theorem dX0_pilgrimOf_2 : decode cX0_pilgrimOf 2 = .ok (.aload_n 0, 1) := dk_42 (dk_at dksX0_pilgrimOf_0 2 rfl rfl)
theorem dX0_pilgrimOf_3 : decode cX0_pilgrimOf 3 = .ok (.getfield 17, 3) := dk_180 0 17 (dk_at dksX0_pilgrimOf_0 3 rfl rfl)
theorem dX0_pilgrimOf_6 : decode cX0_pilgrimOf 6 = .ok (.getfield 246, 3) := dk_180 0 246 (dk_at dksX0_pilgrimOf_0 6 rfl rfl)
theorem dX0_pilgrimOf_9 : decode cX0_pilgrimOf 9 = .ok (.invokevirtual 249, 3) := dk_182 0 249 (dk_at dksX0_pilgrimOf_0 9 rfl rfl)
theorem dX0_pilgrimOf_12 : decode cX0_pilgrimOf 12 = .ok (.iconst 1, 1) := dk_4 (dk_at dksX0_pilgrimOf_0 12 rfl rfl)
theorem dX0_pilgrimOf_13 : decode cX0_pilgrimOf 13 = .ok (.isub, 1) := dk_100 (dk_at dksX0_pilgrimOf_0 13 rfl rfl)
theorem dX0_pilgrimOf_14 : decode cX0_pilgrimOf 14 = .ok (.invokestatic 42, 3) := dk_184 0 42 (dk_at dksX0_pilgrimOf_0 14 rfl rfl)
theorem dX0_pilgrimOf_17 : decode cX0_pilgrimOf 17 = .ok (.ifCond .ne 5, 3) := dk_154 0 5 (dk_at dksX0_pilgrimOf_0 17 rfl rfl)
theorem dX0_pilgrimOf_20 : decode cX0_pilgrimOf 20 = .ok (.iconst (-1), 1) := dk_2 (dk_at dksX0_pilgrimOf_0 20 rfl rfl)
theorem dX0_pilgrimOf_21 : decode cX0_pilgrimOf 21 = .ok (.ireturn, 1) := dk_172 (dk_at dksX0_pilgrimOf_0 21 rfl rfl)
theorem dX0_pilgrimOf_22 : decode cX0_pilgrimOf 22 = .ok (.aload_n 0, 1) := dk_42 (dk_at dksX0_pilgrimOf_0 22 rfl rfl)
theorem dX0_pilgrimOf_23 : decode cX0_pilgrimOf 23 = .ok (.getfield 17, 3) := dk_180 0 17 (dk_at dksX0_pilgrimOf_1 0 rfl rfl)
theorem dX0_pilgrimOf_26 : decode cX0_pilgrimOf 26 = .ok (.getfield 246, 3) := dk_180 0 246 (dk_at dksX0_pilgrimOf_1 3 rfl rfl)
theorem dX0_pilgrimOf_29 : decode cX0_pilgrimOf 29 = .ok (.iload_n 1, 1) := dk_27 (dk_at dksX0_pilgrimOf_1 6 rfl rfl)
theorem dX0_pilgrimOf_30 : decode cX0_pilgrimOf 30 = .ok (.invokevirtual 131, 3) := dk_182 0 131 (dk_at dksX0_pilgrimOf_1 7 rfl rfl)
theorem dX0_pilgrimOf_33 : decode cX0_pilgrimOf 33 = .ok (.checkcast 250, 3) := dk_192 0 250 (dk_at dksX0_pilgrimOf_1 10 rfl rfl)
theorem dX0_pilgrimOf_36 : decode cX0_pilgrimOf 36 = .ok (.astore_n 3, 1) := dk_78 (dk_at dksX0_pilgrimOf_1 13 rfl rfl)
theorem dX0_pilgrimOf_37 : decode cX0_pilgrimOf 37 = .ok (.iload_n 2, 1) := dk_28 (dk_at dksX0_pilgrimOf_1 14 rfl rfl)
theorem dX0_pilgrimOf_38 : decode cX0_pilgrimOf 38 = .ok (.tableswitch 71 0 4 #[34, 47, 52, 57, 62], 34) := by decide +kernel
theorem dX0_pilgrimOf_72 : decode cX0_pilgrimOf 72 = .ok (.aload_n 3, 1) := dk_45 (dk_at dksX0_pilgrimOf_3 0 rfl rfl)
theorem dX0_pilgrimOf_73 : decode cX0_pilgrimOf 73 = .ok (.getfield 252, 3) := dk_180 0 252 (dk_at dksX0_pilgrimOf_3 1 rfl rfl)
theorem dX0_pilgrimOf_76 : decode cX0_pilgrimOf 76 = .ok (.aload_n 0, 1) := dk_42 (dk_at dksX0_pilgrimOf_3 4 rfl rfl)
theorem dX0_pilgrimOf_77 : decode cX0_pilgrimOf 77 = .ok (.getfield 17, 3) := dk_180 0 17 (dk_at dksX0_pilgrimOf_3 5 rfl rfl)
theorem dX0_pilgrimOf_80 : decode cX0_pilgrimOf 80 = .ok (.getfield 255, 3) := dk_180 0 255 (dk_at dksX0_pilgrimOf_3 8 rfl rfl)
theorem dX0_pilgrimOf_83 : decode cX0_pilgrimOf 83 = .ok (.isub, 1) := dk_100 (dk_at dksX0_pilgrimOf_3 11 rfl rfl)
theorem dX0_pilgrimOf_84 : decode cX0_pilgrimOf 84 = .ok (.ireturn, 1) := dk_172 (dk_at dksX0_pilgrimOf_3 12 rfl rfl)
theorem dX0_pilgrimOf_85 : decode cX0_pilgrimOf 85 = .ok (.aload_n 3, 1) := dk_45 (dk_at dksX0_pilgrimOf_3 13 rfl rfl)
theorem dX0_pilgrimOf_86 : decode cX0_pilgrimOf 86 = .ok (.getfield 256, 3) := dk_180 1 0 (dk_at dksX0_pilgrimOf_3 14 rfl rfl)
theorem dX0_pilgrimOf_89 : decode cX0_pilgrimOf 89 = .ok (.ireturn, 1) := dk_172 (dk_at dksX0_pilgrimOf_3 17 rfl rfl)
theorem dX0_pilgrimOf_90 : decode cX0_pilgrimOf 90 = .ok (.aload_n 3, 1) := dk_45 (dk_at dksX0_pilgrimOf_3 18 rfl rfl)
theorem dX0_pilgrimOf_91 : decode cX0_pilgrimOf 91 = .ok (.getfield 257, 3) := dk_180 1 1 (dk_at dksX0_pilgrimOf_3 19 rfl rfl)
theorem dX0_pilgrimOf_94 : decode cX0_pilgrimOf 94 = .ok (.ireturn, 1) := dk_172 (dk_at dksX0_pilgrimOf_3 22 rfl rfl)
theorem dX0_pilgrimOf_95 : decode cX0_pilgrimOf 95 = .ok (.aload_n 3, 1) := dk_45 (dk_at dksX0_pilgrimOf_3 23 rfl rfl)
theorem dX0_pilgrimOf_96 : decode cX0_pilgrimOf 96 = .ok (.getfield 258, 3) := dk_180 1 2 (dk_at dksX0_pilgrimOf_4 0 rfl rfl)
theorem dX0_pilgrimOf_99 : decode cX0_pilgrimOf 99 = .ok (.ireturn, 1) := dk_172 (dk_at dksX0_pilgrimOf_4 3 rfl rfl)
theorem dX0_pilgrimOf_100 : decode cX0_pilgrimOf 100 = .ok (.aload_n 0, 1) := dk_42 (dk_at dksX0_pilgrimOf_4 4 rfl rfl)
theorem dX0_pilgrimOf_101 : decode cX0_pilgrimOf 101 = .ok (.getfield 17, 3) := dk_180 0 17 (dk_at dksX0_pilgrimOf_4 5 rfl rfl)
theorem dX0_pilgrimOf_104 : decode cX0_pilgrimOf 104 = .ok (.aload_n 3, 1) := dk_45 (dk_at dksX0_pilgrimOf_4 8 rfl rfl)
theorem dX0_pilgrimOf_105 : decode cX0_pilgrimOf 105 = .ok (.invokevirtual 261, 3) := dk_182 1 5 (dk_at dksX0_pilgrimOf_4 9 rfl rfl)
theorem dX0_pilgrimOf_108 : decode cX0_pilgrimOf 108 = .ok (.ireturn, 1) := dk_172 (dk_at dksX0_pilgrimOf_4 12 rfl rfl)
theorem dX0_pilgrimOf_109 : decode cX0_pilgrimOf 109 = .ok (.bipush (-2), 2) := dk_16 254 (dk_at dksX0_pilgrimOf_4 13 rfl rfl)
theorem dX0_pilgrimOf_111 : decode cX0_pilgrimOf 111 = .ok (.ireturn, 1) := dk_172 (dk_at dksX0_pilgrimOf_4 15 rfl rfl)
abbrev cX0_soldOf : ByteArray := prog_1_method_29_code
def yX0_soldOf : MethodName := ⟨RX0, "soldOf", "(ZII)I"⟩
def dkwX0_soldOf_6 : List UInt8 := [184, 0, 239, 167, 0, 5, 16, 250, 172, 16, 254, 172]
abbrev dktX0_soldOf_6 : List UInt8 := dkwX0_soldOf_6 ++ []
def dkwX0_soldOf_5 : List UInt8 := [182, 1, 19, 42, 180, 0, 17, 180, 0, 255, 100, 172, 27, 153, 0, 17, 25, 5, 180, 1, 22, 180, 1, 26]
abbrev dktX0_soldOf_5 : List UInt8 := dkwX0_soldOf_5 ++ dktX0_soldOf_6
def dkwX0_soldOf_4 : List UInt8 := [25, 5, 182, 1, 17, 172, 25, 5, 182, 1, 18, 172, 27, 153, 0, 7, 3, 167, 0, 16, 25, 5]
abbrev dktX0_soldOf_4 : List UInt8 := dkwX0_soldOf_4 ++ dktX0_soldOf_5
def dkwX0_soldOf_3 : List UInt8 := [170, 0, 0, 0, 0, 0, 0, 87, 0, 0, 0, 0, 0, 0, 0, 3, 0, 0, 0, 32, 0, 0, 0, 38, 0, 0, 0, 44, 0, 0, 0, 66]
abbrev dktX0_soldOf_3 : List UInt8 := dkwX0_soldOf_3 ++ dktX0_soldOf_4
def dkwX0_soldOf_2 : List UInt8 := [192, 1, 15, 58, 5, 29]
abbrev dktX0_soldOf_2 : List UInt8 := dkwX0_soldOf_2 ++ dktX0_soldOf_3
def dkwX0_soldOf_1 : List UInt8 := [3, 25, 4, 182, 0, 249, 4, 100, 184, 0, 42, 154, 0, 5, 2, 172, 25, 4, 28, 182, 0, 131]
abbrev dktX0_soldOf_1 : List UInt8 := dkwX0_soldOf_1 ++ dktX0_soldOf_2
def dkwX0_soldOf_0 : List UInt8 := [27, 153, 0, 13, 42, 180, 0, 17, 180, 1, 9, 167, 0, 10, 42, 180, 0, 17, 180, 1, 12, 58, 4, 28]
abbrev dktX0_soldOf_0 : List UInt8 := dkwX0_soldOf_0 ++ dktX0_soldOf_1
theorem dksX0_soldOf_0 : cX0_soldOf.data.toList.drop 0 = dktX0_soldOf_0 := by decide +kernel
theorem dksX0_soldOf_1 : cX0_soldOf.data.toList.drop 24 = dktX0_soldOf_1 := dk_seg dksX0_soldOf_0 24 rfl rfl
theorem dksX0_soldOf_2 : cX0_soldOf.data.toList.drop 46 = dktX0_soldOf_2 := dk_seg dksX0_soldOf_1 22 rfl rfl
theorem dksX0_soldOf_3 : cX0_soldOf.data.toList.drop 52 = dktX0_soldOf_3 := dk_seg dksX0_soldOf_2 6 rfl rfl
theorem dksX0_soldOf_4 : cX0_soldOf.data.toList.drop 84 = dktX0_soldOf_4 := dk_seg dksX0_soldOf_3 32 rfl rfl
theorem dksX0_soldOf_5 : cX0_soldOf.data.toList.drop 106 = dktX0_soldOf_5 := dk_seg dksX0_soldOf_4 22 rfl rfl
theorem dksX0_soldOf_6 : cX0_soldOf.data.toList.drop 130 = dktX0_soldOf_6 := dk_seg dksX0_soldOf_5 24 rfl rfl
theorem dX0_soldOf_0 : decode cX0_soldOf 0 = .ok (.iload_n 1, 1) := dk_27 (dk_at dksX0_soldOf_0 0 rfl rfl)
theorem dX0_soldOf_1 : decode cX0_soldOf 1 = .ok (.ifCond .eq 13, 3) := dk_153 0 13 (dk_at dksX0_soldOf_0 1 rfl rfl)
theorem dX0_soldOf_4 : decode cX0_soldOf 4 = .ok (.aload_n 0, 1) := dk_42 (dk_at dksX0_soldOf_0 4 rfl rfl)
theorem dX0_soldOf_5 : decode cX0_soldOf 5 = .ok (.getfield 17, 3) := dk_180 0 17 (dk_at dksX0_soldOf_0 5 rfl rfl)
theorem dX0_soldOf_8 : decode cX0_soldOf 8 = .ok (.getfield 265, 3) := dk_180 1 9 (dk_at dksX0_soldOf_0 8 rfl rfl)
theorem dX0_soldOf_11 : decode cX0_soldOf 11 = .ok (.goto 10, 3) := dk_167 0 10 (dk_at dksX0_soldOf_0 11 rfl rfl)
theorem dX0_soldOf_14 : decode cX0_soldOf 14 = .ok (.aload_n 0, 1) := dk_42 (dk_at dksX0_soldOf_0 14 rfl rfl)
theorem dX0_soldOf_15 : decode cX0_soldOf 15 = .ok (.getfield 17, 3) := dk_180 0 17 (dk_at dksX0_soldOf_0 15 rfl rfl)
theorem dX0_soldOf_18 : decode cX0_soldOf 18 = .ok (.getfield 268, 3) := dk_180 1 12 (dk_at dksX0_soldOf_0 18 rfl rfl)
theorem dX0_soldOf_21 : decode cX0_soldOf 21 = .ok (.astore 4, 2) := dk_58 4 (dk_at dksX0_soldOf_0 21 rfl rfl)
theorem dX0_soldOf_23 : decode cX0_soldOf 23 = .ok (.iload_n 2, 1) := dk_28 (dk_at dksX0_soldOf_0 23 rfl rfl)
theorem dX0_soldOf_24 : decode cX0_soldOf 24 = .ok (.iconst 0, 1) := dk_3 (dk_at dksX0_soldOf_1 0 rfl rfl)
theorem dX0_soldOf_25 : decode cX0_soldOf 25 = .ok (.aload 4, 2) := dk_25 4 (dk_at dksX0_soldOf_1 1 rfl rfl)
theorem dX0_soldOf_27 : decode cX0_soldOf 27 = .ok (.invokevirtual 249, 3) := dk_182 0 249 (dk_at dksX0_soldOf_1 3 rfl rfl)
theorem dX0_soldOf_30 : decode cX0_soldOf 30 = .ok (.iconst 1, 1) := dk_4 (dk_at dksX0_soldOf_1 6 rfl rfl)
theorem dX0_soldOf_31 : decode cX0_soldOf 31 = .ok (.isub, 1) := dk_100 (dk_at dksX0_soldOf_1 7 rfl rfl)
theorem dX0_soldOf_32 : decode cX0_soldOf 32 = .ok (.invokestatic 42, 3) := dk_184 0 42 (dk_at dksX0_soldOf_1 8 rfl rfl)
theorem dX0_soldOf_35 : decode cX0_soldOf 35 = .ok (.ifCond .ne 5, 3) := dk_154 0 5 (dk_at dksX0_soldOf_1 11 rfl rfl)
theorem dX0_soldOf_38 : decode cX0_soldOf 38 = .ok (.iconst (-1), 1) := dk_2 (dk_at dksX0_soldOf_1 14 rfl rfl)
theorem dX0_soldOf_39 : decode cX0_soldOf 39 = .ok (.ireturn, 1) := dk_172 (dk_at dksX0_soldOf_1 15 rfl rfl)
theorem dX0_soldOf_40 : decode cX0_soldOf 40 = .ok (.aload 4, 2) := dk_25 4 (dk_at dksX0_soldOf_1 16 rfl rfl)
theorem dX0_soldOf_42 : decode cX0_soldOf 42 = .ok (.iload_n 2, 1) := dk_28 (dk_at dksX0_soldOf_1 18 rfl rfl)
theorem dX0_soldOf_43 : decode cX0_soldOf 43 = .ok (.invokevirtual 131, 3) := dk_182 0 131 (dk_at dksX0_soldOf_1 19 rfl rfl)
theorem dX0_soldOf_46 : decode cX0_soldOf 46 = .ok (.checkcast 271, 3) := dk_192 1 15 (dk_at dksX0_soldOf_2 0 rfl rfl)
theorem dX0_soldOf_49 : decode cX0_soldOf 49 = .ok (.astore 5, 2) := dk_58 5 (dk_at dksX0_soldOf_2 3 rfl rfl)
theorem dX0_soldOf_51 : decode cX0_soldOf 51 = .ok (.iload_n 3, 1) := dk_29 (dk_at dksX0_soldOf_2 5 rfl rfl)
theorem dX0_soldOf_52 : decode cX0_soldOf 52 = .ok (.tableswitch 87 0 3 #[32, 38, 44, 66], 32) := by decide +kernel
theorem dX0_soldOf_84 : decode cX0_soldOf 84 = .ok (.aload 5, 2) := dk_25 5 (dk_at dksX0_soldOf_4 0 rfl rfl)
theorem dX0_soldOf_86 : decode cX0_soldOf 86 = .ok (.invokevirtual 273, 3) := dk_182 1 17 (dk_at dksX0_soldOf_4 2 rfl rfl)
theorem dX0_soldOf_89 : decode cX0_soldOf 89 = .ok (.ireturn, 1) := dk_172 (dk_at dksX0_soldOf_4 5 rfl rfl)
theorem dX0_soldOf_90 : decode cX0_soldOf 90 = .ok (.aload 5, 2) := dk_25 5 (dk_at dksX0_soldOf_4 6 rfl rfl)
theorem dX0_soldOf_92 : decode cX0_soldOf 92 = .ok (.invokevirtual 274, 3) := dk_182 1 18 (dk_at dksX0_soldOf_4 8 rfl rfl)
theorem dX0_soldOf_95 : decode cX0_soldOf 95 = .ok (.ireturn, 1) := dk_172 (dk_at dksX0_soldOf_4 11 rfl rfl)
theorem dX0_soldOf_96 : decode cX0_soldOf 96 = .ok (.iload_n 1, 1) := dk_27 (dk_at dksX0_soldOf_4 12 rfl rfl)
theorem dX0_soldOf_97 : decode cX0_soldOf 97 = .ok (.ifCond .eq 7, 3) := dk_153 0 7 (dk_at dksX0_soldOf_4 13 rfl rfl)
theorem dX0_soldOf_100 : decode cX0_soldOf 100 = .ok (.iconst 0, 1) := dk_3 (dk_at dksX0_soldOf_4 16 rfl rfl)
theorem dX0_soldOf_101 : decode cX0_soldOf 101 = .ok (.goto 16, 3) := dk_167 0 16 (dk_at dksX0_soldOf_4 17 rfl rfl)
theorem dX0_soldOf_104 : decode cX0_soldOf 104 = .ok (.aload 5, 2) := dk_25 5 (dk_at dksX0_soldOf_4 20 rfl rfl)
theorem dX0_soldOf_106 : decode cX0_soldOf 106 = .ok (.invokevirtual 275, 3) := dk_182 1 19 (dk_at dksX0_soldOf_5 0 rfl rfl)
theorem dX0_soldOf_109 : decode cX0_soldOf 109 = .ok (.aload_n 0, 1) := dk_42 (dk_at dksX0_soldOf_5 3 rfl rfl)
theorem dX0_soldOf_110 : decode cX0_soldOf 110 = .ok (.getfield 17, 3) := dk_180 0 17 (dk_at dksX0_soldOf_5 4 rfl rfl)
theorem dX0_soldOf_113 : decode cX0_soldOf 113 = .ok (.getfield 255, 3) := dk_180 0 255 (dk_at dksX0_soldOf_5 7 rfl rfl)
theorem dX0_soldOf_116 : decode cX0_soldOf 116 = .ok (.isub, 1) := dk_100 (dk_at dksX0_soldOf_5 10 rfl rfl)
theorem dX0_soldOf_117 : decode cX0_soldOf 117 = .ok (.ireturn, 1) := dk_172 (dk_at dksX0_soldOf_5 11 rfl rfl)
theorem dX0_soldOf_118 : decode cX0_soldOf 118 = .ok (.iload_n 1, 1) := dk_27 (dk_at dksX0_soldOf_5 12 rfl rfl)
theorem dX0_soldOf_119 : decode cX0_soldOf 119 = .ok (.ifCond .eq 17, 3) := dk_153 0 17 (dk_at dksX0_soldOf_5 13 rfl rfl)
theorem dX0_soldOf_122 : decode cX0_soldOf 122 = .ok (.aload 5, 2) := dk_25 5 (dk_at dksX0_soldOf_5 16 rfl rfl)
theorem dX0_soldOf_124 : decode cX0_soldOf 124 = .ok (.getfield 278, 3) := dk_180 1 22 (dk_at dksX0_soldOf_5 18 rfl rfl)
theorem dX0_soldOf_127 : decode cX0_soldOf 127 = .ok (.getfield 282, 3) := dk_180 1 26 (dk_at dksX0_soldOf_5 21 rfl rfl)
theorem dX0_soldOf_130 : decode cX0_soldOf 130 = .ok (.invokestatic 239, 3) := dk_184 0 239 (dk_at dksX0_soldOf_6 0 rfl rfl)
theorem dX0_soldOf_133 : decode cX0_soldOf 133 = .ok (.goto 5, 3) := dk_167 0 5 (dk_at dksX0_soldOf_6 3 rfl rfl)
theorem dX0_soldOf_136 : decode cX0_soldOf 136 = .ok (.bipush (-6), 2) := dk_16 250 (dk_at dksX0_soldOf_6 6 rfl rfl)
theorem dX0_soldOf_138 : decode cX0_soldOf 138 = .ok (.ireturn, 1) := dk_172 (dk_at dksX0_soldOf_6 8 rfl rfl)
theorem dX0_soldOf_139 : decode cX0_soldOf 139 = .ok (.bipush (-2), 2) := dk_16 254 (dk_at dksX0_soldOf_6 9 rfl rfl)
theorem dX0_soldOf_141 : decode cX0_soldOf 141 = .ok (.ireturn, 1) := dk_172 (dk_at dksX0_soldOf_6 11 rfl rfl)
abbrev cX0_could : ByteArray := prog_1_method_30_code
def yX0_could : MethodName := ⟨RX0, "could", "(II)I"⟩
def dkwX0_could_1 : List UInt8 := [42, 180, 0, 17, 180, 0, 169, 3, 182, 0, 185, 27, 28, 104, 108, 184, 1, 30, 172]
abbrev dktX0_could_1 : List UInt8 := dkwX0_could_1 ++ []
def dkwX0_could_0 : List UInt8 := [27, 28, 184, 0, 85, 154, 0, 6, 16, 254, 172, 42, 180, 0, 17, 180, 0, 169, 4, 182, 0, 185, 27, 108]
abbrev dktX0_could_0 : List UInt8 := dkwX0_could_0 ++ dktX0_could_1
theorem dksX0_could_0 : cX0_could.data.toList.drop 0 = dktX0_could_0 := by decide +kernel
theorem dksX0_could_1 : cX0_could.data.toList.drop 24 = dktX0_could_1 := dk_seg dksX0_could_0 24 rfl rfl
theorem dX0_could_0 : decode cX0_could 0 = .ok (.iload_n 1, 1) := dk_27 (dk_at dksX0_could_0 0 rfl rfl)
theorem dX0_could_1 : decode cX0_could 1 = .ok (.iload_n 2, 1) := dk_28 (dk_at dksX0_could_0 1 rfl rfl)
theorem dX0_could_2 : decode cX0_could 2 = .ok (.invokestatic 85, 3) := dk_184 0 85 (dk_at dksX0_could_0 2 rfl rfl)
theorem dX0_could_5 : decode cX0_could 5 = .ok (.ifCond .ne 6, 3) := dk_154 0 6 (dk_at dksX0_could_0 5 rfl rfl)
theorem dX0_could_8 : decode cX0_could 8 = .ok (.bipush (-2), 2) := dk_16 254 (dk_at dksX0_could_0 8 rfl rfl)
theorem dX0_could_10 : decode cX0_could 10 = .ok (.ireturn, 1) := dk_172 (dk_at dksX0_could_0 10 rfl rfl)
theorem dX0_could_11 : decode cX0_could 11 = .ok (.aload_n 0, 1) := dk_42 (dk_at dksX0_could_0 11 rfl rfl)
theorem dX0_could_12 : decode cX0_could 12 = .ok (.getfield 17, 3) := dk_180 0 17 (dk_at dksX0_could_0 12 rfl rfl)
theorem dX0_could_15 : decode cX0_could 15 = .ok (.getfield 169, 3) := dk_180 0 169 (dk_at dksX0_could_0 15 rfl rfl)
theorem dX0_could_18 : decode cX0_could 18 = .ok (.iconst 1, 1) := dk_4 (dk_at dksX0_could_0 18 rfl rfl)
theorem dX0_could_19 : decode cX0_could 19 = .ok (.invokevirtual 185, 3) := dk_182 0 185 (dk_at dksX0_could_0 19 rfl rfl)
theorem dX0_could_22 : decode cX0_could 22 = .ok (.iload_n 1, 1) := dk_27 (dk_at dksX0_could_0 22 rfl rfl)
theorem dX0_could_23 : decode cX0_could 23 = .ok (.idiv, 1) := dk_108 (dk_at dksX0_could_0 23 rfl rfl)
theorem dX0_could_24 : decode cX0_could 24 = .ok (.aload_n 0, 1) := dk_42 (dk_at dksX0_could_1 0 rfl rfl)
theorem dX0_could_25 : decode cX0_could 25 = .ok (.getfield 17, 3) := dk_180 0 17 (dk_at dksX0_could_1 1 rfl rfl)
theorem dX0_could_28 : decode cX0_could 28 = .ok (.getfield 169, 3) := dk_180 0 169 (dk_at dksX0_could_1 4 rfl rfl)
theorem dX0_could_31 : decode cX0_could 31 = .ok (.iconst 0, 1) := dk_3 (dk_at dksX0_could_1 7 rfl rfl)
theorem dX0_could_32 : decode cX0_could 32 = .ok (.invokevirtual 185, 3) := dk_182 0 185 (dk_at dksX0_could_1 8 rfl rfl)
theorem dX0_could_35 : decode cX0_could 35 = .ok (.iload_n 1, 1) := dk_27 (dk_at dksX0_could_1 11 rfl rfl)
theorem dX0_could_36 : decode cX0_could 36 = .ok (.iload_n 2, 1) := dk_28 (dk_at dksX0_could_1 12 rfl rfl)
theorem dX0_could_37 : decode cX0_could 37 = .ok (.imul, 1) := dk_104 (dk_at dksX0_could_1 13 rfl rfl)
theorem dX0_could_38 : decode cX0_could 38 = .ok (.idiv, 1) := dk_108 (dk_at dksX0_could_1 14 rfl rfl)
theorem dX0_could_39 : decode cX0_could 39 = .ok (.invokestatic 286, 3) := dk_184 1 30 (dk_at dksX0_could_1 15 rfl rfl)
theorem dX0_could_42 : decode cX0_could 42 = .ok (.ireturn, 1) := dk_172 (dk_at dksX0_could_1 18 rfl rfl)
abbrev cX0_nextBack : ByteArray := prog_1_method_31_code
def yX0_nextBack : MethodName := ⟨RX0, "nextBack", "()I"⟩
def dkwX0_nextBack_2 : List UInt8 := [16, 250, 159, 0, 9, 21, 4, 27, 162, 0, 8, 21, 4, 167, 0, 4, 27, 60, 167, 255, 204, 27, 172]
abbrev dktX0_nextBack_2 : List UInt8 := dkwX0_nextBack_2 ++ []
def dkwX0_nextBack_1 : List UInt8 := [185, 0, 210, 1, 0, 192, 1, 15, 78, 45, 182, 1, 19, 42, 180, 0, 17, 180, 0, 255, 100, 54, 4, 27]
abbrev dktX0_nextBack_1 : List UInt8 := dkwX0_nextBack_1 ++ dktX0_nextBack_2
def dkwX0_nextBack_0 : List UInt8 := [16, 250, 60, 42, 180, 0, 17, 180, 1, 12, 182, 1, 36, 77, 44, 185, 0, 204, 1, 0, 153, 0, 49, 44]
abbrev dktX0_nextBack_0 : List UInt8 := dkwX0_nextBack_0 ++ dktX0_nextBack_1
theorem dksX0_nextBack_0 : cX0_nextBack.data.toList.drop 0 = dktX0_nextBack_0 := by decide +kernel
theorem dksX0_nextBack_1 : cX0_nextBack.data.toList.drop 24 = dktX0_nextBack_1 := dk_seg dksX0_nextBack_0 24 rfl rfl
theorem dksX0_nextBack_2 : cX0_nextBack.data.toList.drop 48 = dktX0_nextBack_2 := dk_seg dksX0_nextBack_1 24 rfl rfl
theorem dX0_nextBack_0 : decode cX0_nextBack 0 = .ok (.bipush (-6), 2) := dk_16 250 (dk_at dksX0_nextBack_0 0 rfl rfl)
theorem dX0_nextBack_2 : decode cX0_nextBack 2 = .ok (.istore_n 1, 1) := dk_60 (dk_at dksX0_nextBack_0 2 rfl rfl)
theorem dX0_nextBack_3 : decode cX0_nextBack 3 = .ok (.aload_n 0, 1) := dk_42 (dk_at dksX0_nextBack_0 3 rfl rfl)
theorem dX0_nextBack_4 : decode cX0_nextBack 4 = .ok (.getfield 17, 3) := dk_180 0 17 (dk_at dksX0_nextBack_0 4 rfl rfl)
theorem dX0_nextBack_7 : decode cX0_nextBack 7 = .ok (.getfield 268, 3) := dk_180 1 12 (dk_at dksX0_nextBack_0 7 rfl rfl)
theorem dX0_nextBack_10 : decode cX0_nextBack 10 = .ok (.invokevirtual 292, 3) := dk_182 1 36 (dk_at dksX0_nextBack_0 10 rfl rfl)
theorem dX0_nextBack_13 : decode cX0_nextBack 13 = .ok (.astore_n 2, 1) := dk_77 (dk_at dksX0_nextBack_0 13 rfl rfl)
theorem dX0_nextBack_14 : decode cX0_nextBack 14 = .ok (.aload_n 2, 1) := dk_44 (dk_at dksX0_nextBack_0 14 rfl rfl)
theorem dX0_nextBack_15 : decode cX0_nextBack 15 = .ok (.invokeinterface 204 1, 5) := by decide +kernel
theorem dX0_nextBack_20 : decode cX0_nextBack 20 = .ok (.ifCond .eq 49, 3) := dk_153 0 49 (dk_at dksX0_nextBack_0 20 rfl rfl)
theorem dX0_nextBack_23 : decode cX0_nextBack 23 = .ok (.aload_n 2, 1) := dk_44 (dk_at dksX0_nextBack_0 23 rfl rfl)
theorem dX0_nextBack_24 : decode cX0_nextBack 24 = .ok (.invokeinterface 210 1, 5) := by decide +kernel
theorem dX0_nextBack_29 : decode cX0_nextBack 29 = .ok (.checkcast 271, 3) := dk_192 1 15 (dk_at dksX0_nextBack_1 5 rfl rfl)
theorem dX0_nextBack_32 : decode cX0_nextBack 32 = .ok (.astore_n 3, 1) := dk_78 (dk_at dksX0_nextBack_1 8 rfl rfl)
theorem dX0_nextBack_33 : decode cX0_nextBack 33 = .ok (.aload_n 3, 1) := dk_45 (dk_at dksX0_nextBack_1 9 rfl rfl)
theorem dX0_nextBack_34 : decode cX0_nextBack 34 = .ok (.invokevirtual 275, 3) := dk_182 1 19 (dk_at dksX0_nextBack_1 10 rfl rfl)
theorem dX0_nextBack_37 : decode cX0_nextBack 37 = .ok (.aload_n 0, 1) := dk_42 (dk_at dksX0_nextBack_1 13 rfl rfl)
theorem dX0_nextBack_38 : decode cX0_nextBack 38 = .ok (.getfield 17, 3) := dk_180 0 17 (dk_at dksX0_nextBack_1 14 rfl rfl)
theorem dX0_nextBack_41 : decode cX0_nextBack 41 = .ok (.getfield 255, 3) := dk_180 0 255 (dk_at dksX0_nextBack_1 17 rfl rfl)
theorem dX0_nextBack_44 : decode cX0_nextBack 44 = .ok (.isub, 1) := dk_100 (dk_at dksX0_nextBack_1 20 rfl rfl)
theorem dX0_nextBack_45 : decode cX0_nextBack 45 = .ok (.istore 4, 2) := dk_54 4 (dk_at dksX0_nextBack_1 21 rfl rfl)
theorem dX0_nextBack_47 : decode cX0_nextBack 47 = .ok (.iload_n 1, 1) := dk_27 (dk_at dksX0_nextBack_1 23 rfl rfl)
theorem dX0_nextBack_48 : decode cX0_nextBack 48 = .ok (.bipush (-6), 2) := dk_16 250 (dk_at dksX0_nextBack_2 0 rfl rfl)
theorem dX0_nextBack_50 : decode cX0_nextBack 50 = .ok (.if_icmp .eq 9, 3) := dk_159 0 9 (dk_at dksX0_nextBack_2 2 rfl rfl)
theorem dX0_nextBack_53 : decode cX0_nextBack 53 = .ok (.iload 4, 2) := dk_21 4 (dk_at dksX0_nextBack_2 5 rfl rfl)
theorem dX0_nextBack_55 : decode cX0_nextBack 55 = .ok (.iload_n 1, 1) := dk_27 (dk_at dksX0_nextBack_2 7 rfl rfl)
theorem dX0_nextBack_56 : decode cX0_nextBack 56 = .ok (.if_icmp .ge 8, 3) := dk_162 0 8 (dk_at dksX0_nextBack_2 8 rfl rfl)
theorem dX0_nextBack_59 : decode cX0_nextBack 59 = .ok (.iload 4, 2) := dk_21 4 (dk_at dksX0_nextBack_2 11 rfl rfl)
theorem dX0_nextBack_61 : decode cX0_nextBack 61 = .ok (.goto 4, 3) := dk_167 0 4 (dk_at dksX0_nextBack_2 13 rfl rfl)
theorem dX0_nextBack_64 : decode cX0_nextBack 64 = .ok (.iload_n 1, 1) := dk_27 (dk_at dksX0_nextBack_2 16 rfl rfl)
theorem dX0_nextBack_65 : decode cX0_nextBack 65 = .ok (.istore_n 1, 1) := dk_60 (dk_at dksX0_nextBack_2 17 rfl rfl)
theorem dX0_nextBack_66 : decode cX0_nextBack 66 = .ok (.goto (-52), 3) := dk_167 255 204 (dk_at dksX0_nextBack_2 18 rfl rfl)
theorem dX0_nextBack_69 : decode cX0_nextBack 69 = .ok (.iload_n 1, 1) := dk_27 (dk_at dksX0_nextBack_2 21 rfl rfl)
theorem dX0_nextBack_70 : decode cX0_nextBack 70 = .ok (.ireturn, 1) := dk_172 (dk_at dksX0_nextBack_2 22 rfl rfl)
abbrev cX0_isCounted : ByteArray := prog_1_method_35_code
def yX0_isCounted : MethodName := ⟨RX0, "isCounted", "()Z"⟩
def dkwX0_isCounted_7 : List UInt8 := [180, 0, 17, 180, 1, 60, 96, 160, 0, 7, 4, 167, 0, 4, 3, 172]
abbrev dktX0_isCounted_7 : List UInt8 := dkwX0_isCounted_7 ++ []
def dkwX0_isCounted_6 : List UInt8 := [180, 1, 63, 160, 0, 35, 42, 180, 0, 17, 180, 1, 50, 182, 1, 64, 42, 180, 0, 17, 180, 1, 58, 42]
abbrev dktX0_isCounted_6 : List UInt8 := dkwX0_isCounted_6 ++ dktX0_isCounted_7
def dkwX0_isCounted_5 : List UInt8 := [180, 1, 60, 96, 42, 180, 0, 17, 180, 1, 63, 160, 0, 49, 43, 182, 1, 64, 42, 180, 0, 17]
abbrev dktX0_isCounted_5 : List UInt8 := dkwX0_isCounted_5 ++ dktX0_isCounted_6
def dkwX0_isCounted_4 : List UInt8 := [180, 0, 17, 180, 1, 50, 182, 1, 54, 28, 42, 180, 0, 17, 180, 1, 58, 96, 42, 180, 0, 17]
abbrev dktX0_isCounted_4 : List UInt8 := dkwX0_isCounted_4 ++ dktX0_isCounted_5
def dkwX0_isCounted_3 : List UInt8 := [192, 0, 194, 58, 4, 43, 25, 4, 180, 0, 193, 182, 1, 39, 132, 2, 1, 167, 255, 224, 43, 42]
abbrev dktX0_isCounted_3 : List UInt8 := dkwX0_isCounted_3 ++ dktX0_isCounted_4
def dkwX0_isCounted_2 : List UInt8 := [180, 0, 169, 182, 1, 38, 78, 45, 185, 0, 204, 1, 0, 153, 0, 29, 45, 185, 0, 210, 1, 0]
abbrev dktX0_isCounted_2 : List UInt8 := dkwX0_isCounted_2 ++ dktX0_isCounted_3
def dkwX0_isCounted_1 : List UInt8 := [180, 1, 12, 184, 1, 46, 96, 43, 42, 180, 0, 17, 180, 1, 9, 184, 1, 46, 96, 61, 42, 180, 0, 17]
abbrev dktX0_isCounted_1 : List UInt8 := dkwX0_isCounted_1 ++ dktX0_isCounted_2
def dkwX0_isCounted_0 : List UInt8 := [187, 1, 40, 89, 183, 1, 45, 76, 43, 42, 180, 0, 17, 180, 0, 217, 184, 1, 46, 43, 42, 180, 0, 17]
abbrev dktX0_isCounted_0 : List UInt8 := dkwX0_isCounted_0 ++ dktX0_isCounted_1
theorem dksX0_isCounted_0 : cX0_isCounted.data.toList.drop 0 = dktX0_isCounted_0 := by decide +kernel
theorem dksX0_isCounted_1 : cX0_isCounted.data.toList.drop 24 = dktX0_isCounted_1 := dk_seg dksX0_isCounted_0 24 rfl rfl
theorem dksX0_isCounted_2 : cX0_isCounted.data.toList.drop 48 = dktX0_isCounted_2 := dk_seg dksX0_isCounted_1 24 rfl rfl
theorem dksX0_isCounted_3 : cX0_isCounted.data.toList.drop 70 = dktX0_isCounted_3 := dk_seg dksX0_isCounted_2 22 rfl rfl
theorem dksX0_isCounted_4 : cX0_isCounted.data.toList.drop 92 = dktX0_isCounted_4 := dk_seg dksX0_isCounted_3 22 rfl rfl
theorem dksX0_isCounted_5 : cX0_isCounted.data.toList.drop 114 = dktX0_isCounted_5 := dk_seg dksX0_isCounted_4 22 rfl rfl
theorem dksX0_isCounted_6 : cX0_isCounted.data.toList.drop 136 = dktX0_isCounted_6 := dk_seg dksX0_isCounted_5 22 rfl rfl
theorem dksX0_isCounted_7 : cX0_isCounted.data.toList.drop 160 = dktX0_isCounted_7 := dk_seg dksX0_isCounted_6 24 rfl rfl
theorem dX0_isCounted_0 : decode cX0_isCounted 0 = .ok (.new 296, 3) := dk_187 1 40 (dk_at dksX0_isCounted_0 0 rfl rfl)
theorem dX0_isCounted_3 : decode cX0_isCounted 3 = .ok (.dup, 1) := dk_89 (dk_at dksX0_isCounted_0 3 rfl rfl)
theorem dX0_isCounted_4 : decode cX0_isCounted 4 = .ok (.invokespecial 301, 3) := dk_183 1 45 (dk_at dksX0_isCounted_0 4 rfl rfl)
theorem dX0_isCounted_7 : decode cX0_isCounted 7 = .ok (.astore_n 1, 1) := dk_76 (dk_at dksX0_isCounted_0 7 rfl rfl)
theorem dX0_isCounted_8 : decode cX0_isCounted 8 = .ok (.aload_n 1, 1) := dk_43 (dk_at dksX0_isCounted_0 8 rfl rfl)
theorem dX0_isCounted_9 : decode cX0_isCounted 9 = .ok (.aload_n 0, 1) := dk_42 (dk_at dksX0_isCounted_0 9 rfl rfl)
theorem dX0_isCounted_10 : decode cX0_isCounted 10 = .ok (.getfield 17, 3) := dk_180 0 17 (dk_at dksX0_isCounted_0 10 rfl rfl)
theorem dX0_isCounted_13 : decode cX0_isCounted 13 = .ok (.getfield 217, 3) := dk_180 0 217 (dk_at dksX0_isCounted_0 13 rfl rfl)
theorem dX0_isCounted_16 : decode cX0_isCounted 16 = .ok (.invokestatic 302, 3) := dk_184 1 46 (dk_at dksX0_isCounted_0 16 rfl rfl)
theorem dX0_isCounted_19 : decode cX0_isCounted 19 = .ok (.aload_n 1, 1) := dk_43 (dk_at dksX0_isCounted_0 19 rfl rfl)
theorem dX0_isCounted_20 : decode cX0_isCounted 20 = .ok (.aload_n 0, 1) := dk_42 (dk_at dksX0_isCounted_0 20 rfl rfl)
theorem dX0_isCounted_21 : decode cX0_isCounted 21 = .ok (.getfield 17, 3) := dk_180 0 17 (dk_at dksX0_isCounted_0 21 rfl rfl)
theorem dX0_isCounted_24 : decode cX0_isCounted 24 = .ok (.getfield 268, 3) := dk_180 1 12 (dk_at dksX0_isCounted_1 0 rfl rfl)
theorem dX0_isCounted_27 : decode cX0_isCounted 27 = .ok (.invokestatic 302, 3) := dk_184 1 46 (dk_at dksX0_isCounted_1 3 rfl rfl)
theorem dX0_isCounted_30 : decode cX0_isCounted 30 = .ok (.iadd, 1) := dk_96 (dk_at dksX0_isCounted_1 6 rfl rfl)
theorem dX0_isCounted_31 : decode cX0_isCounted 31 = .ok (.aload_n 1, 1) := dk_43 (dk_at dksX0_isCounted_1 7 rfl rfl)
theorem dX0_isCounted_32 : decode cX0_isCounted 32 = .ok (.aload_n 0, 1) := dk_42 (dk_at dksX0_isCounted_1 8 rfl rfl)
theorem dX0_isCounted_33 : decode cX0_isCounted 33 = .ok (.getfield 17, 3) := dk_180 0 17 (dk_at dksX0_isCounted_1 9 rfl rfl)
theorem dX0_isCounted_36 : decode cX0_isCounted 36 = .ok (.getfield 265, 3) := dk_180 1 9 (dk_at dksX0_isCounted_1 12 rfl rfl)
theorem dX0_isCounted_39 : decode cX0_isCounted 39 = .ok (.invokestatic 302, 3) := dk_184 1 46 (dk_at dksX0_isCounted_1 15 rfl rfl)
theorem dX0_isCounted_42 : decode cX0_isCounted 42 = .ok (.iadd, 1) := dk_96 (dk_at dksX0_isCounted_1 18 rfl rfl)
theorem dX0_isCounted_43 : decode cX0_isCounted 43 = .ok (.istore_n 2, 1) := dk_61 (dk_at dksX0_isCounted_1 19 rfl rfl)
theorem dX0_isCounted_44 : decode cX0_isCounted 44 = .ok (.aload_n 0, 1) := dk_42 (dk_at dksX0_isCounted_1 20 rfl rfl)
theorem dX0_isCounted_45 : decode cX0_isCounted 45 = .ok (.getfield 17, 3) := dk_180 0 17 (dk_at dksX0_isCounted_1 21 rfl rfl)
theorem dX0_isCounted_48 : decode cX0_isCounted 48 = .ok (.getfield 169, 3) := dk_180 0 169 (dk_at dksX0_isCounted_2 0 rfl rfl)
theorem dX0_isCounted_51 : decode cX0_isCounted 51 = .ok (.invokevirtual 294, 3) := dk_182 1 38 (dk_at dksX0_isCounted_2 3 rfl rfl)
theorem dX0_isCounted_54 : decode cX0_isCounted 54 = .ok (.astore_n 3, 1) := dk_78 (dk_at dksX0_isCounted_2 6 rfl rfl)
theorem dX0_isCounted_55 : decode cX0_isCounted 55 = .ok (.aload_n 3, 1) := dk_45 (dk_at dksX0_isCounted_2 7 rfl rfl)
theorem dX0_isCounted_56 : decode cX0_isCounted 56 = .ok (.invokeinterface 204 1, 5) := by decide +kernel
theorem dX0_isCounted_61 : decode cX0_isCounted 61 = .ok (.ifCond .eq 29, 3) := dk_153 0 29 (dk_at dksX0_isCounted_2 13 rfl rfl)
theorem dX0_isCounted_64 : decode cX0_isCounted 64 = .ok (.aload_n 3, 1) := dk_45 (dk_at dksX0_isCounted_2 16 rfl rfl)
theorem dX0_isCounted_65 : decode cX0_isCounted 65 = .ok (.invokeinterface 210 1, 5) := by decide +kernel
theorem dX0_isCounted_70 : decode cX0_isCounted 70 = .ok (.checkcast 194, 3) := dk_192 0 194 (dk_at dksX0_isCounted_3 0 rfl rfl)
theorem dX0_isCounted_73 : decode cX0_isCounted 73 = .ok (.astore 4, 2) := dk_58 4 (dk_at dksX0_isCounted_3 3 rfl rfl)
theorem dX0_isCounted_75 : decode cX0_isCounted 75 = .ok (.aload_n 1, 1) := dk_43 (dk_at dksX0_isCounted_3 5 rfl rfl)
theorem dX0_isCounted_76 : decode cX0_isCounted 76 = .ok (.aload 4, 2) := dk_25 4 (dk_at dksX0_isCounted_3 6 rfl rfl)
theorem dX0_isCounted_78 : decode cX0_isCounted 78 = .ok (.getfield 193, 3) := dk_180 0 193 (dk_at dksX0_isCounted_3 8 rfl rfl)
theorem dX0_isCounted_81 : decode cX0_isCounted 81 = .ok (.invokevirtual 295, 3) := dk_182 1 39 (dk_at dksX0_isCounted_3 11 rfl rfl)
theorem dX0_isCounted_84 : decode cX0_isCounted 84 = .ok (.iinc 2 1, 3) := dk_132 2 1 (dk_at dksX0_isCounted_3 14 rfl rfl)
theorem dX0_isCounted_87 : decode cX0_isCounted 87 = .ok (.goto (-32), 3) := dk_167 255 224 (dk_at dksX0_isCounted_3 17 rfl rfl)
theorem dX0_isCounted_90 : decode cX0_isCounted 90 = .ok (.aload_n 1, 1) := dk_43 (dk_at dksX0_isCounted_3 20 rfl rfl)
theorem dX0_isCounted_91 : decode cX0_isCounted 91 = .ok (.aload_n 0, 1) := dk_42 (dk_at dksX0_isCounted_3 21 rfl rfl)
theorem dX0_isCounted_92 : decode cX0_isCounted 92 = .ok (.getfield 17, 3) := dk_180 0 17 (dk_at dksX0_isCounted_4 0 rfl rfl)
theorem dX0_isCounted_95 : decode cX0_isCounted 95 = .ok (.getfield 306, 3) := dk_180 1 50 (dk_at dksX0_isCounted_4 3 rfl rfl)
theorem dX0_isCounted_98 : decode cX0_isCounted 98 = .ok (.invokevirtual 310, 3) := dk_182 1 54 (dk_at dksX0_isCounted_4 6 rfl rfl)
theorem dX0_isCounted_101 : decode cX0_isCounted 101 = .ok (.iload_n 2, 1) := dk_28 (dk_at dksX0_isCounted_4 9 rfl rfl)
theorem dX0_isCounted_102 : decode cX0_isCounted 102 = .ok (.aload_n 0, 1) := dk_42 (dk_at dksX0_isCounted_4 10 rfl rfl)
theorem dX0_isCounted_103 : decode cX0_isCounted 103 = .ok (.getfield 17, 3) := dk_180 0 17 (dk_at dksX0_isCounted_4 11 rfl rfl)
theorem dX0_isCounted_106 : decode cX0_isCounted 106 = .ok (.getfield 314, 3) := dk_180 1 58 (dk_at dksX0_isCounted_4 14 rfl rfl)
theorem dX0_isCounted_109 : decode cX0_isCounted 109 = .ok (.iadd, 1) := dk_96 (dk_at dksX0_isCounted_4 17 rfl rfl)
theorem dX0_isCounted_110 : decode cX0_isCounted 110 = .ok (.aload_n 0, 1) := dk_42 (dk_at dksX0_isCounted_4 18 rfl rfl)
theorem dX0_isCounted_111 : decode cX0_isCounted 111 = .ok (.getfield 17, 3) := dk_180 0 17 (dk_at dksX0_isCounted_4 19 rfl rfl)
theorem dX0_isCounted_114 : decode cX0_isCounted 114 = .ok (.getfield 316, 3) := dk_180 1 60 (dk_at dksX0_isCounted_5 0 rfl rfl)
theorem dX0_isCounted_117 : decode cX0_isCounted 117 = .ok (.iadd, 1) := dk_96 (dk_at dksX0_isCounted_5 3 rfl rfl)
theorem dX0_isCounted_118 : decode cX0_isCounted 118 = .ok (.aload_n 0, 1) := dk_42 (dk_at dksX0_isCounted_5 4 rfl rfl)
theorem dX0_isCounted_119 : decode cX0_isCounted 119 = .ok (.getfield 17, 3) := dk_180 0 17 (dk_at dksX0_isCounted_5 5 rfl rfl)
theorem dX0_isCounted_122 : decode cX0_isCounted 122 = .ok (.getfield 319, 3) := dk_180 1 63 (dk_at dksX0_isCounted_5 8 rfl rfl)
theorem dX0_isCounted_125 : decode cX0_isCounted 125 = .ok (.if_icmp .ne 49, 3) := dk_160 0 49 (dk_at dksX0_isCounted_5 11 rfl rfl)
theorem dX0_isCounted_128 : decode cX0_isCounted 128 = .ok (.aload_n 1, 1) := dk_43 (dk_at dksX0_isCounted_5 14 rfl rfl)
theorem dX0_isCounted_129 : decode cX0_isCounted 129 = .ok (.invokevirtual 320, 3) := dk_182 1 64 (dk_at dksX0_isCounted_5 15 rfl rfl)
theorem dX0_isCounted_132 : decode cX0_isCounted 132 = .ok (.aload_n 0, 1) := dk_42 (dk_at dksX0_isCounted_5 18 rfl rfl)
theorem dX0_isCounted_133 : decode cX0_isCounted 133 = .ok (.getfield 17, 3) := dk_180 0 17 (dk_at dksX0_isCounted_5 19 rfl rfl)
theorem dX0_isCounted_136 : decode cX0_isCounted 136 = .ok (.getfield 319, 3) := dk_180 1 63 (dk_at dksX0_isCounted_6 0 rfl rfl)
theorem dX0_isCounted_139 : decode cX0_isCounted 139 = .ok (.if_icmp .ne 35, 3) := dk_160 0 35 (dk_at dksX0_isCounted_6 3 rfl rfl)
theorem dX0_isCounted_142 : decode cX0_isCounted 142 = .ok (.aload_n 0, 1) := dk_42 (dk_at dksX0_isCounted_6 6 rfl rfl)
theorem dX0_isCounted_143 : decode cX0_isCounted 143 = .ok (.getfield 17, 3) := dk_180 0 17 (dk_at dksX0_isCounted_6 7 rfl rfl)
theorem dX0_isCounted_146 : decode cX0_isCounted 146 = .ok (.getfield 306, 3) := dk_180 1 50 (dk_at dksX0_isCounted_6 10 rfl rfl)
theorem dX0_isCounted_149 : decode cX0_isCounted 149 = .ok (.invokevirtual 320, 3) := dk_182 1 64 (dk_at dksX0_isCounted_6 13 rfl rfl)
theorem dX0_isCounted_152 : decode cX0_isCounted 152 = .ok (.aload_n 0, 1) := dk_42 (dk_at dksX0_isCounted_6 16 rfl rfl)
theorem dX0_isCounted_153 : decode cX0_isCounted 153 = .ok (.getfield 17, 3) := dk_180 0 17 (dk_at dksX0_isCounted_6 17 rfl rfl)
theorem dX0_isCounted_156 : decode cX0_isCounted 156 = .ok (.getfield 314, 3) := dk_180 1 58 (dk_at dksX0_isCounted_6 20 rfl rfl)
theorem dX0_isCounted_159 : decode cX0_isCounted 159 = .ok (.aload_n 0, 1) := dk_42 (dk_at dksX0_isCounted_6 23 rfl rfl)
theorem dX0_isCounted_160 : decode cX0_isCounted 160 = .ok (.getfield 17, 3) := dk_180 0 17 (dk_at dksX0_isCounted_7 0 rfl rfl)
theorem dX0_isCounted_163 : decode cX0_isCounted 163 = .ok (.getfield 316, 3) := dk_180 1 60 (dk_at dksX0_isCounted_7 3 rfl rfl)
theorem dX0_isCounted_166 : decode cX0_isCounted 166 = .ok (.iadd, 1) := dk_96 (dk_at dksX0_isCounted_7 6 rfl rfl)
theorem dX0_isCounted_167 : decode cX0_isCounted 167 = .ok (.if_icmp .ne 7, 3) := dk_160 0 7 (dk_at dksX0_isCounted_7 7 rfl rfl)
theorem dX0_isCounted_170 : decode cX0_isCounted 170 = .ok (.iconst 1, 1) := dk_4 (dk_at dksX0_isCounted_7 10 rfl rfl)
theorem dX0_isCounted_171 : decode cX0_isCounted 171 = .ok (.goto 4, 3) := dk_167 0 4 (dk_at dksX0_isCounted_7 11 rfl rfl)
theorem dX0_isCounted_174 : decode cX0_isCounted 174 = .ok (.iconst 0, 1) := dk_3 (dk_at dksX0_isCounted_7 14 rfl rfl)
theorem dX0_isCounted_175 : decode cX0_isCounted 175 = .ok (.ireturn, 1) := dk_172 (dk_at dksX0_isCounted_7 15 rfl rfl)
abbrev cX0_marks : ByteArray := prog_1_method_34_code
def yX0_marks : MethodName := ⟨RX0, "marks", "(Ljava/util/BitSet;Ljava/lang/Iterable;)I"⟩
def dkwX0_marks_3 : List UInt8 := [167, 255, 222, 167, 255, 192, 28, 172]
abbrev dktX0_marks_3 : List UInt8 := dkwX0_marks_3 ++ []
def dkwX0_marks_2 : List UInt8 := [185, 0, 210, 1, 0, 192, 0, 194, 58, 6, 42, 25, 6, 180, 0, 193, 182, 1, 39, 132, 2, 1]
abbrev dktX0_marks_2 : List UInt8 := dkwX0_marks_2 ++ dktX0_marks_3
def dkwX0_marks_1 : List UInt8 := [192, 0, 174, 58, 4, 25, 4, 182, 1, 38, 58, 5, 25, 5, 185, 0, 204, 1, 0, 153, 0, 30, 25, 5]
abbrev dktX0_marks_1 : List UInt8 := dkwX0_marks_1 ++ dktX0_marks_2
def dkwX0_marks_0 : List UInt8 := [3, 61, 43, 185, 0, 198, 1, 0, 78, 45, 185, 0, 204, 1, 0, 153, 0, 61, 45, 185, 0, 210, 1, 0]
abbrev dktX0_marks_0 : List UInt8 := dkwX0_marks_0 ++ dktX0_marks_1
theorem dksX0_marks_0 : cX0_marks.data.toList.drop 0 = dktX0_marks_0 := by decide +kernel
theorem dksX0_marks_1 : cX0_marks.data.toList.drop 24 = dktX0_marks_1 := dk_seg dksX0_marks_0 24 rfl rfl
theorem dksX0_marks_2 : cX0_marks.data.toList.drop 48 = dktX0_marks_2 := dk_seg dksX0_marks_1 24 rfl rfl
theorem dksX0_marks_3 : cX0_marks.data.toList.drop 70 = dktX0_marks_3 := dk_seg dksX0_marks_2 22 rfl rfl
theorem dX0_marks_0 : decode cX0_marks 0 = .ok (.iconst 0, 1) := dk_3 (dk_at dksX0_marks_0 0 rfl rfl)
theorem dX0_marks_1 : decode cX0_marks 1 = .ok (.istore_n 2, 1) := dk_61 (dk_at dksX0_marks_0 1 rfl rfl)
theorem dX0_marks_2 : decode cX0_marks 2 = .ok (.aload_n 1, 1) := dk_43 (dk_at dksX0_marks_0 2 rfl rfl)
theorem dX0_marks_3 : decode cX0_marks 3 = .ok (.invokeinterface 198 1, 5) := by decide +kernel
theorem dX0_marks_8 : decode cX0_marks 8 = .ok (.astore_n 3, 1) := dk_78 (dk_at dksX0_marks_0 8 rfl rfl)
theorem dX0_marks_9 : decode cX0_marks 9 = .ok (.aload_n 3, 1) := dk_45 (dk_at dksX0_marks_0 9 rfl rfl)
theorem dX0_marks_10 : decode cX0_marks 10 = .ok (.invokeinterface 204 1, 5) := by decide +kernel
theorem dX0_marks_15 : decode cX0_marks 15 = .ok (.ifCond .eq 61, 3) := dk_153 0 61 (dk_at dksX0_marks_0 15 rfl rfl)
theorem dX0_marks_18 : decode cX0_marks 18 = .ok (.aload_n 3, 1) := dk_45 (dk_at dksX0_marks_0 18 rfl rfl)
theorem dX0_marks_19 : decode cX0_marks 19 = .ok (.invokeinterface 210 1, 5) := by decide +kernel
theorem dX0_marks_24 : decode cX0_marks 24 = .ok (.checkcast 174, 3) := dk_192 0 174 (dk_at dksX0_marks_1 0 rfl rfl)
theorem dX0_marks_27 : decode cX0_marks 27 = .ok (.astore 4, 2) := dk_58 4 (dk_at dksX0_marks_1 3 rfl rfl)
theorem dX0_marks_29 : decode cX0_marks 29 = .ok (.aload 4, 2) := dk_25 4 (dk_at dksX0_marks_1 5 rfl rfl)
theorem dX0_marks_31 : decode cX0_marks 31 = .ok (.invokevirtual 294, 3) := dk_182 1 38 (dk_at dksX0_marks_1 7 rfl rfl)
theorem dX0_marks_34 : decode cX0_marks 34 = .ok (.astore 5, 2) := dk_58 5 (dk_at dksX0_marks_1 10 rfl rfl)
theorem dX0_marks_36 : decode cX0_marks 36 = .ok (.aload 5, 2) := dk_25 5 (dk_at dksX0_marks_1 12 rfl rfl)
theorem dX0_marks_38 : decode cX0_marks 38 = .ok (.invokeinterface 204 1, 5) := by decide +kernel
theorem dX0_marks_43 : decode cX0_marks 43 = .ok (.ifCond .eq 30, 3) := dk_153 0 30 (dk_at dksX0_marks_1 19 rfl rfl)
theorem dX0_marks_46 : decode cX0_marks 46 = .ok (.aload 5, 2) := dk_25 5 (dk_at dksX0_marks_1 22 rfl rfl)
theorem dX0_marks_48 : decode cX0_marks 48 = .ok (.invokeinterface 210 1, 5) := by decide +kernel
theorem dX0_marks_53 : decode cX0_marks 53 = .ok (.checkcast 194, 3) := dk_192 0 194 (dk_at dksX0_marks_2 5 rfl rfl)
theorem dX0_marks_56 : decode cX0_marks 56 = .ok (.astore 6, 2) := dk_58 6 (dk_at dksX0_marks_2 8 rfl rfl)
theorem dX0_marks_58 : decode cX0_marks 58 = .ok (.aload_n 0, 1) := dk_42 (dk_at dksX0_marks_2 10 rfl rfl)
theorem dX0_marks_59 : decode cX0_marks 59 = .ok (.aload 6, 2) := dk_25 6 (dk_at dksX0_marks_2 11 rfl rfl)
theorem dX0_marks_61 : decode cX0_marks 61 = .ok (.getfield 193, 3) := dk_180 0 193 (dk_at dksX0_marks_2 13 rfl rfl)
theorem dX0_marks_64 : decode cX0_marks 64 = .ok (.invokevirtual 295, 3) := dk_182 1 39 (dk_at dksX0_marks_2 16 rfl rfl)
theorem dX0_marks_67 : decode cX0_marks 67 = .ok (.iinc 2 1, 3) := dk_132 2 1 (dk_at dksX0_marks_2 19 rfl rfl)
theorem dX0_marks_70 : decode cX0_marks 70 = .ok (.goto (-34), 3) := dk_167 255 222 (dk_at dksX0_marks_3 0 rfl rfl)
theorem dX0_marks_73 : decode cX0_marks 73 = .ok (.goto (-64), 3) := dk_167 255 192 (dk_at dksX0_marks_3 3 rfl rfl)
theorem dX0_marks_76 : decode cX0_marks 76 = .ok (.iload_n 2, 1) := dk_28 (dk_at dksX0_marks_3 6 rfl rfl)
theorem dX0_marks_77 : decode cX0_marks 77 = .ok (.ireturn, 1) := dk_172 (dk_at dksX0_marks_3 7 rfl rfl)
abbrev cX0_meanFineness : ByteArray := prog_1_method_36_code
def yX0_meanFineness : MethodName := ⟨RX0, "meanFineness", "()D"⟩
def dkwX0_meanFineness_1 : List UInt8 := [180, 0, 169, 182, 1, 67, 135, 27, 135, 111, 175]
abbrev dktX0_meanFineness_1 : List UInt8 := dkwX0_meanFineness_1 ++ []
def dkwX0_meanFineness_0 : List UInt8 := [42, 180, 0, 17, 180, 0, 169, 182, 1, 37, 60, 27, 154, 0, 7, 14, 167, 0, 17, 42, 180, 0, 17]
abbrev dktX0_meanFineness_0 : List UInt8 := dkwX0_meanFineness_0 ++ dktX0_meanFineness_1
theorem dksX0_meanFineness_0 : cX0_meanFineness.data.toList.drop 0 = dktX0_meanFineness_0 := by decide +kernel
theorem dksX0_meanFineness_1 : cX0_meanFineness.data.toList.drop 23 = dktX0_meanFineness_1 := dk_seg dksX0_meanFineness_0 23 rfl rfl
theorem dX0_meanFineness_0 : decode cX0_meanFineness 0 = .ok (.aload_n 0, 1) := dk_42 (dk_at dksX0_meanFineness_0 0 rfl rfl)
theorem dX0_meanFineness_1 : decode cX0_meanFineness 1 = .ok (.getfield 17, 3) := dk_180 0 17 (dk_at dksX0_meanFineness_0 1 rfl rfl)
theorem dX0_meanFineness_4 : decode cX0_meanFineness 4 = .ok (.getfield 169, 3) := dk_180 0 169 (dk_at dksX0_meanFineness_0 4 rfl rfl)
theorem dX0_meanFineness_7 : decode cX0_meanFineness 7 = .ok (.invokevirtual 293, 3) := dk_182 1 37 (dk_at dksX0_meanFineness_0 7 rfl rfl)
theorem dX0_meanFineness_10 : decode cX0_meanFineness 10 = .ok (.istore_n 1, 1) := dk_60 (dk_at dksX0_meanFineness_0 10 rfl rfl)
theorem dX0_meanFineness_11 : decode cX0_meanFineness 11 = .ok (.iload_n 1, 1) := dk_27 (dk_at dksX0_meanFineness_0 11 rfl rfl)
theorem dX0_meanFineness_12 : decode cX0_meanFineness 12 = .ok (.ifCond .ne 7, 3) := dk_154 0 7 (dk_at dksX0_meanFineness_0 12 rfl rfl)
theorem dX0_meanFineness_15 : decode cX0_meanFineness 15 = .ok (.dconst 0, 1) := dk_14 (dk_at dksX0_meanFineness_0 15 rfl rfl)
theorem dX0_meanFineness_16 : decode cX0_meanFineness 16 = .ok (.goto 17, 3) := dk_167 0 17 (dk_at dksX0_meanFineness_0 16 rfl rfl)
theorem dX0_meanFineness_19 : decode cX0_meanFineness 19 = .ok (.aload_n 0, 1) := dk_42 (dk_at dksX0_meanFineness_0 19 rfl rfl)
theorem dX0_meanFineness_20 : decode cX0_meanFineness 20 = .ok (.getfield 17, 3) := dk_180 0 17 (dk_at dksX0_meanFineness_0 20 rfl rfl)
theorem dX0_meanFineness_23 : decode cX0_meanFineness 23 = .ok (.getfield 169, 3) := dk_180 0 169 (dk_at dksX0_meanFineness_1 0 rfl rfl)
theorem dX0_meanFineness_26 : decode cX0_meanFineness 26 = .ok (.invokevirtual 323, 3) := dk_182 1 67 (dk_at dksX0_meanFineness_1 3 rfl rfl)
theorem dX0_meanFineness_29 : decode cX0_meanFineness 29 = .ok (.i2d, 1) := dk_135 (dk_at dksX0_meanFineness_1 6 rfl rfl)
theorem dX0_meanFineness_30 : decode cX0_meanFineness 30 = .ok (.iload_n 1, 1) := dk_27 (dk_at dksX0_meanFineness_1 7 rfl rfl)
theorem dX0_meanFineness_31 : decode cX0_meanFineness 31 = .ok (.i2d, 1) := dk_135 (dk_at dksX0_meanFineness_1 8 rfl rfl)
theorem dX0_meanFineness_32 : decode cX0_meanFineness 32 = .ok (.ddiv, 1) := dk_111 (dk_at dksX0_meanFineness_1 9 rfl rfl)
theorem dX0_meanFineness_33 : decode cX0_meanFineness 33 = .ok (.dreturn, 1) := dk_175 (dk_at dksX0_meanFineness_1 10 rfl rfl)
abbrev cX0_spoilt : ByteArray := prog_1_method_37_code
def yX0_spoilt : MethodName := ⟨RX0, "spoilt", "()F"⟩
def dkwX0_spoilt_1 : List UInt8 := [42, 180, 0, 17, 180, 1, 69, 134, 27, 134, 110, 174]
abbrev dktX0_spoilt_1 : List UInt8 := dkwX0_spoilt_1 ++ []
def dkwX0_spoilt_0 : List UInt8 := [42, 180, 0, 17, 180, 1, 63, 42, 180, 0, 17, 180, 1, 69, 96, 60, 27, 154, 0, 7, 11, 167, 0, 14]
abbrev dktX0_spoilt_0 : List UInt8 := dkwX0_spoilt_0 ++ dktX0_spoilt_1
theorem dksX0_spoilt_0 : cX0_spoilt.data.toList.drop 0 = dktX0_spoilt_0 := by decide +kernel
theorem dksX0_spoilt_1 : cX0_spoilt.data.toList.drop 24 = dktX0_spoilt_1 := dk_seg dksX0_spoilt_0 24 rfl rfl
theorem dX0_spoilt_0 : decode cX0_spoilt 0 = .ok (.aload_n 0, 1) := dk_42 (dk_at dksX0_spoilt_0 0 rfl rfl)
theorem dX0_spoilt_1 : decode cX0_spoilt 1 = .ok (.getfield 17, 3) := dk_180 0 17 (dk_at dksX0_spoilt_0 1 rfl rfl)
theorem dX0_spoilt_4 : decode cX0_spoilt 4 = .ok (.getfield 319, 3) := dk_180 1 63 (dk_at dksX0_spoilt_0 4 rfl rfl)
theorem dX0_spoilt_7 : decode cX0_spoilt 7 = .ok (.aload_n 0, 1) := dk_42 (dk_at dksX0_spoilt_0 7 rfl rfl)
theorem dX0_spoilt_8 : decode cX0_spoilt 8 = .ok (.getfield 17, 3) := dk_180 0 17 (dk_at dksX0_spoilt_0 8 rfl rfl)
theorem dX0_spoilt_11 : decode cX0_spoilt 11 = .ok (.getfield 325, 3) := dk_180 1 69 (dk_at dksX0_spoilt_0 11 rfl rfl)
theorem dX0_spoilt_14 : decode cX0_spoilt 14 = .ok (.iadd, 1) := dk_96 (dk_at dksX0_spoilt_0 14 rfl rfl)
theorem dX0_spoilt_15 : decode cX0_spoilt 15 = .ok (.istore_n 1, 1) := dk_60 (dk_at dksX0_spoilt_0 15 rfl rfl)
theorem dX0_spoilt_16 : decode cX0_spoilt 16 = .ok (.iload_n 1, 1) := dk_27 (dk_at dksX0_spoilt_0 16 rfl rfl)
theorem dX0_spoilt_17 : decode cX0_spoilt 17 = .ok (.ifCond .ne 7, 3) := dk_154 0 7 (dk_at dksX0_spoilt_0 17 rfl rfl)
theorem dX0_spoilt_20 : decode cX0_spoilt 20 = .ok (.fconst 0, 1) := dk_11 (dk_at dksX0_spoilt_0 20 rfl rfl)
theorem dX0_spoilt_21 : decode cX0_spoilt 21 = .ok (.goto 14, 3) := dk_167 0 14 (dk_at dksX0_spoilt_0 21 rfl rfl)
theorem dX0_spoilt_24 : decode cX0_spoilt 24 = .ok (.aload_n 0, 1) := dk_42 (dk_at dksX0_spoilt_1 0 rfl rfl)
theorem dX0_spoilt_25 : decode cX0_spoilt 25 = .ok (.getfield 17, 3) := dk_180 0 17 (dk_at dksX0_spoilt_1 1 rfl rfl)
theorem dX0_spoilt_28 : decode cX0_spoilt 28 = .ok (.getfield 325, 3) := dk_180 1 69 (dk_at dksX0_spoilt_1 4 rfl rfl)
theorem dX0_spoilt_31 : decode cX0_spoilt 31 = .ok (.i2f, 1) := dk_134 (dk_at dksX0_spoilt_1 7 rfl rfl)
theorem dX0_spoilt_32 : decode cX0_spoilt 32 = .ok (.iload_n 1, 1) := dk_27 (dk_at dksX0_spoilt_1 8 rfl rfl)
theorem dX0_spoilt_33 : decode cX0_spoilt 33 = .ok (.i2f, 1) := dk_134 (dk_at dksX0_spoilt_1 9 rfl rfl)
theorem dX0_spoilt_34 : decode cX0_spoilt 34 = .ok (.fdiv, 1) := dk_110 (dk_at dksX0_spoilt_1 10 rfl rfl)
theorem dX0_spoilt_35 : decode cX0_spoilt 35 = .ok (.freturn, 1) := dk_174 (dk_at dksX0_spoilt_1 11 rfl rfl)
abbrev cX0_account : ByteArray := prog_1_method_38_code
def yX0_account : MethodName := ⟨RX0, "account", "(I)I"⟩
def dkwX0_account_10 : List UInt8 := [182, 1, 92, 172, 16, 254, 172]
abbrev dktX0_account_10 : List UInt8 := dkwX0_account_10 ++ []
def dkwX0_account_9 : List UInt8 := [180, 0, 17, 180, 1, 58, 172, 42, 180, 0, 17, 180, 1, 60, 172, 42, 180, 1, 89, 172, 42, 180, 0, 24]
abbrev dktX0_account_9 : List UInt8 := dkwX0_account_9 ++ dktX0_account_10
def dkwX0_account_8 : List UInt8 := [180, 1, 9, 182, 0, 249, 172, 42, 180, 0, 17, 180, 1, 85, 172, 42, 180, 0, 17, 180, 1, 88, 172, 42]
abbrev dktX0_account_8 : List UInt8 := dkwX0_account_8 ++ dktX0_account_9
def dkwX0_account_7 : List UInt8 := [180, 0, 17, 180, 1, 82, 172, 42, 180, 0, 17, 180, 1, 12, 182, 0, 249, 172, 42, 180, 0, 17]
abbrev dktX0_account_7 : List UInt8 := dkwX0_account_7 ++ dktX0_account_8
def dkwX0_account_6 : List UInt8 := [180, 0, 17, 180, 0, 217, 184, 1, 79, 172, 42, 180, 0, 17, 180, 0, 246, 182, 0, 249, 172, 42]
abbrev dktX0_account_6 : List UInt8 := dkwX0_account_6 ++ dktX0_account_7
def dkwX0_account_5 : List UInt8 := [180, 0, 17, 180, 1, 69, 172, 42, 180, 0, 17, 180, 0, 217, 182, 0, 249, 172, 42, 182, 1, 76, 172, 42]
abbrev dktX0_account_5 : List UInt8 := dkwX0_account_5 ++ dktX0_account_6
def dkwX0_account_4 : List UInt8 := [182, 0, 249, 172, 42, 180, 0, 17, 180, 0, 169, 182, 1, 37, 172, 42, 180, 0, 17, 180, 1, 63, 172, 42]
abbrev dktX0_account_4 : List UInt8 := dkwX0_account_4 ++ dktX0_account_5
def dkwX0_account_3 : List UInt8 := [180, 1, 73, 172, 42, 180, 0, 17, 180, 0, 127, 182, 0, 249, 172, 42, 180, 0, 17, 180, 0, 158]
abbrev dktX0_account_3 : List UInt8 := dkwX0_account_3 ++ dktX0_account_4
def dkwX0_account_2 : List UInt8 := [42, 180, 0, 17, 180, 0, 255, 172, 42, 180, 0, 17, 180, 0, 255, 184, 1, 70, 172, 42, 180, 0, 17]
abbrev dktX0_account_2 : List UInt8 := dkwX0_account_2 ++ dktX0_account_3
def dkwX0_account_1 : List UInt8 := [170, 0, 0, 0, 0, 1, 32, 0, 0, 0, 0, 0, 0, 0, 20, 0, 0, 0, 99, 0, 0, 0, 107, 0, 0, 0, 118, 0, 0, 0, 126, 0, 0, 0, 137, 0, 0, 0, 148, 0, 0, 0, 159, 0, 0, 0, 167, 0, 0, 0, 175, 0, 0, 0, 186, 0, 0, 0, 191, 0, 0, 0, 202, 0, 0, 0, 213, 0, 0, 0, 221, 0, 0, 0, 232, 0, 0, 0, 243, 0, 0, 0, 251, 0, 0, 1, 3, 0, 0, 1, 11, 0, 0, 1, 19, 0, 0, 1, 24]
abbrev dktX0_account_1 : List UInt8 := dkwX0_account_1 ++ dktX0_account_2
def dkwX0_account_0 : List UInt8 := [27]
abbrev dktX0_account_0 : List UInt8 := dkwX0_account_0 ++ dktX0_account_1
theorem dksX0_account_0 : cX0_account.data.toList.drop 0 = dktX0_account_0 := by decide +kernel
theorem dksX0_account_1 : cX0_account.data.toList.drop 1 = dktX0_account_1 := dk_seg dksX0_account_0 1 rfl rfl
theorem dksX0_account_2 : cX0_account.data.toList.drop 100 = dktX0_account_2 := dk_seg dksX0_account_1 99 rfl rfl
theorem dksX0_account_3 : cX0_account.data.toList.drop 123 = dktX0_account_3 := dk_seg dksX0_account_2 23 rfl rfl
theorem dksX0_account_4 : cX0_account.data.toList.drop 145 = dktX0_account_4 := dk_seg dksX0_account_3 22 rfl rfl
theorem dksX0_account_5 : cX0_account.data.toList.drop 169 = dktX0_account_5 := dk_seg dksX0_account_4 24 rfl rfl
theorem dksX0_account_6 : cX0_account.data.toList.drop 193 = dktX0_account_6 := dk_seg dksX0_account_5 24 rfl rfl
theorem dksX0_account_7 : cX0_account.data.toList.drop 215 = dktX0_account_7 := dk_seg dksX0_account_6 22 rfl rfl
theorem dksX0_account_8 : cX0_account.data.toList.drop 237 = dktX0_account_8 := dk_seg dksX0_account_7 22 rfl rfl
theorem dksX0_account_9 : cX0_account.data.toList.drop 261 = dktX0_account_9 := dk_seg dksX0_account_8 24 rfl rfl
theorem dksX0_account_10 : cX0_account.data.toList.drop 285 = dktX0_account_10 := dk_seg dksX0_account_9 24 rfl rfl
theorem dX0_account_0 : decode cX0_account 0 = .ok (.iload_n 1, 1) := dk_27 (dk_at dksX0_account_0 0 rfl rfl)
theorem dX0_account_1 : decode cX0_account 1 = .ok (.tableswitch 288 0 20 #[99, 107, 118, 126, 137, 148, 159, 167, 175, 186, 191, 202, 213, 221, 232, 243, 251, 259, 267, 275, 280], 99) := by decide +kernel
theorem dX0_account_100 : decode cX0_account 100 = .ok (.aload_n 0, 1) := dk_42 (dk_at dksX0_account_2 0 rfl rfl)
theorem dX0_account_101 : decode cX0_account 101 = .ok (.getfield 17, 3) := dk_180 0 17 (dk_at dksX0_account_2 1 rfl rfl)
theorem dX0_account_104 : decode cX0_account 104 = .ok (.getfield 255, 3) := dk_180 0 255 (dk_at dksX0_account_2 4 rfl rfl)
theorem dX0_account_107 : decode cX0_account 107 = .ok (.ireturn, 1) := dk_172 (dk_at dksX0_account_2 7 rfl rfl)
theorem dX0_account_108 : decode cX0_account 108 = .ok (.aload_n 0, 1) := dk_42 (dk_at dksX0_account_2 8 rfl rfl)
theorem dX0_account_109 : decode cX0_account 109 = .ok (.getfield 17, 3) := dk_180 0 17 (dk_at dksX0_account_2 9 rfl rfl)
theorem dX0_account_112 : decode cX0_account 112 = .ok (.getfield 255, 3) := dk_180 0 255 (dk_at dksX0_account_2 12 rfl rfl)
theorem dX0_account_115 : decode cX0_account 115 = .ok (.invokestatic 326, 3) := dk_184 1 70 (dk_at dksX0_account_2 15 rfl rfl)
theorem dX0_account_118 : decode cX0_account 118 = .ok (.ireturn, 1) := dk_172 (dk_at dksX0_account_2 18 rfl rfl)
theorem dX0_account_119 : decode cX0_account 119 = .ok (.aload_n 0, 1) := dk_42 (dk_at dksX0_account_2 19 rfl rfl)
theorem dX0_account_120 : decode cX0_account 120 = .ok (.getfield 17, 3) := dk_180 0 17 (dk_at dksX0_account_2 20 rfl rfl)
theorem dX0_account_123 : decode cX0_account 123 = .ok (.getfield 329, 3) := dk_180 1 73 (dk_at dksX0_account_3 0 rfl rfl)
theorem dX0_account_126 : decode cX0_account 126 = .ok (.ireturn, 1) := dk_172 (dk_at dksX0_account_3 3 rfl rfl)
theorem dX0_account_127 : decode cX0_account 127 = .ok (.aload_n 0, 1) := dk_42 (dk_at dksX0_account_3 4 rfl rfl)
theorem dX0_account_128 : decode cX0_account 128 = .ok (.getfield 17, 3) := dk_180 0 17 (dk_at dksX0_account_3 5 rfl rfl)
theorem dX0_account_131 : decode cX0_account 131 = .ok (.getfield 127, 3) := dk_180 0 127 (dk_at dksX0_account_3 8 rfl rfl)
theorem dX0_account_134 : decode cX0_account 134 = .ok (.invokevirtual 249, 3) := dk_182 0 249 (dk_at dksX0_account_3 11 rfl rfl)
theorem dX0_account_137 : decode cX0_account 137 = .ok (.ireturn, 1) := dk_172 (dk_at dksX0_account_3 14 rfl rfl)
theorem dX0_account_138 : decode cX0_account 138 = .ok (.aload_n 0, 1) := dk_42 (dk_at dksX0_account_3 15 rfl rfl)
theorem dX0_account_139 : decode cX0_account 139 = .ok (.getfield 17, 3) := dk_180 0 17 (dk_at dksX0_account_3 16 rfl rfl)
theorem dX0_account_142 : decode cX0_account 142 = .ok (.getfield 158, 3) := dk_180 0 158 (dk_at dksX0_account_3 19 rfl rfl)
theorem dX0_account_145 : decode cX0_account 145 = .ok (.invokevirtual 249, 3) := dk_182 0 249 (dk_at dksX0_account_4 0 rfl rfl)
theorem dX0_account_148 : decode cX0_account 148 = .ok (.ireturn, 1) := dk_172 (dk_at dksX0_account_4 3 rfl rfl)
theorem dX0_account_149 : decode cX0_account 149 = .ok (.aload_n 0, 1) := dk_42 (dk_at dksX0_account_4 4 rfl rfl)
theorem dX0_account_150 : decode cX0_account 150 = .ok (.getfield 17, 3) := dk_180 0 17 (dk_at dksX0_account_4 5 rfl rfl)
theorem dX0_account_153 : decode cX0_account 153 = .ok (.getfield 169, 3) := dk_180 0 169 (dk_at dksX0_account_4 8 rfl rfl)
theorem dX0_account_156 : decode cX0_account 156 = .ok (.invokevirtual 293, 3) := dk_182 1 37 (dk_at dksX0_account_4 11 rfl rfl)
theorem dX0_account_159 : decode cX0_account 159 = .ok (.ireturn, 1) := dk_172 (dk_at dksX0_account_4 14 rfl rfl)
theorem dX0_account_160 : decode cX0_account 160 = .ok (.aload_n 0, 1) := dk_42 (dk_at dksX0_account_4 15 rfl rfl)
theorem dX0_account_161 : decode cX0_account 161 = .ok (.getfield 17, 3) := dk_180 0 17 (dk_at dksX0_account_4 16 rfl rfl)
theorem dX0_account_164 : decode cX0_account 164 = .ok (.getfield 319, 3) := dk_180 1 63 (dk_at dksX0_account_4 19 rfl rfl)
theorem dX0_account_167 : decode cX0_account 167 = .ok (.ireturn, 1) := dk_172 (dk_at dksX0_account_4 22 rfl rfl)
theorem dX0_account_168 : decode cX0_account 168 = .ok (.aload_n 0, 1) := dk_42 (dk_at dksX0_account_4 23 rfl rfl)
theorem dX0_account_169 : decode cX0_account 169 = .ok (.getfield 17, 3) := dk_180 0 17 (dk_at dksX0_account_5 0 rfl rfl)
theorem dX0_account_172 : decode cX0_account 172 = .ok (.getfield 325, 3) := dk_180 1 69 (dk_at dksX0_account_5 3 rfl rfl)
theorem dX0_account_175 : decode cX0_account 175 = .ok (.ireturn, 1) := dk_172 (dk_at dksX0_account_5 6 rfl rfl)
theorem dX0_account_176 : decode cX0_account 176 = .ok (.aload_n 0, 1) := dk_42 (dk_at dksX0_account_5 7 rfl rfl)
theorem dX0_account_177 : decode cX0_account 177 = .ok (.getfield 17, 3) := dk_180 0 17 (dk_at dksX0_account_5 8 rfl rfl)
theorem dX0_account_180 : decode cX0_account 180 = .ok (.getfield 217, 3) := dk_180 0 217 (dk_at dksX0_account_5 11 rfl rfl)
theorem dX0_account_183 : decode cX0_account 183 = .ok (.invokevirtual 249, 3) := dk_182 0 249 (dk_at dksX0_account_5 14 rfl rfl)
theorem dX0_account_186 : decode cX0_account 186 = .ok (.ireturn, 1) := dk_172 (dk_at dksX0_account_5 17 rfl rfl)
theorem dX0_account_187 : decode cX0_account 187 = .ok (.aload_n 0, 1) := dk_42 (dk_at dksX0_account_5 18 rfl rfl)
theorem dX0_account_188 : decode cX0_account 188 = .ok (.invokevirtual 332, 3) := dk_182 1 76 (dk_at dksX0_account_5 19 rfl rfl)
theorem dX0_account_191 : decode cX0_account 191 = .ok (.ireturn, 1) := dk_172 (dk_at dksX0_account_5 22 rfl rfl)
theorem dX0_account_192 : decode cX0_account 192 = .ok (.aload_n 0, 1) := dk_42 (dk_at dksX0_account_5 23 rfl rfl)
theorem dX0_account_193 : decode cX0_account 193 = .ok (.getfield 17, 3) := dk_180 0 17 (dk_at dksX0_account_6 0 rfl rfl)
theorem dX0_account_196 : decode cX0_account 196 = .ok (.getfield 217, 3) := dk_180 0 217 (dk_at dksX0_account_6 3 rfl rfl)
theorem dX0_account_199 : decode cX0_account 199 = .ok (.invokestatic 335, 3) := dk_184 1 79 (dk_at dksX0_account_6 6 rfl rfl)
theorem dX0_account_202 : decode cX0_account 202 = .ok (.ireturn, 1) := dk_172 (dk_at dksX0_account_6 9 rfl rfl)
theorem dX0_account_203 : decode cX0_account 203 = .ok (.aload_n 0, 1) := dk_42 (dk_at dksX0_account_6 10 rfl rfl)
theorem dX0_account_204 : decode cX0_account 204 = .ok (.getfield 17, 3) := dk_180 0 17 (dk_at dksX0_account_6 11 rfl rfl)
theorem dX0_account_207 : decode cX0_account 207 = .ok (.getfield 246, 3) := dk_180 0 246 (dk_at dksX0_account_6 14 rfl rfl)
theorem dX0_account_210 : decode cX0_account 210 = .ok (.invokevirtual 249, 3) := dk_182 0 249 (dk_at dksX0_account_6 17 rfl rfl)
theorem dX0_account_213 : decode cX0_account 213 = .ok (.ireturn, 1) := dk_172 (dk_at dksX0_account_6 20 rfl rfl)
theorem dX0_account_214 : decode cX0_account 214 = .ok (.aload_n 0, 1) := dk_42 (dk_at dksX0_account_6 21 rfl rfl)
theorem dX0_account_215 : decode cX0_account 215 = .ok (.getfield 17, 3) := dk_180 0 17 (dk_at dksX0_account_7 0 rfl rfl)
theorem dX0_account_218 : decode cX0_account 218 = .ok (.getfield 338, 3) := dk_180 1 82 (dk_at dksX0_account_7 3 rfl rfl)
theorem dX0_account_221 : decode cX0_account 221 = .ok (.ireturn, 1) := dk_172 (dk_at dksX0_account_7 6 rfl rfl)
theorem dX0_account_222 : decode cX0_account 222 = .ok (.aload_n 0, 1) := dk_42 (dk_at dksX0_account_7 7 rfl rfl)
theorem dX0_account_223 : decode cX0_account 223 = .ok (.getfield 17, 3) := dk_180 0 17 (dk_at dksX0_account_7 8 rfl rfl)
theorem dX0_account_226 : decode cX0_account 226 = .ok (.getfield 268, 3) := dk_180 1 12 (dk_at dksX0_account_7 11 rfl rfl)
theorem dX0_account_229 : decode cX0_account 229 = .ok (.invokevirtual 249, 3) := dk_182 0 249 (dk_at dksX0_account_7 14 rfl rfl)
theorem dX0_account_232 : decode cX0_account 232 = .ok (.ireturn, 1) := dk_172 (dk_at dksX0_account_7 17 rfl rfl)
theorem dX0_account_233 : decode cX0_account 233 = .ok (.aload_n 0, 1) := dk_42 (dk_at dksX0_account_7 18 rfl rfl)
theorem dX0_account_234 : decode cX0_account 234 = .ok (.getfield 17, 3) := dk_180 0 17 (dk_at dksX0_account_7 19 rfl rfl)
theorem dX0_account_237 : decode cX0_account 237 = .ok (.getfield 265, 3) := dk_180 1 9 (dk_at dksX0_account_8 0 rfl rfl)
theorem dX0_account_240 : decode cX0_account 240 = .ok (.invokevirtual 249, 3) := dk_182 0 249 (dk_at dksX0_account_8 3 rfl rfl)
theorem dX0_account_243 : decode cX0_account 243 = .ok (.ireturn, 1) := dk_172 (dk_at dksX0_account_8 6 rfl rfl)
theorem dX0_account_244 : decode cX0_account 244 = .ok (.aload_n 0, 1) := dk_42 (dk_at dksX0_account_8 7 rfl rfl)
theorem dX0_account_245 : decode cX0_account 245 = .ok (.getfield 17, 3) := dk_180 0 17 (dk_at dksX0_account_8 8 rfl rfl)
theorem dX0_account_248 : decode cX0_account 248 = .ok (.getfield 341, 3) := dk_180 1 85 (dk_at dksX0_account_8 11 rfl rfl)
theorem dX0_account_251 : decode cX0_account 251 = .ok (.ireturn, 1) := dk_172 (dk_at dksX0_account_8 14 rfl rfl)
theorem dX0_account_252 : decode cX0_account 252 = .ok (.aload_n 0, 1) := dk_42 (dk_at dksX0_account_8 15 rfl rfl)
theorem dX0_account_253 : decode cX0_account 253 = .ok (.getfield 17, 3) := dk_180 0 17 (dk_at dksX0_account_8 16 rfl rfl)
theorem dX0_account_256 : decode cX0_account 256 = .ok (.getfield 344, 3) := dk_180 1 88 (dk_at dksX0_account_8 19 rfl rfl)
theorem dX0_account_259 : decode cX0_account 259 = .ok (.ireturn, 1) := dk_172 (dk_at dksX0_account_8 22 rfl rfl)
theorem dX0_account_260 : decode cX0_account 260 = .ok (.aload_n 0, 1) := dk_42 (dk_at dksX0_account_8 23 rfl rfl)
theorem dX0_account_261 : decode cX0_account 261 = .ok (.getfield 17, 3) := dk_180 0 17 (dk_at dksX0_account_9 0 rfl rfl)
theorem dX0_account_264 : decode cX0_account 264 = .ok (.getfield 314, 3) := dk_180 1 58 (dk_at dksX0_account_9 3 rfl rfl)
theorem dX0_account_267 : decode cX0_account 267 = .ok (.ireturn, 1) := dk_172 (dk_at dksX0_account_9 6 rfl rfl)
theorem dX0_account_268 : decode cX0_account 268 = .ok (.aload_n 0, 1) := dk_42 (dk_at dksX0_account_9 7 rfl rfl)
theorem dX0_account_269 : decode cX0_account 269 = .ok (.getfield 17, 3) := dk_180 0 17 (dk_at dksX0_account_9 8 rfl rfl)
theorem dX0_account_272 : decode cX0_account 272 = .ok (.getfield 316, 3) := dk_180 1 60 (dk_at dksX0_account_9 11 rfl rfl)
theorem dX0_account_275 : decode cX0_account 275 = .ok (.ireturn, 1) := dk_172 (dk_at dksX0_account_9 14 rfl rfl)
theorem dX0_account_276 : decode cX0_account 276 = .ok (.aload_n 0, 1) := dk_42 (dk_at dksX0_account_9 15 rfl rfl)
theorem dX0_account_277 : decode cX0_account 277 = .ok (.getfield 345, 3) := dk_180 1 89 (dk_at dksX0_account_9 16 rfl rfl)
theorem dX0_account_280 : decode cX0_account 280 = .ok (.ireturn, 1) := dk_172 (dk_at dksX0_account_9 19 rfl rfl)
theorem dX0_account_281 : decode cX0_account 281 = .ok (.aload_n 0, 1) := dk_42 (dk_at dksX0_account_9 20 rfl rfl)
theorem dX0_account_282 : decode cX0_account 282 = .ok (.getfield 24, 3) := dk_180 0 24 (dk_at dksX0_account_9 21 rfl rfl)
theorem dX0_account_285 : decode cX0_account 285 = .ok (.invokevirtual 348, 3) := dk_182 1 92 (dk_at dksX0_account_10 0 rfl rfl)
theorem dX0_account_288 : decode cX0_account 288 = .ok (.ireturn, 1) := dk_172 (dk_at dksX0_account_10 3 rfl rfl)
theorem dX0_account_289 : decode cX0_account 289 = .ok (.bipush (-2), 2) := dk_16 254 (dk_at dksX0_account_10 4 rfl rfl)
theorem dX0_account_291 : decode cX0_account 291 = .ok (.ireturn, 1) := dk_172 (dk_at dksX0_account_10 6 rfl rfl)
abbrev cX0_doneOnes : ByteArray := prog_1_method_32_code
def yX0_doneOnes : MethodName := ⟨RX0, "doneOnes", "()I"⟩
def dkwX0_doneOnes_1 : List UInt8 := [185, 0, 210, 1, 0, 192, 0, 220, 78, 27, 45, 182, 0, 236, 184, 0, 239, 96, 60, 167, 255, 227, 27, 172]
abbrev dktX0_doneOnes_1 : List UInt8 := dkwX0_doneOnes_1 ++ []
def dkwX0_doneOnes_0 : List UInt8 := [3, 60, 42, 180, 0, 17, 180, 0, 217, 182, 1, 36, 77, 44, 185, 0, 204, 1, 0, 153, 0, 26, 44]
abbrev dktX0_doneOnes_0 : List UInt8 := dkwX0_doneOnes_0 ++ dktX0_doneOnes_1
theorem dksX0_doneOnes_0 : cX0_doneOnes.data.toList.drop 0 = dktX0_doneOnes_0 := by decide +kernel
theorem dksX0_doneOnes_1 : cX0_doneOnes.data.toList.drop 23 = dktX0_doneOnes_1 := dk_seg dksX0_doneOnes_0 23 rfl rfl
theorem dX0_doneOnes_0 : decode cX0_doneOnes 0 = .ok (.iconst 0, 1) := dk_3 (dk_at dksX0_doneOnes_0 0 rfl rfl)
theorem dX0_doneOnes_1 : decode cX0_doneOnes 1 = .ok (.istore_n 1, 1) := dk_60 (dk_at dksX0_doneOnes_0 1 rfl rfl)
theorem dX0_doneOnes_2 : decode cX0_doneOnes 2 = .ok (.aload_n 0, 1) := dk_42 (dk_at dksX0_doneOnes_0 2 rfl rfl)
theorem dX0_doneOnes_3 : decode cX0_doneOnes 3 = .ok (.getfield 17, 3) := dk_180 0 17 (dk_at dksX0_doneOnes_0 3 rfl rfl)
theorem dX0_doneOnes_6 : decode cX0_doneOnes 6 = .ok (.getfield 217, 3) := dk_180 0 217 (dk_at dksX0_doneOnes_0 6 rfl rfl)
theorem dX0_doneOnes_9 : decode cX0_doneOnes 9 = .ok (.invokevirtual 292, 3) := dk_182 1 36 (dk_at dksX0_doneOnes_0 9 rfl rfl)
theorem dX0_doneOnes_12 : decode cX0_doneOnes 12 = .ok (.astore_n 2, 1) := dk_77 (dk_at dksX0_doneOnes_0 12 rfl rfl)
theorem dX0_doneOnes_13 : decode cX0_doneOnes 13 = .ok (.aload_n 2, 1) := dk_44 (dk_at dksX0_doneOnes_0 13 rfl rfl)
theorem dX0_doneOnes_14 : decode cX0_doneOnes 14 = .ok (.invokeinterface 204 1, 5) := by decide +kernel
theorem dX0_doneOnes_19 : decode cX0_doneOnes 19 = .ok (.ifCond .eq 26, 3) := dk_153 0 26 (dk_at dksX0_doneOnes_0 19 rfl rfl)
theorem dX0_doneOnes_22 : decode cX0_doneOnes 22 = .ok (.aload_n 2, 1) := dk_44 (dk_at dksX0_doneOnes_0 22 rfl rfl)
theorem dX0_doneOnes_23 : decode cX0_doneOnes 23 = .ok (.invokeinterface 210 1, 5) := by decide +kernel
theorem dX0_doneOnes_28 : decode cX0_doneOnes 28 = .ok (.checkcast 220, 3) := dk_192 0 220 (dk_at dksX0_doneOnes_1 5 rfl rfl)
theorem dX0_doneOnes_31 : decode cX0_doneOnes 31 = .ok (.astore_n 3, 1) := dk_78 (dk_at dksX0_doneOnes_1 8 rfl rfl)
theorem dX0_doneOnes_32 : decode cX0_doneOnes 32 = .ok (.iload_n 1, 1) := dk_27 (dk_at dksX0_doneOnes_1 9 rfl rfl)
theorem dX0_doneOnes_33 : decode cX0_doneOnes 33 = .ok (.aload_n 3, 1) := dk_45 (dk_at dksX0_doneOnes_1 10 rfl rfl)
theorem dX0_doneOnes_34 : decode cX0_doneOnes 34 = .ok (.invokevirtual 236, 3) := dk_182 0 236 (dk_at dksX0_doneOnes_1 11 rfl rfl)
theorem dX0_doneOnes_37 : decode cX0_doneOnes 37 = .ok (.invokestatic 239, 3) := dk_184 0 239 (dk_at dksX0_doneOnes_1 14 rfl rfl)
theorem dX0_doneOnes_40 : decode cX0_doneOnes 40 = .ok (.iadd, 1) := dk_96 (dk_at dksX0_doneOnes_1 17 rfl rfl)
theorem dX0_doneOnes_41 : decode cX0_doneOnes 41 = .ok (.istore_n 1, 1) := dk_60 (dk_at dksX0_doneOnes_1 18 rfl rfl)
theorem dX0_doneOnes_42 : decode cX0_doneOnes 42 = .ok (.goto (-29), 3) := dk_167 255 227 (dk_at dksX0_doneOnes_1 19 rfl rfl)
theorem dX0_doneOnes_45 : decode cX0_doneOnes 45 = .ok (.iload_n 1, 1) := dk_27 (dk_at dksX0_doneOnes_1 22 rfl rfl)
theorem dX0_doneOnes_46 : decode cX0_doneOnes 46 = .ok (.ireturn, 1) := dk_172 (dk_at dksX0_doneOnes_1 23 rfl rfl)
abbrev cX0_sizes : ByteArray := prog_1_method_33_code
def yX0_sizes : MethodName := ⟨RX0, "sizes", "(Ljava/lang/Iterable;)I"⟩
def dkwX0_sizes_1 : List UInt8 := [192, 0, 174, 78, 27, 45, 182, 1, 37, 96, 60, 167, 255, 230, 27, 172]
abbrev dktX0_sizes_1 : List UInt8 := dkwX0_sizes_1 ++ []
def dkwX0_sizes_0 : List UInt8 := [3, 60, 42, 185, 0, 198, 1, 0, 77, 44, 185, 0, 204, 1, 0, 153, 0, 23, 44, 185, 0, 210, 1, 0]
abbrev dktX0_sizes_0 : List UInt8 := dkwX0_sizes_0 ++ dktX0_sizes_1
theorem dksX0_sizes_0 : cX0_sizes.data.toList.drop 0 = dktX0_sizes_0 := by decide +kernel
theorem dksX0_sizes_1 : cX0_sizes.data.toList.drop 24 = dktX0_sizes_1 := dk_seg dksX0_sizes_0 24 rfl rfl
theorem dX0_sizes_0 : decode cX0_sizes 0 = .ok (.iconst 0, 1) := dk_3 (dk_at dksX0_sizes_0 0 rfl rfl)
theorem dX0_sizes_1 : decode cX0_sizes 1 = .ok (.istore_n 1, 1) := dk_60 (dk_at dksX0_sizes_0 1 rfl rfl)
theorem dX0_sizes_2 : decode cX0_sizes 2 = .ok (.aload_n 0, 1) := dk_42 (dk_at dksX0_sizes_0 2 rfl rfl)
theorem dX0_sizes_3 : decode cX0_sizes 3 = .ok (.invokeinterface 198 1, 5) := by decide +kernel
theorem dX0_sizes_8 : decode cX0_sizes 8 = .ok (.astore_n 2, 1) := dk_77 (dk_at dksX0_sizes_0 8 rfl rfl)
theorem dX0_sizes_9 : decode cX0_sizes 9 = .ok (.aload_n 2, 1) := dk_44 (dk_at dksX0_sizes_0 9 rfl rfl)
theorem dX0_sizes_10 : decode cX0_sizes 10 = .ok (.invokeinterface 204 1, 5) := by decide +kernel
theorem dX0_sizes_15 : decode cX0_sizes 15 = .ok (.ifCond .eq 23, 3) := dk_153 0 23 (dk_at dksX0_sizes_0 15 rfl rfl)
theorem dX0_sizes_18 : decode cX0_sizes 18 = .ok (.aload_n 2, 1) := dk_44 (dk_at dksX0_sizes_0 18 rfl rfl)
theorem dX0_sizes_19 : decode cX0_sizes 19 = .ok (.invokeinterface 210 1, 5) := by decide +kernel
theorem dX0_sizes_24 : decode cX0_sizes 24 = .ok (.checkcast 174, 3) := dk_192 0 174 (dk_at dksX0_sizes_1 0 rfl rfl)
theorem dX0_sizes_27 : decode cX0_sizes 27 = .ok (.astore_n 3, 1) := dk_78 (dk_at dksX0_sizes_1 3 rfl rfl)
theorem dX0_sizes_28 : decode cX0_sizes 28 = .ok (.iload_n 1, 1) := dk_27 (dk_at dksX0_sizes_1 4 rfl rfl)
theorem dX0_sizes_29 : decode cX0_sizes 29 = .ok (.aload_n 3, 1) := dk_45 (dk_at dksX0_sizes_1 5 rfl rfl)
theorem dX0_sizes_30 : decode cX0_sizes 30 = .ok (.invokevirtual 293, 3) := dk_182 1 37 (dk_at dksX0_sizes_1 6 rfl rfl)
theorem dX0_sizes_33 : decode cX0_sizes 33 = .ok (.iadd, 1) := dk_96 (dk_at dksX0_sizes_1 9 rfl rfl)
theorem dX0_sizes_34 : decode cX0_sizes 34 = .ok (.istore_n 1, 1) := dk_60 (dk_at dksX0_sizes_1 10 rfl rfl)
theorem dX0_sizes_35 : decode cX0_sizes 35 = .ok (.goto (-26), 3) := dk_167 255 230 (dk_at dksX0_sizes_1 11 rfl rfl)
theorem dX0_sizes_38 : decode cX0_sizes 38 = .ok (.iload_n 1, 1) := dk_27 (dk_at dksX0_sizes_1 14 rfl rfl)
theorem dX0_sizes_39 : decode cX0_sizes 39 = .ok (.ireturn, 1) := dk_172 (dk_at dksX0_sizes_1 15 rfl rfl)
abbrev cX0_write : ByteArray := prog_1_method_39_code
def yX0_write : MethodName := ⟨RX0, "write", "(I)I"⟩
def dkwX0_write_6 : List UInt8 := [182, 1, 109, 181, 0, 30, 42, 180, 0, 30, 182, 1, 113, 172]
abbrev dktX0_write_6 : List UInt8 := dkwX0_write_6 ++ []
def dkwX0_write_5 : List UInt8 := [16, 43, 182, 1, 100, 87, 167, 255, 178, 42, 21, 4, 154, 0, 9, 19, 1, 107, 167, 0, 7, 45]
abbrev dktX0_write_5 : List UInt8 := dkwX0_write_5 ++ dktX0_write_6
def dkwX0_write_4 : List UInt8 := [4, 96, 112, 154, 0, 26, 21, 4, 44, 180, 0, 225, 4, 96, 108, 44, 180, 0, 231, 163, 0, 10, 45]
abbrev dktX0_write_4 : List UInt8 := dkwX0_write_4 ++ dktX0_write_5
def dkwX0_write_3 : List UInt8 := [182, 1, 96, 182, 1, 100, 25, 6, 180, 0, 214, 182, 1, 104, 87, 132, 4, 1, 21, 4, 44, 180, 0, 225]
abbrev dktX0_write_3 : List UInt8 := dkwX0_write_3 ++ dktX0_write_4
def dkwX0_write_2 : List UInt8 := [185, 0, 204, 1, 0, 153, 0, 74, 25, 5, 185, 0, 210, 1, 0, 192, 0, 194, 58, 6, 45, 25, 6]
abbrev dktX0_write_2 : List UInt8 := dkwX0_write_2 ++ dktX0_write_3
def dkwX0_write_1 : List UInt8 := [192, 0, 220, 77, 187, 1, 93, 89, 183, 1, 95, 78, 3, 54, 4, 44, 182, 0, 245, 58, 5, 25, 5]
abbrev dktX0_write_1 : List UInt8 := dkwX0_write_1 ++ dktX0_write_2
def dkwX0_write_0 : List UInt8 := [42, 180, 0, 17, 27, 182, 0, 93, 154, 0, 5, 2, 172, 42, 180, 0, 17, 180, 0, 217, 27, 182, 0, 131]
abbrev dktX0_write_0 : List UInt8 := dkwX0_write_0 ++ dktX0_write_1
theorem dksX0_write_0 : cX0_write.data.toList.drop 0 = dktX0_write_0 := by decide +kernel
theorem dksX0_write_1 : cX0_write.data.toList.drop 24 = dktX0_write_1 := dk_seg dksX0_write_0 24 rfl rfl
theorem dksX0_write_2 : cX0_write.data.toList.drop 47 = dktX0_write_2 := dk_seg dksX0_write_1 23 rfl rfl
theorem dksX0_write_3 : cX0_write.data.toList.drop 70 = dktX0_write_3 := dk_seg dksX0_write_2 23 rfl rfl
theorem dksX0_write_4 : cX0_write.data.toList.drop 94 = dktX0_write_4 := dk_seg dksX0_write_3 24 rfl rfl
theorem dksX0_write_5 : cX0_write.data.toList.drop 117 = dktX0_write_5 := dk_seg dksX0_write_4 23 rfl rfl
theorem dksX0_write_6 : cX0_write.data.toList.drop 139 = dktX0_write_6 := dk_seg dksX0_write_5 22 rfl rfl
theorem dX0_write_0 : decode cX0_write 0 = .ok (.aload_n 0, 1) := dk_42 (dk_at dksX0_write_0 0 rfl rfl)
theorem dX0_write_1 : decode cX0_write 1 = .ok (.getfield 17, 3) := dk_180 0 17 (dk_at dksX0_write_0 1 rfl rfl)
theorem dX0_write_4 : decode cX0_write 4 = .ok (.iload_n 1, 1) := dk_27 (dk_at dksX0_write_0 4 rfl rfl)
theorem dX0_write_5 : decode cX0_write 5 = .ok (.invokevirtual 93, 3) := dk_182 0 93 (dk_at dksX0_write_0 5 rfl rfl)
theorem dX0_write_8 : decode cX0_write 8 = .ok (.ifCond .ne 5, 3) := dk_154 0 5 (dk_at dksX0_write_0 8 rfl rfl)
theorem dX0_write_11 : decode cX0_write 11 = .ok (.iconst (-1), 1) := dk_2 (dk_at dksX0_write_0 11 rfl rfl)
theorem dX0_write_12 : decode cX0_write 12 = .ok (.ireturn, 1) := dk_172 (dk_at dksX0_write_0 12 rfl rfl)
theorem dX0_write_13 : decode cX0_write 13 = .ok (.aload_n 0, 1) := dk_42 (dk_at dksX0_write_0 13 rfl rfl)
theorem dX0_write_14 : decode cX0_write 14 = .ok (.getfield 17, 3) := dk_180 0 17 (dk_at dksX0_write_0 14 rfl rfl)
theorem dX0_write_17 : decode cX0_write 17 = .ok (.getfield 217, 3) := dk_180 0 217 (dk_at dksX0_write_0 17 rfl rfl)
theorem dX0_write_20 : decode cX0_write 20 = .ok (.iload_n 1, 1) := dk_27 (dk_at dksX0_write_0 20 rfl rfl)
theorem dX0_write_21 : decode cX0_write 21 = .ok (.invokevirtual 131, 3) := dk_182 0 131 (dk_at dksX0_write_0 21 rfl rfl)
theorem dX0_write_24 : decode cX0_write 24 = .ok (.checkcast 220, 3) := dk_192 0 220 (dk_at dksX0_write_1 0 rfl rfl)
theorem dX0_write_27 : decode cX0_write 27 = .ok (.astore_n 2, 1) := dk_77 (dk_at dksX0_write_1 3 rfl rfl)
theorem dX0_write_28 : decode cX0_write 28 = .ok (.new 349, 3) := dk_187 1 93 (dk_at dksX0_write_1 4 rfl rfl)
theorem dX0_write_31 : decode cX0_write 31 = .ok (.dup, 1) := dk_89 (dk_at dksX0_write_1 7 rfl rfl)
theorem dX0_write_32 : decode cX0_write 32 = .ok (.invokespecial 351, 3) := dk_183 1 95 (dk_at dksX0_write_1 8 rfl rfl)
theorem dX0_write_35 : decode cX0_write 35 = .ok (.astore_n 3, 1) := dk_78 (dk_at dksX0_write_1 11 rfl rfl)
theorem dX0_write_36 : decode cX0_write 36 = .ok (.iconst 0, 1) := dk_3 (dk_at dksX0_write_1 12 rfl rfl)
theorem dX0_write_37 : decode cX0_write 37 = .ok (.istore 4, 2) := dk_54 4 (dk_at dksX0_write_1 13 rfl rfl)
theorem dX0_write_39 : decode cX0_write 39 = .ok (.aload_n 2, 1) := dk_44 (dk_at dksX0_write_1 15 rfl rfl)
theorem dX0_write_40 : decode cX0_write 40 = .ok (.invokevirtual 245, 3) := dk_182 0 245 (dk_at dksX0_write_1 16 rfl rfl)
theorem dX0_write_43 : decode cX0_write 43 = .ok (.astore 5, 2) := dk_58 5 (dk_at dksX0_write_1 19 rfl rfl)
theorem dX0_write_45 : decode cX0_write 45 = .ok (.aload 5, 2) := dk_25 5 (dk_at dksX0_write_1 21 rfl rfl)
theorem dX0_write_47 : decode cX0_write 47 = .ok (.invokeinterface 204 1, 5) := by decide +kernel
theorem dX0_write_52 : decode cX0_write 52 = .ok (.ifCond .eq 74, 3) := dk_153 0 74 (dk_at dksX0_write_2 5 rfl rfl)
theorem dX0_write_55 : decode cX0_write 55 = .ok (.aload 5, 2) := dk_25 5 (dk_at dksX0_write_2 8 rfl rfl)
theorem dX0_write_57 : decode cX0_write 57 = .ok (.invokeinterface 210 1, 5) := by decide +kernel
theorem dX0_write_62 : decode cX0_write 62 = .ok (.checkcast 194, 3) := dk_192 0 194 (dk_at dksX0_write_2 15 rfl rfl)
theorem dX0_write_65 : decode cX0_write 65 = .ok (.astore 6, 2) := dk_58 6 (dk_at dksX0_write_2 18 rfl rfl)
theorem dX0_write_67 : decode cX0_write 67 = .ok (.aload_n 3, 1) := dk_45 (dk_at dksX0_write_2 20 rfl rfl)
theorem dX0_write_68 : decode cX0_write 68 = .ok (.aload 6, 2) := dk_25 6 (dk_at dksX0_write_2 21 rfl rfl)
theorem dX0_write_70 : decode cX0_write 70 = .ok (.invokevirtual 352, 3) := dk_182 1 96 (dk_at dksX0_write_3 0 rfl rfl)
theorem dX0_write_73 : decode cX0_write 73 = .ok (.invokevirtual 356, 3) := dk_182 1 100 (dk_at dksX0_write_3 3 rfl rfl)
theorem dX0_write_76 : decode cX0_write 76 = .ok (.aload 6, 2) := dk_25 6 (dk_at dksX0_write_3 6 rfl rfl)
theorem dX0_write_78 : decode cX0_write 78 = .ok (.getfield 214, 3) := dk_180 0 214 (dk_at dksX0_write_3 8 rfl rfl)
theorem dX0_write_81 : decode cX0_write 81 = .ok (.invokevirtual 360, 3) := dk_182 1 104 (dk_at dksX0_write_3 11 rfl rfl)
theorem dX0_write_84 : decode cX0_write 84 = .ok (.pop, 1) := dk_87 (dk_at dksX0_write_3 14 rfl rfl)
theorem dX0_write_85 : decode cX0_write 85 = .ok (.iinc 4 1, 3) := dk_132 4 1 (dk_at dksX0_write_3 15 rfl rfl)
theorem dX0_write_88 : decode cX0_write 88 = .ok (.iload 4, 2) := dk_21 4 (dk_at dksX0_write_3 18 rfl rfl)
theorem dX0_write_90 : decode cX0_write 90 = .ok (.aload_n 2, 1) := dk_44 (dk_at dksX0_write_3 20 rfl rfl)
theorem dX0_write_91 : decode cX0_write 91 = .ok (.getfield 225, 3) := dk_180 0 225 (dk_at dksX0_write_3 21 rfl rfl)
theorem dX0_write_94 : decode cX0_write 94 = .ok (.iconst 1, 1) := dk_4 (dk_at dksX0_write_4 0 rfl rfl)
theorem dX0_write_95 : decode cX0_write 95 = .ok (.iadd, 1) := dk_96 (dk_at dksX0_write_4 1 rfl rfl)
theorem dX0_write_96 : decode cX0_write 96 = .ok (.irem, 1) := dk_112 (dk_at dksX0_write_4 2 rfl rfl)
theorem dX0_write_97 : decode cX0_write 97 = .ok (.ifCond .ne 26, 3) := dk_154 0 26 (dk_at dksX0_write_4 3 rfl rfl)
theorem dX0_write_100 : decode cX0_write 100 = .ok (.iload 4, 2) := dk_21 4 (dk_at dksX0_write_4 6 rfl rfl)
theorem dX0_write_102 : decode cX0_write 102 = .ok (.aload_n 2, 1) := dk_44 (dk_at dksX0_write_4 8 rfl rfl)
theorem dX0_write_103 : decode cX0_write 103 = .ok (.getfield 225, 3) := dk_180 0 225 (dk_at dksX0_write_4 9 rfl rfl)
theorem dX0_write_106 : decode cX0_write 106 = .ok (.iconst 1, 1) := dk_4 (dk_at dksX0_write_4 12 rfl rfl)
theorem dX0_write_107 : decode cX0_write 107 = .ok (.iadd, 1) := dk_96 (dk_at dksX0_write_4 13 rfl rfl)
theorem dX0_write_108 : decode cX0_write 108 = .ok (.idiv, 1) := dk_108 (dk_at dksX0_write_4 14 rfl rfl)
theorem dX0_write_109 : decode cX0_write 109 = .ok (.aload_n 2, 1) := dk_44 (dk_at dksX0_write_4 15 rfl rfl)
theorem dX0_write_110 : decode cX0_write 110 = .ok (.getfield 231, 3) := dk_180 0 231 (dk_at dksX0_write_4 16 rfl rfl)
theorem dX0_write_113 : decode cX0_write 113 = .ok (.if_icmp .gt 10, 3) := dk_163 0 10 (dk_at dksX0_write_4 19 rfl rfl)
theorem dX0_write_116 : decode cX0_write 116 = .ok (.aload_n 3, 1) := dk_45 (dk_at dksX0_write_4 22 rfl rfl)
theorem dX0_write_117 : decode cX0_write 117 = .ok (.bipush 43, 2) := dk_16 43 (dk_at dksX0_write_5 0 rfl rfl)
theorem dX0_write_119 : decode cX0_write 119 = .ok (.invokevirtual 356, 3) := dk_182 1 100 (dk_at dksX0_write_5 2 rfl rfl)
theorem dX0_write_122 : decode cX0_write 122 = .ok (.pop, 1) := dk_87 (dk_at dksX0_write_5 5 rfl rfl)
theorem dX0_write_123 : decode cX0_write 123 = .ok (.goto (-78), 3) := dk_167 255 178 (dk_at dksX0_write_5 6 rfl rfl)
theorem dX0_write_126 : decode cX0_write 126 = .ok (.aload_n 0, 1) := dk_42 (dk_at dksX0_write_5 9 rfl rfl)
theorem dX0_write_127 : decode cX0_write 127 = .ok (.iload 4, 2) := dk_21 4 (dk_at dksX0_write_5 10 rfl rfl)
theorem dX0_write_129 : decode cX0_write 129 = .ok (.ifCond .ne 9, 3) := dk_154 0 9 (dk_at dksX0_write_5 12 rfl rfl)
theorem dX0_write_132 : decode cX0_write 132 = .ok (.ldc_w 363, 3) := dk_19 1 107 (dk_at dksX0_write_5 15 rfl rfl)
theorem dX0_write_135 : decode cX0_write 135 = .ok (.goto 7, 3) := dk_167 0 7 (dk_at dksX0_write_5 18 rfl rfl)
theorem dX0_write_138 : decode cX0_write 138 = .ok (.aload_n 3, 1) := dk_45 (dk_at dksX0_write_5 21 rfl rfl)
theorem dX0_write_139 : decode cX0_write 139 = .ok (.invokevirtual 365, 3) := dk_182 1 109 (dk_at dksX0_write_6 0 rfl rfl)
theorem dX0_write_142 : decode cX0_write 142 = .ok (.putfield 30, 3) := dk_181 0 30 (dk_at dksX0_write_6 3 rfl rfl)
theorem dX0_write_145 : decode cX0_write 145 = .ok (.aload_n 0, 1) := dk_42 (dk_at dksX0_write_6 6 rfl rfl)
theorem dX0_write_146 : decode cX0_write 146 = .ok (.getfield 30, 3) := dk_180 0 30 (dk_at dksX0_write_6 7 rfl rfl)
theorem dX0_write_149 : decode cX0_write 149 = .ok (.invokevirtual 369, 3) := dk_182 1 113 (dk_at dksX0_write_6 10 rfl rfl)
theorem dX0_write_152 : decode cX0_write 152 = .ok (.ireturn, 1) := dk_172 (dk_at dksX0_write_6 13 rfl rfl)
abbrev cX0_written : ByteArray := prog_1_method_40_code
def yX0_written : MethodName := ⟨RX0, "written", "(I)I"⟩
def dkwX0_written_1 : List UInt8 := [182, 1, 118, 167, 0, 4, 2, 172]
abbrev dktX0_written_1 : List UInt8 := dkwX0_written_1 ++ []
def dkwX0_written_0 : List UInt8 := [27, 3, 42, 180, 0, 30, 182, 1, 113, 4, 100, 184, 0, 42, 153, 0, 14, 42, 180, 0, 30, 27]
abbrev dktX0_written_0 : List UInt8 := dkwX0_written_0 ++ dktX0_written_1
theorem dksX0_written_0 : cX0_written.data.toList.drop 0 = dktX0_written_0 := by decide +kernel
theorem dksX0_written_1 : cX0_written.data.toList.drop 22 = dktX0_written_1 := dk_seg dksX0_written_0 22 rfl rfl
theorem dX0_written_0 : decode cX0_written 0 = .ok (.iload_n 1, 1) := dk_27 (dk_at dksX0_written_0 0 rfl rfl)
theorem dX0_written_1 : decode cX0_written 1 = .ok (.iconst 0, 1) := dk_3 (dk_at dksX0_written_0 1 rfl rfl)
theorem dX0_written_2 : decode cX0_written 2 = .ok (.aload_n 0, 1) := dk_42 (dk_at dksX0_written_0 2 rfl rfl)
theorem dX0_written_3 : decode cX0_written 3 = .ok (.getfield 30, 3) := dk_180 0 30 (dk_at dksX0_written_0 3 rfl rfl)
theorem dX0_written_6 : decode cX0_written 6 = .ok (.invokevirtual 369, 3) := dk_182 1 113 (dk_at dksX0_written_0 6 rfl rfl)
theorem dX0_written_9 : decode cX0_written 9 = .ok (.iconst 1, 1) := dk_4 (dk_at dksX0_written_0 9 rfl rfl)
theorem dX0_written_10 : decode cX0_written 10 = .ok (.isub, 1) := dk_100 (dk_at dksX0_written_0 10 rfl rfl)
theorem dX0_written_11 : decode cX0_written 11 = .ok (.invokestatic 42, 3) := dk_184 0 42 (dk_at dksX0_written_0 11 rfl rfl)
theorem dX0_written_14 : decode cX0_written 14 = .ok (.ifCond .eq 14, 3) := dk_153 0 14 (dk_at dksX0_written_0 14 rfl rfl)
theorem dX0_written_17 : decode cX0_written 17 = .ok (.aload_n 0, 1) := dk_42 (dk_at dksX0_written_0 17 rfl rfl)
theorem dX0_written_18 : decode cX0_written 18 = .ok (.getfield 30, 3) := dk_180 0 30 (dk_at dksX0_written_0 18 rfl rfl)
theorem dX0_written_21 : decode cX0_written 21 = .ok (.iload_n 1, 1) := dk_27 (dk_at dksX0_written_0 21 rfl rfl)
theorem dX0_written_22 : decode cX0_written 22 = .ok (.invokevirtual 374, 3) := dk_182 1 118 (dk_at dksX0_written_1 0 rfl rfl)
theorem dX0_written_25 : decode cX0_written 25 = .ok (.goto 4, 3) := dk_167 0 4 (dk_at dksX0_written_1 3 rfl rfl)
theorem dX0_written_28 : decode cX0_written 28 = .ok (.iconst (-1), 1) := dk_2 (dk_at dksX0_written_1 6 rfl rfl)
theorem dX0_written_29 : decode cX0_written 29 = .ok (.ireturn, 1) := dk_172 (dk_at dksX0_written_1 7 rfl rfl)
abbrev cX0_append : ByteArray := prog_1_method_41_code
def yX0_append : MethodName := ⟨RX0, "append", "(C)I"⟩
def dkwX0_append_2 : List UInt8 := [180, 1, 89, 172]
abbrev dktX0_append_2 : List UInt8 := dkwX0_append_2 ++ []
def dkwX0_append_1 : List UInt8 := [16, 252, 172, 42, 180, 0, 34, 42, 180, 1, 89, 27, 85, 42, 89, 180, 1, 89, 4, 96, 181, 1, 89, 42]
abbrev dktX0_append_1 : List UInt8 := dkwX0_append_1 ++ dktX0_append_2
def dkwX0_append_0 : List UInt8 := [27, 16, 32, 16, 126, 184, 0, 42, 154, 0, 6, 16, 254, 172, 42, 180, 1, 89, 16, 60, 160, 0, 6]
abbrev dktX0_append_0 : List UInt8 := dkwX0_append_0 ++ dktX0_append_1
theorem dksX0_append_0 : cX0_append.data.toList.drop 0 = dktX0_append_0 := by decide +kernel
theorem dksX0_append_1 : cX0_append.data.toList.drop 23 = dktX0_append_1 := dk_seg dksX0_append_0 23 rfl rfl
theorem dksX0_append_2 : cX0_append.data.toList.drop 47 = dktX0_append_2 := dk_seg dksX0_append_1 24 rfl rfl
theorem dX0_append_0 : decode cX0_append 0 = .ok (.iload_n 1, 1) := dk_27 (dk_at dksX0_append_0 0 rfl rfl)
theorem dX0_append_1 : decode cX0_append 1 = .ok (.bipush 32, 2) := dk_16 32 (dk_at dksX0_append_0 1 rfl rfl)
theorem dX0_append_3 : decode cX0_append 3 = .ok (.bipush 126, 2) := dk_16 126 (dk_at dksX0_append_0 3 rfl rfl)
theorem dX0_append_5 : decode cX0_append 5 = .ok (.invokestatic 42, 3) := dk_184 0 42 (dk_at dksX0_append_0 5 rfl rfl)
theorem dX0_append_8 : decode cX0_append 8 = .ok (.ifCond .ne 6, 3) := dk_154 0 6 (dk_at dksX0_append_0 8 rfl rfl)
theorem dX0_append_11 : decode cX0_append 11 = .ok (.bipush (-2), 2) := dk_16 254 (dk_at dksX0_append_0 11 rfl rfl)
theorem dX0_append_13 : decode cX0_append 13 = .ok (.ireturn, 1) := dk_172 (dk_at dksX0_append_0 13 rfl rfl)
theorem dX0_append_14 : decode cX0_append 14 = .ok (.aload_n 0, 1) := dk_42 (dk_at dksX0_append_0 14 rfl rfl)
theorem dX0_append_15 : decode cX0_append 15 = .ok (.getfield 345, 3) := dk_180 1 89 (dk_at dksX0_append_0 15 rfl rfl)
theorem dX0_append_18 : decode cX0_append 18 = .ok (.bipush 60, 2) := dk_16 60 (dk_at dksX0_append_0 18 rfl rfl)
theorem dX0_append_20 : decode cX0_append 20 = .ok (.if_icmp .ne 6, 3) := dk_160 0 6 (dk_at dksX0_append_0 20 rfl rfl)
theorem dX0_append_23 : decode cX0_append 23 = .ok (.bipush (-4), 2) := dk_16 252 (dk_at dksX0_append_1 0 rfl rfl)
theorem dX0_append_25 : decode cX0_append 25 = .ok (.ireturn, 1) := dk_172 (dk_at dksX0_append_1 2 rfl rfl)
theorem dX0_append_26 : decode cX0_append 26 = .ok (.aload_n 0, 1) := dk_42 (dk_at dksX0_append_1 3 rfl rfl)
theorem dX0_append_27 : decode cX0_append 27 = .ok (.getfield 34, 3) := dk_180 0 34 (dk_at dksX0_append_1 4 rfl rfl)
theorem dX0_append_30 : decode cX0_append 30 = .ok (.aload_n 0, 1) := dk_42 (dk_at dksX0_append_1 7 rfl rfl)
theorem dX0_append_31 : decode cX0_append 31 = .ok (.getfield 345, 3) := dk_180 1 89 (dk_at dksX0_append_1 8 rfl rfl)
theorem dX0_append_34 : decode cX0_append 34 = .ok (.iload_n 1, 1) := dk_27 (dk_at dksX0_append_1 11 rfl rfl)
theorem dX0_append_35 : decode cX0_append 35 = .ok (.castore, 1) := dk_85 (dk_at dksX0_append_1 12 rfl rfl)
theorem dX0_append_36 : decode cX0_append 36 = .ok (.aload_n 0, 1) := dk_42 (dk_at dksX0_append_1 13 rfl rfl)
theorem dX0_append_37 : decode cX0_append 37 = .ok (.dup, 1) := dk_89 (dk_at dksX0_append_1 14 rfl rfl)
theorem dX0_append_38 : decode cX0_append 38 = .ok (.getfield 345, 3) := dk_180 1 89 (dk_at dksX0_append_1 15 rfl rfl)
theorem dX0_append_41 : decode cX0_append 41 = .ok (.iconst 1, 1) := dk_4 (dk_at dksX0_append_1 18 rfl rfl)
theorem dX0_append_42 : decode cX0_append 42 = .ok (.iadd, 1) := dk_96 (dk_at dksX0_append_1 19 rfl rfl)
theorem dX0_append_43 : decode cX0_append 43 = .ok (.putfield 345, 3) := dk_181 1 89 (dk_at dksX0_append_1 20 rfl rfl)
theorem dX0_append_46 : decode cX0_append 46 = .ok (.aload_n 0, 1) := dk_42 (dk_at dksX0_append_1 23 rfl rfl)
theorem dX0_append_47 : decode cX0_append 47 = .ok (.getfield 345, 3) := dk_180 1 89 (dk_at dksX0_append_2 0 rfl rfl)
theorem dX0_append_50 : decode cX0_append 50 = .ok (.ireturn, 1) := dk_172 (dk_at dksX0_append_2 3 rfl rfl)
abbrev cX0_read : ByteArray := prog_1_method_46_code
def yX0_read : MethodName := ⟨RX0, "read", "()I"⟩
def dkwX0_read_2 : List UInt8 := [181, 1, 89, 28, 172, 78, 42, 3, 181, 1, 89, 45, 191]
abbrev dktX0_read_2 : List UInt8 := dkwX0_read_2 ++ []
def dkwX0_read_1 : List UInt8 := [61, 42, 3, 181, 1, 89, 28, 172, 76, 42, 43, 180, 1, 205, 181, 0, 38, 16, 254, 61, 42, 3]
abbrev dktX0_read_1 : List UInt8 := dkwX0_read_1 ++ dktX0_read_2
def dkwX0_read_0 : List UInt8 := [187, 1, 190, 89, 42, 183, 1, 192, 182, 1, 193, 76, 187, 1, 197, 89, 42, 43, 183, 1, 199, 182, 1, 202]
abbrev dktX0_read_0 : List UInt8 := dkwX0_read_0 ++ dktX0_read_1
theorem dksX0_read_0 : cX0_read.data.toList.drop 0 = dktX0_read_0 := by decide +kernel
theorem dksX0_read_1 : cX0_read.data.toList.drop 24 = dktX0_read_1 := dk_seg dksX0_read_0 24 rfl rfl
theorem dksX0_read_2 : cX0_read.data.toList.drop 46 = dktX0_read_2 := dk_seg dksX0_read_1 22 rfl rfl
theorem dX0_read_0 : decode cX0_read 0 = .ok (.new 446, 3) := dk_187 1 190 (dk_at dksX0_read_0 0 rfl rfl)
theorem dX0_read_3 : decode cX0_read 3 = .ok (.dup, 1) := dk_89 (dk_at dksX0_read_0 3 rfl rfl)
theorem dX0_read_4 : decode cX0_read 4 = .ok (.aload_n 0, 1) := dk_42 (dk_at dksX0_read_0 4 rfl rfl)
theorem dX0_read_5 : decode cX0_read 5 = .ok (.invokespecial 448, 3) := dk_183 1 192 (dk_at dksX0_read_0 5 rfl rfl)
theorem dX0_read_8 : decode cX0_read 8 = .ok (.invokevirtual 449, 3) := dk_182 1 193 (dk_at dksX0_read_0 8 rfl rfl)
theorem dX0_read_11 : decode cX0_read 11 = .ok (.astore_n 1, 1) := dk_76 (dk_at dksX0_read_0 11 rfl rfl)
theorem dX0_read_12 : decode cX0_read 12 = .ok (.new 453, 3) := dk_187 1 197 (dk_at dksX0_read_0 12 rfl rfl)
theorem dX0_read_15 : decode cX0_read 15 = .ok (.dup, 1) := dk_89 (dk_at dksX0_read_0 15 rfl rfl)
theorem dX0_read_16 : decode cX0_read 16 = .ok (.aload_n 0, 1) := dk_42 (dk_at dksX0_read_0 16 rfl rfl)
theorem dX0_read_17 : decode cX0_read 17 = .ok (.aload_n 1, 1) := dk_43 (dk_at dksX0_read_0 17 rfl rfl)
theorem dX0_read_18 : decode cX0_read 18 = .ok (.invokespecial 455, 3) := dk_183 1 199 (dk_at dksX0_read_0 18 rfl rfl)
theorem dX0_read_21 : decode cX0_read 21 = .ok (.invokevirtual 458, 3) := dk_182 1 202 (dk_at dksX0_read_0 21 rfl rfl)
theorem dX0_read_24 : decode cX0_read 24 = .ok (.istore_n 2, 1) := dk_61 (dk_at dksX0_read_1 0 rfl rfl)
theorem dX0_read_25 : decode cX0_read 25 = .ok (.aload_n 0, 1) := dk_42 (dk_at dksX0_read_1 1 rfl rfl)
theorem dX0_read_26 : decode cX0_read 26 = .ok (.iconst 0, 1) := dk_3 (dk_at dksX0_read_1 2 rfl rfl)
theorem dX0_read_27 : decode cX0_read 27 = .ok (.putfield 345, 3) := dk_181 1 89 (dk_at dksX0_read_1 3 rfl rfl)
theorem dX0_read_30 : decode cX0_read 30 = .ok (.iload_n 2, 1) := dk_28 (dk_at dksX0_read_1 6 rfl rfl)
theorem dX0_read_31 : decode cX0_read 31 = .ok (.ireturn, 1) := dk_172 (dk_at dksX0_read_1 7 rfl rfl)
theorem dX0_read_32 : decode cX0_read 32 = .ok (.astore_n 1, 1) := dk_76 (dk_at dksX0_read_1 8 rfl rfl)
theorem dX0_read_33 : decode cX0_read 33 = .ok (.aload_n 0, 1) := dk_42 (dk_at dksX0_read_1 9 rfl rfl)
theorem dX0_read_34 : decode cX0_read 34 = .ok (.aload_n 1, 1) := dk_43 (dk_at dksX0_read_1 10 rfl rfl)
theorem dX0_read_35 : decode cX0_read 35 = .ok (.getfield 461, 3) := dk_180 1 205 (dk_at dksX0_read_1 11 rfl rfl)
theorem dX0_read_38 : decode cX0_read 38 = .ok (.putfield 38, 3) := dk_181 0 38 (dk_at dksX0_read_1 14 rfl rfl)
theorem dX0_read_41 : decode cX0_read 41 = .ok (.bipush (-2), 2) := dk_16 254 (dk_at dksX0_read_1 17 rfl rfl)
theorem dX0_read_43 : decode cX0_read 43 = .ok (.istore_n 2, 1) := dk_61 (dk_at dksX0_read_1 19 rfl rfl)
theorem dX0_read_44 : decode cX0_read 44 = .ok (.aload_n 0, 1) := dk_42 (dk_at dksX0_read_1 20 rfl rfl)
theorem dX0_read_45 : decode cX0_read 45 = .ok (.iconst 0, 1) := dk_3 (dk_at dksX0_read_1 21 rfl rfl)
theorem dX0_read_46 : decode cX0_read 46 = .ok (.putfield 345, 3) := dk_181 1 89 (dk_at dksX0_read_2 0 rfl rfl)
theorem dX0_read_49 : decode cX0_read 49 = .ok (.iload_n 2, 1) := dk_28 (dk_at dksX0_read_2 3 rfl rfl)
theorem dX0_read_50 : decode cX0_read 50 = .ok (.ireturn, 1) := dk_172 (dk_at dksX0_read_2 4 rfl rfl)
theorem dX0_read_51 : decode cX0_read 51 = .ok (.astore_n 3, 1) := dk_78 (dk_at dksX0_read_2 5 rfl rfl)
theorem dX0_read_52 : decode cX0_read 52 = .ok (.aload_n 0, 1) := dk_42 (dk_at dksX0_read_2 6 rfl rfl)
theorem dX0_read_53 : decode cX0_read 53 = .ok (.iconst 0, 1) := dk_3 (dk_at dksX0_read_2 7 rfl rfl)
theorem dX0_read_54 : decode cX0_read 54 = .ok (.putfield 345, 3) := dk_181 1 89 (dk_at dksX0_read_2 8 rfl rfl)
theorem dX0_read_57 : decode cX0_read 57 = .ok (.aload_n 3, 1) := dk_45 (dk_at dksX0_read_2 11 rfl rfl)
theorem dX0_read_58 : decode cX0_read 58 = .ok (.athrow, 1) := dk_191 (dk_at dksX0_read_2 12 rfl rfl)
abbrev cX0_fault : ByteArray := prog_1_method_47_code
def yX0_fault : MethodName := ⟨RX0, "fault", "()I"⟩
def dkwX0_fault_0 : List UInt8 := [42, 180, 0, 38, 156, 0, 8, 16, 253, 167, 0, 7, 42, 180, 0, 38, 172]
abbrev dktX0_fault_0 : List UInt8 := dkwX0_fault_0 ++ []
theorem dksX0_fault_0 : cX0_fault.data.toList.drop 0 = dktX0_fault_0 := by decide +kernel
theorem dX0_fault_0 : decode cX0_fault 0 = .ok (.aload_n 0, 1) := dk_42 (dk_at dksX0_fault_0 0 rfl rfl)
theorem dX0_fault_1 : decode cX0_fault 1 = .ok (.getfield 38, 3) := dk_180 0 38 (dk_at dksX0_fault_0 1 rfl rfl)
theorem dX0_fault_4 : decode cX0_fault 4 = .ok (.ifCond .ge 8, 3) := dk_156 0 8 (dk_at dksX0_fault_0 4 rfl rfl)
theorem dX0_fault_7 : decode cX0_fault 7 = .ok (.bipush (-3), 2) := dk_16 253 (dk_at dksX0_fault_0 7 rfl rfl)
theorem dX0_fault_9 : decode cX0_fault 9 = .ok (.goto 7, 3) := dk_167 0 7 (dk_at dksX0_fault_0 9 rfl rfl)
theorem dX0_fault_12 : decode cX0_fault 12 = .ok (.aload_n 0, 1) := dk_42 (dk_at dksX0_fault_0 12 rfl rfl)
theorem dX0_fault_13 : decode cX0_fault 13 = .ok (.getfield 38, 3) := dk_180 0 38 (dk_at dksX0_fault_0 13 rfl rfl)
theorem dX0_fault_16 : decode cX0_fault 16 = .ok (.ireturn, 1) := dk_172 (dk_at dksX0_fault_0 16 rfl rfl)
abbrev cX0_reason : ByteArray := prog_1_method_48_code
def yX0_reason : MethodName := ⟨RX0, "reason", "(IZ)I"⟩
def dkwX0_reason_2 : List UInt8 := [167, 0, 7, 45, 180, 1, 219, 172]
abbrev dktX0_reason_2 : List UInt8 := dkwX0_reason_2 ++ []
def dkwX0_reason_1 : List UInt8 := [180, 1, 208, 27, 182, 1, 212, 78, 45, 199, 0, 6, 16, 250, 172, 28, 153, 0, 10, 45, 180, 1, 216]
abbrev dktX0_reason_1 : List UInt8 := dkwX0_reason_1 ++ dktX0_reason_2
def dkwX0_reason_0 : List UInt8 := [27, 3, 5, 184, 0, 42, 154, 0, 6, 16, 254, 172, 42, 180, 1, 208, 199, 0, 6, 16, 253, 172, 42]
abbrev dktX0_reason_0 : List UInt8 := dkwX0_reason_0 ++ dktX0_reason_1
theorem dksX0_reason_0 : cX0_reason.data.toList.drop 0 = dktX0_reason_0 := by decide +kernel
theorem dksX0_reason_1 : cX0_reason.data.toList.drop 23 = dktX0_reason_1 := dk_seg dksX0_reason_0 23 rfl rfl
theorem dksX0_reason_2 : cX0_reason.data.toList.drop 46 = dktX0_reason_2 := dk_seg dksX0_reason_1 23 rfl rfl
theorem dX0_reason_0 : decode cX0_reason 0 = .ok (.iload_n 1, 1) := dk_27 (dk_at dksX0_reason_0 0 rfl rfl)
theorem dX0_reason_1 : decode cX0_reason 1 = .ok (.iconst 0, 1) := dk_3 (dk_at dksX0_reason_0 1 rfl rfl)
theorem dX0_reason_2 : decode cX0_reason 2 = .ok (.iconst 2, 1) := dk_5 (dk_at dksX0_reason_0 2 rfl rfl)
theorem dX0_reason_3 : decode cX0_reason 3 = .ok (.invokestatic 42, 3) := dk_184 0 42 (dk_at dksX0_reason_0 3 rfl rfl)
theorem dX0_reason_6 : decode cX0_reason 6 = .ok (.ifCond .ne 6, 3) := dk_154 0 6 (dk_at dksX0_reason_0 6 rfl rfl)
theorem dX0_reason_9 : decode cX0_reason 9 = .ok (.bipush (-2), 2) := dk_16 254 (dk_at dksX0_reason_0 9 rfl rfl)
theorem dX0_reason_11 : decode cX0_reason 11 = .ok (.ireturn, 1) := dk_172 (dk_at dksX0_reason_0 11 rfl rfl)
theorem dX0_reason_12 : decode cX0_reason 12 = .ok (.aload_n 0, 1) := dk_42 (dk_at dksX0_reason_0 12 rfl rfl)
theorem dX0_reason_13 : decode cX0_reason 13 = .ok (.getfield 464, 3) := dk_180 1 208 (dk_at dksX0_reason_0 13 rfl rfl)
theorem dX0_reason_16 : decode cX0_reason 16 = .ok (.ifnonnull 6, 3) := dk_199 0 6 (dk_at dksX0_reason_0 16 rfl rfl)
theorem dX0_reason_19 : decode cX0_reason 19 = .ok (.bipush (-3), 2) := dk_16 253 (dk_at dksX0_reason_0 19 rfl rfl)
theorem dX0_reason_21 : decode cX0_reason 21 = .ok (.ireturn, 1) := dk_172 (dk_at dksX0_reason_0 21 rfl rfl)
theorem dX0_reason_22 : decode cX0_reason 22 = .ok (.aload_n 0, 1) := dk_42 (dk_at dksX0_reason_0 22 rfl rfl)
theorem dX0_reason_23 : decode cX0_reason 23 = .ok (.getfield 464, 3) := dk_180 1 208 (dk_at dksX0_reason_1 0 rfl rfl)
theorem dX0_reason_26 : decode cX0_reason 26 = .ok (.iload_n 1, 1) := dk_27 (dk_at dksX0_reason_1 3 rfl rfl)
theorem dX0_reason_27 : decode cX0_reason 27 = .ok (.invokevirtual 468, 3) := dk_182 1 212 (dk_at dksX0_reason_1 4 rfl rfl)
theorem dX0_reason_30 : decode cX0_reason 30 = .ok (.astore_n 3, 1) := dk_78 (dk_at dksX0_reason_1 7 rfl rfl)
theorem dX0_reason_31 : decode cX0_reason 31 = .ok (.aload_n 3, 1) := dk_45 (dk_at dksX0_reason_1 8 rfl rfl)
theorem dX0_reason_32 : decode cX0_reason 32 = .ok (.ifnonnull 6, 3) := dk_199 0 6 (dk_at dksX0_reason_1 9 rfl rfl)
theorem dX0_reason_35 : decode cX0_reason 35 = .ok (.bipush (-6), 2) := dk_16 250 (dk_at dksX0_reason_1 12 rfl rfl)
theorem dX0_reason_37 : decode cX0_reason 37 = .ok (.ireturn, 1) := dk_172 (dk_at dksX0_reason_1 14 rfl rfl)
theorem dX0_reason_38 : decode cX0_reason 38 = .ok (.iload_n 2, 1) := dk_28 (dk_at dksX0_reason_1 15 rfl rfl)
theorem dX0_reason_39 : decode cX0_reason 39 = .ok (.ifCond .eq 10, 3) := dk_153 0 10 (dk_at dksX0_reason_1 16 rfl rfl)
theorem dX0_reason_42 : decode cX0_reason 42 = .ok (.aload_n 3, 1) := dk_45 (dk_at dksX0_reason_1 19 rfl rfl)
theorem dX0_reason_43 : decode cX0_reason 43 = .ok (.getfield 472, 3) := dk_180 1 216 (dk_at dksX0_reason_1 20 rfl rfl)
theorem dX0_reason_46 : decode cX0_reason 46 = .ok (.goto 7, 3) := dk_167 0 7 (dk_at dksX0_reason_2 0 rfl rfl)
theorem dX0_reason_49 : decode cX0_reason 49 = .ok (.aload_n 3, 1) := dk_45 (dk_at dksX0_reason_2 3 rfl rfl)
theorem dX0_reason_50 : decode cX0_reason 50 = .ok (.getfield 475, 3) := dk_180 1 219 (dk_at dksX0_reason_2 4 rfl rfl)
theorem dX0_reason_53 : decode cX0_reason 53 = .ok (.ireturn, 1) := dk_172 (dk_at dksX0_reason_2 7 rfl rfl)
abbrev cX0_undo : ByteArray := prog_1_method_49_code
def yX0_undo : MethodName := ⟨RX0, "undo", "()I"⟩
def dkwX0_undo_1 : List UInt8 := [181, 0, 17, 42, 180, 0, 24, 182, 1, 92, 172]
abbrev dktX0_undo_1 : List UInt8 := dkwX0_undo_1 ++ []
def dkwX0_undo_0 : List UInt8 := [42, 180, 0, 24, 182, 1, 222, 153, 0, 6, 16, 253, 172, 42, 42, 180, 0, 24, 182, 1, 225, 192, 0, 14]
abbrev dktX0_undo_0 : List UInt8 := dkwX0_undo_0 ++ dktX0_undo_1
theorem dksX0_undo_0 : cX0_undo.data.toList.drop 0 = dktX0_undo_0 := by decide +kernel
theorem dksX0_undo_1 : cX0_undo.data.toList.drop 24 = dktX0_undo_1 := dk_seg dksX0_undo_0 24 rfl rfl
theorem dX0_undo_0 : decode cX0_undo 0 = .ok (.aload_n 0, 1) := dk_42 (dk_at dksX0_undo_0 0 rfl rfl)
theorem dX0_undo_1 : decode cX0_undo 1 = .ok (.getfield 24, 3) := dk_180 0 24 (dk_at dksX0_undo_0 1 rfl rfl)
theorem dX0_undo_4 : decode cX0_undo 4 = .ok (.invokevirtual 478, 3) := dk_182 1 222 (dk_at dksX0_undo_0 4 rfl rfl)
theorem dX0_undo_7 : decode cX0_undo 7 = .ok (.ifCond .eq 6, 3) := dk_153 0 6 (dk_at dksX0_undo_0 7 rfl rfl)
theorem dX0_undo_10 : decode cX0_undo 10 = .ok (.bipush (-3), 2) := dk_16 253 (dk_at dksX0_undo_0 10 rfl rfl)
theorem dX0_undo_12 : decode cX0_undo 12 = .ok (.ireturn, 1) := dk_172 (dk_at dksX0_undo_0 12 rfl rfl)
theorem dX0_undo_13 : decode cX0_undo 13 = .ok (.aload_n 0, 1) := dk_42 (dk_at dksX0_undo_0 13 rfl rfl)
theorem dX0_undo_14 : decode cX0_undo 14 = .ok (.aload_n 0, 1) := dk_42 (dk_at dksX0_undo_0 14 rfl rfl)
theorem dX0_undo_15 : decode cX0_undo 15 = .ok (.getfield 24, 3) := dk_180 0 24 (dk_at dksX0_undo_0 15 rfl rfl)
theorem dX0_undo_18 : decode cX0_undo 18 = .ok (.invokevirtual 481, 3) := dk_182 1 225 (dk_at dksX0_undo_0 18 rfl rfl)
theorem dX0_undo_21 : decode cX0_undo 21 = .ok (.checkcast 14, 3) := dk_192 0 14 (dk_at dksX0_undo_0 21 rfl rfl)
theorem dX0_undo_24 : decode cX0_undo 24 = .ok (.putfield 17, 3) := dk_181 0 17 (dk_at dksX0_undo_1 0 rfl rfl)
theorem dX0_undo_27 : decode cX0_undo 27 = .ok (.aload_n 0, 1) := dk_42 (dk_at dksX0_undo_1 3 rfl rfl)
theorem dX0_undo_28 : decode cX0_undo 28 = .ok (.getfield 24, 3) := dk_180 0 24 (dk_at dksX0_undo_1 4 rfl rfl)
theorem dX0_undo_31 : decode cX0_undo 31 = .ok (.invokevirtual 348, 3) := dk_182 1 92 (dk_at dksX0_undo_1 7 rfl rfl)
theorem dX0_undo_34 : decode cX0_undo 34 = .ok (.ireturn, 1) := dk_172 (dk_at dksX0_undo_1 10 rfl rfl)
abbrev cX0_save : ByteArray := prog_1_method_50_code
def yX0_save : MethodName := ⟨RX0, "save", "()I"⟩
def dkwX0_save_1 : List UInt8 := [182, 0, 249, 172]
abbrev dktX0_save_1 : List UInt8 := dkwX0_save_1 ++ []
def dkwX0_save_0 : List UInt8 := [42, 187, 0, 14, 89, 42, 180, 0, 17, 183, 1, 228, 181, 1, 231, 42, 180, 0, 17, 180, 0, 127]
abbrev dktX0_save_0 : List UInt8 := dkwX0_save_0 ++ dktX0_save_1
theorem dksX0_save_0 : cX0_save.data.toList.drop 0 = dktX0_save_0 := by decide +kernel
theorem dksX0_save_1 : cX0_save.data.toList.drop 22 = dktX0_save_1 := dk_seg dksX0_save_0 22 rfl rfl
theorem dX0_save_0 : decode cX0_save 0 = .ok (.aload_n 0, 1) := dk_42 (dk_at dksX0_save_0 0 rfl rfl)
theorem dX0_save_1 : decode cX0_save 1 = .ok (.new 14, 3) := dk_187 0 14 (dk_at dksX0_save_0 1 rfl rfl)
theorem dX0_save_4 : decode cX0_save 4 = .ok (.dup, 1) := dk_89 (dk_at dksX0_save_0 4 rfl rfl)
theorem dX0_save_5 : decode cX0_save 5 = .ok (.aload_n 0, 1) := dk_42 (dk_at dksX0_save_0 5 rfl rfl)
theorem dX0_save_6 : decode cX0_save 6 = .ok (.getfield 17, 3) := dk_180 0 17 (dk_at dksX0_save_0 6 rfl rfl)
theorem dX0_save_9 : decode cX0_save 9 = .ok (.invokespecial 484, 3) := dk_183 1 228 (dk_at dksX0_save_0 9 rfl rfl)
theorem dX0_save_12 : decode cX0_save 12 = .ok (.putfield 487, 3) := dk_181 1 231 (dk_at dksX0_save_0 12 rfl rfl)
theorem dX0_save_15 : decode cX0_save 15 = .ok (.aload_n 0, 1) := dk_42 (dk_at dksX0_save_0 15 rfl rfl)
theorem dX0_save_16 : decode cX0_save 16 = .ok (.getfield 17, 3) := dk_180 0 17 (dk_at dksX0_save_0 16 rfl rfl)
theorem dX0_save_19 : decode cX0_save 19 = .ok (.getfield 127, 3) := dk_180 0 127 (dk_at dksX0_save_0 19 rfl rfl)
theorem dX0_save_22 : decode cX0_save 22 = .ok (.invokevirtual 249, 3) := dk_182 0 249 (dk_at dksX0_save_1 0 rfl rfl)
theorem dX0_save_25 : decode cX0_save 25 = .ok (.ireturn, 1) := dk_172 (dk_at dksX0_save_1 3 rfl rfl)
abbrev cX0_restore : ByteArray := prog_1_method_51_code
def yX0_restore : MethodName := ⟨RX0, "restore", "()I"⟩
def dkwX0_restore_1 : List UInt8 := [181, 0, 17, 42, 180, 0, 24, 182, 1, 234, 42, 180, 0, 17, 180, 0, 127, 182, 0, 249, 172]
abbrev dktX0_restore_1 : List UInt8 := dkwX0_restore_1 ++ []
def dkwX0_restore_0 : List UInt8 := [42, 180, 1, 231, 199, 0, 6, 16, 253, 172, 42, 187, 0, 14, 89, 42, 180, 1, 231, 183, 1, 228]
abbrev dktX0_restore_0 : List UInt8 := dkwX0_restore_0 ++ dktX0_restore_1
theorem dksX0_restore_0 : cX0_restore.data.toList.drop 0 = dktX0_restore_0 := by decide +kernel
theorem dksX0_restore_1 : cX0_restore.data.toList.drop 22 = dktX0_restore_1 := dk_seg dksX0_restore_0 22 rfl rfl
theorem dX0_restore_0 : decode cX0_restore 0 = .ok (.aload_n 0, 1) := dk_42 (dk_at dksX0_restore_0 0 rfl rfl)
theorem dX0_restore_1 : decode cX0_restore 1 = .ok (.getfield 487, 3) := dk_180 1 231 (dk_at dksX0_restore_0 1 rfl rfl)
theorem dX0_restore_4 : decode cX0_restore 4 = .ok (.ifnonnull 6, 3) := dk_199 0 6 (dk_at dksX0_restore_0 4 rfl rfl)
theorem dX0_restore_7 : decode cX0_restore 7 = .ok (.bipush (-3), 2) := dk_16 253 (dk_at dksX0_restore_0 7 rfl rfl)
theorem dX0_restore_9 : decode cX0_restore 9 = .ok (.ireturn, 1) := dk_172 (dk_at dksX0_restore_0 9 rfl rfl)
theorem dX0_restore_10 : decode cX0_restore 10 = .ok (.aload_n 0, 1) := dk_42 (dk_at dksX0_restore_0 10 rfl rfl)
theorem dX0_restore_11 : decode cX0_restore 11 = .ok (.new 14, 3) := dk_187 0 14 (dk_at dksX0_restore_0 11 rfl rfl)
theorem dX0_restore_14 : decode cX0_restore 14 = .ok (.dup, 1) := dk_89 (dk_at dksX0_restore_0 14 rfl rfl)
theorem dX0_restore_15 : decode cX0_restore 15 = .ok (.aload_n 0, 1) := dk_42 (dk_at dksX0_restore_0 15 rfl rfl)
theorem dX0_restore_16 : decode cX0_restore 16 = .ok (.getfield 487, 3) := dk_180 1 231 (dk_at dksX0_restore_0 16 rfl rfl)
theorem dX0_restore_19 : decode cX0_restore 19 = .ok (.invokespecial 484, 3) := dk_183 1 228 (dk_at dksX0_restore_0 19 rfl rfl)
theorem dX0_restore_22 : decode cX0_restore 22 = .ok (.putfield 17, 3) := dk_181 0 17 (dk_at dksX0_restore_1 0 rfl rfl)
theorem dX0_restore_25 : decode cX0_restore 25 = .ok (.aload_n 0, 1) := dk_42 (dk_at dksX0_restore_1 3 rfl rfl)
theorem dX0_restore_26 : decode cX0_restore 26 = .ok (.getfield 24, 3) := dk_180 0 24 (dk_at dksX0_restore_1 4 rfl rfl)
theorem dX0_restore_29 : decode cX0_restore 29 = .ok (.invokevirtual 490, 3) := dk_182 1 234 (dk_at dksX0_restore_1 7 rfl rfl)
theorem dX0_restore_32 : decode cX0_restore 32 = .ok (.aload_n 0, 1) := dk_42 (dk_at dksX0_restore_1 10 rfl rfl)
theorem dX0_restore_33 : decode cX0_restore 33 = .ok (.getfield 17, 3) := dk_180 0 17 (dk_at dksX0_restore_1 11 rfl rfl)
theorem dX0_restore_36 : decode cX0_restore 36 = .ok (.getfield 127, 3) := dk_180 0 127 (dk_at dksX0_restore_1 14 rfl rfl)
theorem dX0_restore_39 : decode cX0_restore 39 = .ok (.invokevirtual 249, 3) := dk_182 0 249 (dk_at dksX0_restore_1 17 rfl rfl)
theorem dX0_restore_42 : decode cX0_restore 42 = .ok (.ireturn, 1) := dk_172 (dk_at dksX0_restore_1 20 rfl rfl)
theorem q73 : (Jvm.Cond.initialized "RosaryCarvers") ∈ lw_all := lw_g (lw_at lw_m1 1 rfl) rfl
theorem q133 : (Jvm.Cond.instantiable "RosaryCarvers" (8 : Nat)) ∈ lw_all := lw_g (lw_at lw_m1 61 rfl) rfl
theorem q135 : (Jvm.Cond.instanceMethod ({ cls := "RosaryCarvers", name := "<init>", desc := "()V" } : Jvm.MethodName)) ∈ lw_all := lw_g (lw_at lw_m1 63 rfl) rfl
theorem q136 : (Jvm.Cond.code ({ cls := "RosaryCarvers", name := "<init>", desc := "()V" } : Jvm.MethodName) prog_1_method_5_code (1 : Nat) (Option.none : Option Jvm.ClassFile.FieldType)) ∈ lw_all := lw_g (lw_at lw_m1 64 rfl) rfl
theorem q137 : (Jvm.Cond.methodLink "RosaryCarvers" (9 : Nat) ({ cls := "java/lang/Object", name := "<init>", desc := "()V" } : Jvm.MethodName)) ∈ lw_all := lw_g (lw_at lw_m1 65 rfl) rfl
theorem q140 : (Jvm.Cond.classLink "RosaryCarvers" (14 : Nat) "RosaryCarvers$Shop") ∈ lw_all := lw_g (lw_at lw_m1 68 rfl) rfl
theorem q142 : (Jvm.Cond.methodLink "RosaryCarvers" (16 : Nat) ({ cls := "RosaryCarvers$Shop", name := "<init>", desc := "()V" } : Jvm.MethodName)) ∈ lw_all := lw_g (lw_at lw_m1 70 rfl) rfl
theorem q214 : (Jvm.Cond.fieldLinkNest "RosaryCarvers" (127 : Nat) "RosaryCarvers$Shop" "carvers" "Ljava/util/ArrayList;" "RosaryCarvers") ∈ lw_tbl := lw_at lw_m1 142 rfl
theorem q216 : (Jvm.Cond.fieldLinkNest "RosaryCarvers" (158 : Nat) "RosaryCarvers$Shop" "lenses" "Ljava/util/ArrayList;" "RosaryCarvers") ∈ lw_tbl := lw_at lw_m1 144 rfl
theorem q218 : (Jvm.Cond.fieldLinkNest "RosaryCarvers" (169 : Nat) "RosaryCarvers$Shop" "box" "LRosaryCarvers$Beads;" "RosaryCarvers") ∈ lw_tbl := lw_at lw_m1 146 rfl
theorem q220 : (Jvm.Cond.fieldLinkNest "RosaryCarvers" (217 : Nat) "RosaryCarvers$Shop" "strings" "Ljava/util/ArrayList;" "RosaryCarvers") ∈ lw_tbl := lw_at lw_m1 148 rfl
theorem q222 : (Jvm.Cond.fieldLinkNest "RosaryCarvers" (246 : Nat) "RosaryCarvers$Shop" "pilgrims" "Ljava/util/ArrayList;" "RosaryCarvers") ∈ lw_tbl := lw_at lw_m1 150 rfl
theorem q224 : (Jvm.Cond.fieldLinkNest "RosaryCarvers" (268 : Nat) "RosaryCarvers$Shop" "sold" "Ljava/util/ArrayList;" "RosaryCarvers") ∈ lw_tbl := lw_at lw_m1 152 rfl
theorem q226 : (Jvm.Cond.fieldLinkNest "RosaryCarvers" (265 : Nat) "RosaryCarvers$Shop" "waiting" "Ljava/util/ArrayList;" "RosaryCarvers") ∈ lw_tbl := lw_at lw_m1 154 rfl
theorem q228 : (Jvm.Cond.fieldLinkNest "RosaryCarvers" (306 : Nat) "RosaryCarvers$Shop" "away" "Ljava/util/BitSet;" "RosaryCarvers") ∈ lw_tbl := lw_at lw_m1 156 rfl
theorem q230 : (Jvm.Cond.fieldLinkNest "RosaryCarvers" (255 : Nat) "RosaryCarvers$Shop" "day" "I" "RosaryCarvers") ∈ lw_tbl := lw_at lw_m1 158 rfl
theorem q232 : (Jvm.Cond.fieldLinkNest "RosaryCarvers" (329 : Nat) "RosaryCarvers$Shop" "stones" "I" "RosaryCarvers") ∈ lw_tbl := lw_at lw_m1 160 rfl
theorem q234 : (Jvm.Cond.fieldLinkNest "RosaryCarvers" (319 : Nat) "RosaryCarvers$Shop" "carved" "I" "RosaryCarvers") ∈ lw_tbl := lw_at lw_m1 162 rfl
theorem q236 : (Jvm.Cond.fieldLinkNest "RosaryCarvers" (325 : Nat) "RosaryCarvers$Shop" "spoilt" "I" "RosaryCarvers") ∈ lw_tbl := lw_at lw_m1 164 rfl
theorem q238 : (Jvm.Cond.fieldLinkNest "RosaryCarvers" (338 : Nat) "RosaryCarvers$Shop" "sales" "I" "RosaryCarvers") ∈ lw_tbl := lw_at lw_m1 166 rfl
theorem q240 : (Jvm.Cond.fieldLinkNest "RosaryCarvers" (341 : Nat) "RosaryCarvers$Shop" "mended" "I" "RosaryCarvers") ∈ lw_tbl := lw_at lw_m1 168 rfl
theorem q242 : (Jvm.Cond.fieldLinkNest "RosaryCarvers" (344 : Nat) "RosaryCarvers$Shop" "coins" "I" "RosaryCarvers") ∈ lw_tbl := lw_at lw_m1 170 rfl
theorem q244 : (Jvm.Cond.fieldLinkNest "RosaryCarvers" (314 : Nat) "RosaryCarvers$Shop" "broken" "I" "RosaryCarvers") ∈ lw_tbl := lw_at lw_m1 172 rfl
theorem q246 : (Jvm.Cond.fieldLinkNest "RosaryCarvers" (316 : Nat) "RosaryCarvers$Shop" "gone" "I" "RosaryCarvers") ∈ lw_tbl := lw_at lw_m1 174 rfl
theorem q282 : (Jvm.Cond.classLink "RosaryCarvers" (21 : Nat) "java/util/ArrayDeque") ∈ lw_all := lw_g (lw_at lw_m1 210 rfl) rfl
theorem q284 : (Jvm.Cond.methodLink "RosaryCarvers" (23 : Nat) ({ cls := "java/util/ArrayDeque", name := "<init>", desc := "()V" } : Jvm.MethodName)) ∈ lw_all := lw_g (lw_at lw_m1 212 rfl) rfl
theorem q302 : (Jvm.Cond.stringRef "RosaryCarvers" (28 : Nat) "") ∈ lw_tbl := lw_at lw_m1 230 rfl
theorem q304 : (Jvm.Cond.fieldLink "RosaryCarvers" (17 : Nat) "RosaryCarvers" "now" "LRosaryCarvers$Shop;") ∈ lw_all := lw_g (lw_at lw_m1 232 rfl) rfl
theorem q305 : (Jvm.Cond.fieldLink "RosaryCarvers" (487 : Nat) "RosaryCarvers" "saved" "LRosaryCarvers$Shop;") ∈ lw_all := lw_g (lw_at lw_m1 233 rfl) rfl
theorem q307 : (Jvm.Cond.fieldLink "RosaryCarvers" (24 : Nat) "RosaryCarvers" "before" "Ljava/util/ArrayDeque;") ∈ lw_all := lw_g (lw_at lw_m1 235 rfl) rfl
theorem q309 : (Jvm.Cond.fieldLink "RosaryCarvers" (464 : Nat) "RosaryCarvers" "refusal" "LRosaryCarvers$Refused;") ∈ lw_all := lw_g (lw_at lw_m1 237 rfl) rfl
theorem q310 : (Jvm.Cond.fieldLink "RosaryCarvers" (30 : Nat) "RosaryCarvers" "line" "Ljava/lang/String;") ∈ lw_all := lw_g (lw_at lw_m1 238 rfl) rfl
theorem q312 : (Jvm.Cond.fieldLink "RosaryCarvers" (34 : Nat) "RosaryCarvers" "input" "[C") ∈ lw_all := lw_g (lw_at lw_m2 0 rfl) rfl
theorem q314 : (Jvm.Cond.fieldLink "RosaryCarvers" (345 : Nat) "RosaryCarvers" "fed" "I") ∈ lw_all := lw_g (lw_at lw_m2 2 rfl) rfl
theorem q315 : (Jvm.Cond.fieldLink "RosaryCarvers" (38 : Nat) "RosaryCarvers" "faultAt" "I") ∈ lw_all := lw_g (lw_at lw_m2 3 rfl) rfl
theorem q316 : (Jvm.Cond.lays "RosaryCarvers" "RosaryCarvers" "now" "LRosaryCarvers$Shop;") ∈ lw_all := lw_g (lw_at lw_m2 4 rfl) rfl
theorem q317 : (Jvm.Cond.soleField "RosaryCarvers" "now") ∈ lw_all := lw_g (lw_at lw_m2 5 rfl) rfl
theorem q318 : (Jvm.Cond.lays "RosaryCarvers" "RosaryCarvers" "saved" "LRosaryCarvers$Shop;") ∈ lw_all := lw_g (lw_at lw_m2 6 rfl) rfl
theorem q319 : (Jvm.Cond.soleField "RosaryCarvers" "saved") ∈ lw_all := lw_g (lw_at lw_m2 7 rfl) rfl
theorem q320 : (Jvm.Cond.laysFinal "RosaryCarvers" "RosaryCarvers" "before" "Ljava/util/ArrayDeque;") ∈ lw_all := lw_g (lw_at lw_m2 8 rfl) rfl
theorem q321 : (Jvm.Cond.soleField "RosaryCarvers" "before") ∈ lw_all := lw_g (lw_at lw_m2 9 rfl) rfl
theorem q322 : (Jvm.Cond.lays "RosaryCarvers" "RosaryCarvers" "refusal" "LRosaryCarvers$Refused;") ∈ lw_all := lw_g (lw_at lw_m2 10 rfl) rfl
theorem q323 : (Jvm.Cond.soleField "RosaryCarvers" "refusal") ∈ lw_all := lw_g (lw_at lw_m2 11 rfl) rfl
theorem q324 : (Jvm.Cond.lays "RosaryCarvers" "RosaryCarvers" "line" "Ljava/lang/String;") ∈ lw_all := lw_g (lw_at lw_m2 12 rfl) rfl
theorem q325 : (Jvm.Cond.soleField "RosaryCarvers" "line") ∈ lw_all := lw_g (lw_at lw_m2 13 rfl) rfl
theorem q326 : (Jvm.Cond.laysFinal "RosaryCarvers" "RosaryCarvers" "input" "[C") ∈ lw_all := lw_g (lw_at lw_m2 14 rfl) rfl
theorem q327 : (Jvm.Cond.soleField "RosaryCarvers" "input") ∈ lw_all := lw_g (lw_at lw_m2 15 rfl) rfl
theorem q328 : (Jvm.Cond.lays "RosaryCarvers" "RosaryCarvers" "fed" "I") ∈ lw_all := lw_g (lw_at lw_m2 16 rfl) rfl
theorem q329 : (Jvm.Cond.soleField "RosaryCarvers" "fed") ∈ lw_all := lw_g (lw_at lw_m2 17 rfl) rfl
theorem q330 : (Jvm.Cond.lays "RosaryCarvers" "RosaryCarvers" "faultAt" "I") ∈ lw_all := lw_g (lw_at lw_m2 18 rfl) rfl
theorem q331 : (Jvm.Cond.soleField "RosaryCarvers" "faultAt") ∈ lw_all := lw_g (lw_at lw_m2 19 rfl) rfl
theorem q332 : (Jvm.Cond.superclass "RosaryCarvers" "java/lang/Object") ∈ lw_all := lw_g (lw_at lw_m2 20 rfl) rfl
theorem q336 : (Jvm.Cond.instanceMethod ({ cls := "RosaryCarvers", name := "stones", desc := "(I)I" } : Jvm.MethodName)) ∈ lw_all := lw_g (lw_at lw_m2 24 rfl) rfl
theorem q337 : (Jvm.Cond.selects "RosaryCarvers" ({ cls := "RosaryCarvers", name := "stones", desc := "(I)I" } : Jvm.MethodName) ({ cls := "RosaryCarvers", name := "stones", desc := "(I)I" } : Jvm.MethodName)) ∈ lw_all := lw_g (lw_at lw_m2 25 rfl) rfl
theorem q338 : (Jvm.Cond.code ({ cls := "RosaryCarvers", name := "stones", desc := "(I)I" } : Jvm.MethodName) prog_1_method_6_code (2 : Nat) (Option.some Jvm.ClassFile.FieldType.int)) ∈ lw_all := lw_g (lw_at lw_m2 26 rfl) rfl
theorem q339 : (Jvm.Cond.methodLink "RosaryCarvers" (42 : Nat) ({ cls := "RosaryCarvers", name := "in", desc := "(III)Z" } : Jvm.MethodName)) ∈ lw_all := lw_g (lw_at lw_m2 27 rfl) rfl
theorem q340 : (Jvm.Cond.static ({ cls := "RosaryCarvers", name := "in", desc := "(III)Z" } : Jvm.MethodName)) ∈ lw_all := lw_g (lw_at lw_m2 28 rfl) rfl
theorem q341 : (Jvm.Cond.code ({ cls := "RosaryCarvers", name := "in", desc := "(III)Z" } : Jvm.MethodName) prog_1_method_1_code (3 : Nat) (Option.some Jvm.ClassFile.FieldType.boolean)) ∈ lw_all := lw_g (lw_at lw_m2 29 rfl) rfl
theorem q342 : (Jvm.Cond.classLink "RosaryCarvers" (46 : Nat) "RosaryCarvers$1") ∈ lw_all := lw_g (lw_at lw_m2 30 rfl) rfl
theorem q344 : (Jvm.Cond.methodLink "RosaryCarvers" (48 : Nat) ({ cls := "RosaryCarvers$1", name := "<init>", desc := "(LRosaryCarvers;I)V" } : Jvm.MethodName)) ∈ lw_all := lw_g (lw_at lw_m2 32 rfl) rfl
theorem q361 : (Jvm.Cond.methodLink "RosaryCarvers" (51 : Nat) ({ cls := "RosaryCarvers$1", name := "done", desc := "()I" } : Jvm.MethodName)) ∈ lw_all := lw_g (lw_at lw_m2 49 rfl) rfl
theorem q553 : (Jvm.Cond.fieldLinkNest "RosaryCarvers" (139 : Nat) "RosaryCarvers$Carver" "eye" "I" "RosaryCarvers") ∈ lw_tbl := lw_at lw_m3 1 rfl
theorem q556 : (Jvm.Cond.fieldLinkNest "RosaryCarvers" (142 : Nat) "RosaryCarvers$Carver" "tired" "I" "RosaryCarvers") ∈ lw_tbl := lw_at lw_m3 4 rfl
theorem q559 : (Jvm.Cond.fieldLinkNest "RosaryCarvers" (152 : Nat) "RosaryCarvers$Carver" "carved" "I" "RosaryCarvers") ∈ lw_tbl := lw_at lw_m3 7 rfl
theorem q562 : (Jvm.Cond.fieldLinkNest "RosaryCarvers" (155 : Nat) "RosaryCarvers$Carver" "spoilt" "I" "RosaryCarvers") ∈ lw_tbl := lw_at lw_m3 10 rfl
theorem q604 : (Jvm.Cond.selects "RosaryCarvers" ({ cls := "java/lang/Object", name := "getClass", desc := "()Ljava/lang/Class;" } : Jvm.MethodName) ({ cls := "java/lang/Object", name := "getClass", desc := "()Ljava/lang/Class;" } : Jvm.MethodName)) ∈ lw_all := lw_g (lw_at lw_m3 52 rfl) rfl
theorem q670 : (Jvm.Cond.fieldLinkNest "RosaryCarvers" (163 : Nat) "RosaryCarvers$Lens" "power" "I" "RosaryCarvers") ∈ lw_tbl := lw_at lw_m3 118 rfl
theorem q673 : (Jvm.Cond.fieldLinkNest "RosaryCarvers" (166 : Nat) "RosaryCarvers$Lens" "carver" "I" "RosaryCarvers") ∈ lw_tbl := lw_at lw_m3 121 rfl
theorem q727 : (Jvm.Cond.fieldLinkNest "RosaryCarvers" (222 : Nat) "RosaryCarvers$Rosary" "groups" "I" "RosaryCarvers") ∈ lw_tbl := lw_at lw_m3 175 rfl
theorem q730 : (Jvm.Cond.fieldLinkNest "RosaryCarvers" (225 : Nat) "RosaryCarvers$Rosary" "small" "I" "RosaryCarvers") ∈ lw_tbl := lw_at lw_m3 178 rfl
theorem q733 : (Jvm.Cond.fieldLinkNest "RosaryCarvers" (231 : Nat) "RosaryCarvers$Rosary" "knots" "I" "RosaryCarvers") ∈ lw_tbl := lw_at lw_m3 181 rfl
theorem q794 : (Jvm.Cond.static ({ cls := "RosaryCarvers", name := "needs", desc := "(ZII)V" } : Jvm.MethodName)) ∈ lw_all := lw_g (lw_at lw_m4 2 rfl) rfl
theorem q795 : (Jvm.Cond.code ({ cls := "RosaryCarvers", name := "needs", desc := "(ZII)V" } : Jvm.MethodName) prog_1_method_4_code (3 : Nat) (Option.none : Option Jvm.ClassFile.FieldType)) ∈ lw_all := lw_g (lw_at lw_m4 3 rfl) rfl
theorem q796 : (Jvm.Cond.classLink "RosaryCarvers" (3 : Nat) "RosaryCarvers$Refused") ∈ lw_all := lw_g (lw_at lw_m4 4 rfl) rfl
theorem q805 : (Jvm.Cond.methodLink "RosaryCarvers" (5 : Nat) ({ cls := "RosaryCarvers$Refused", name := "<init>", desc := "(II)V" } : Jvm.MethodName)) ∈ lw_all := lw_g (lw_at lw_m4 13 rfl) rfl
theorem q818 : (Jvm.Cond.fieldLinkNest "RosaryCarvers" (475 : Nat) "RosaryCarvers$Refused" "reason" "I" "RosaryCarvers") ∈ lw_tbl := lw_at lw_m4 26 rfl
theorem q820 : (Jvm.Cond.fieldLinkNest "RosaryCarvers" (472 : Nat) "RosaryCarvers$Refused" "detail" "I" "RosaryCarvers") ∈ lw_tbl := lw_at lw_m4 28 rfl
theorem q828 : (Jvm.Cond.static ({ cls := "RosaryCarvers", name := "seasonOf", desc := "(I)I" } : Jvm.MethodName)) ∈ lw_all := lw_g (lw_at lw_m4 36 rfl) rfl
theorem q829 : (Jvm.Cond.code ({ cls := "RosaryCarvers", name := "seasonOf", desc := "(I)I" } : Jvm.MethodName) prog_1_method_3_code (1 : Nat) (Option.some Jvm.ClassFile.FieldType.int)) ∈ lw_all := lw_g (lw_at lw_m4 37 rfl) rfl
theorem q838 : (Jvm.Cond.fieldLinkNest "RosaryCarvers" (252 : Nat) "RosaryCarvers$Pilgrim" "day" "I" "RosaryCarvers") ∈ lw_tbl := lw_at lw_m4 46 rfl
theorem q841 : (Jvm.Cond.fieldLinkNest "RosaryCarvers" (256 : Nat) "RosaryCarvers$Pilgrim" "groups" "I" "RosaryCarvers") ∈ lw_tbl := lw_at lw_m4 49 rfl
theorem q844 : (Jvm.Cond.fieldLinkNest "RosaryCarvers" (257 : Nat) "RosaryCarvers$Pilgrim" "fineness" "I" "RosaryCarvers") ∈ lw_tbl := lw_at lw_m4 52 rfl
theorem q847 : (Jvm.Cond.fieldLinkNest "RosaryCarvers" (258 : Nat) "RosaryCarvers$Pilgrim" "coins" "I" "RosaryCarvers") ∈ lw_tbl := lw_at lw_m4 55 rfl
theorem q1007 : (Jvm.Cond.static ({ cls := "RosaryCarvers", name := "bit", desc := "(Z)I" } : Jvm.MethodName)) ∈ lw_all := lw_g (lw_at lw_m4 215 rfl) rfl
theorem q1008 : (Jvm.Cond.code ({ cls := "RosaryCarvers", name := "bit", desc := "(Z)I" } : Jvm.MethodName) prog_1_method_2_code (1 : Nat) (Option.some Jvm.ClassFile.FieldType.int)) ∈ lw_all := lw_g (lw_at lw_m4 216 rfl) rfl
theorem q1040 : (Jvm.Cond.selects "RosaryCarvers" ({ cls := "java/lang/Object", name := "equals", desc := "(Ljava/lang/Object;)Z" } : Jvm.MethodName) ({ cls := "java/lang/Object", name := "equals", desc := "(Ljava/lang/Object;)Z" } : Jvm.MethodName)) ∈ lw_all := lw_g (lw_at lw_m5 8 rfl) rfl
theorem q1243 : (Jvm.Cond.fieldLinkNest "RosaryCarvers" (278 : Nat) "RosaryCarvers$Sold" "broken" "LRosaryCarvers$Bead;" "RosaryCarvers") ∈ lw_tbl := lw_at lw_m5 211 rfl
theorem q1268 : (Jvm.Cond.static ({ cls := "RosaryCarvers", name := "doesAll", desc := "(LRosaryCarvers$Shop;Ljava/util/ArrayDeque;)I" } : Jvm.MethodName)) ∈ lw_all := lw_g (lw_at lw_m5 236 rfl) rfl
theorem q1269 : (Jvm.Cond.codeWith ({ cls := "RosaryCarvers", name := "doesAll", desc := "(LRosaryCarvers$Shop;Ljava/util/ArrayDeque;)I" } : Jvm.MethodName) prog_1_method_45_code (6 : Nat) (Option.some Jvm.ClassFile.FieldType.int) [((27 : Nat), (35 : Nat), (38 : Nat), (3 : Nat)), ((27 : Nat), (35 : Nat), (38 : Nat), (378 : Nat))]) ∈ lw_all := lw_g (lw_at lw_m5 237 rfl) rfl
theorem q1270 : (Jvm.Cond.classLink "RosaryCarvers" (378 : Nat) "RosaryCarvers$OutOfRange") ∈ lw_all := lw_g (lw_at lw_m5 238 rfl) rfl
theorem q1271 : (Jvm.Cond.methodLink "RosaryCarvers" (438 : Nat) ({ cls := "java/util/ArrayDeque", name := "iterator", desc := "()Ljava/util/Iterator;" } : Jvm.MethodName)) ∈ lw_all := lw_g (lw_at lw_m5 239 rfl) rfl
theorem q1272 : (Jvm.Cond.interfaceEntry "RosaryCarvers" (204 : Nat)) ∈ lw_tbl := lw_at lw_m6 0 rfl
theorem q1273 : (Jvm.Cond.methodLink "RosaryCarvers" (204 : Nat) ({ cls := "java/util/Iterator", name := "hasNext", desc := "()Z" } : Jvm.MethodName)) ∈ lw_all := lw_g (lw_at lw_m6 1 rfl) rfl
theorem q1274 : (Jvm.Cond.interfaceEntry "RosaryCarvers" (210 : Nat)) ∈ lw_tbl := lw_at lw_m6 2 rfl
theorem q1275 : (Jvm.Cond.methodLink "RosaryCarvers" (210 : Nat) ({ cls := "java/util/Iterator", name := "next", desc := "()Ljava/lang/Object;" } : Jvm.MethodName)) ∈ lw_all := lw_g (lw_at lw_m6 3 rfl) rfl
theorem q1276 : (Jvm.Cond.classLink "RosaryCarvers" (382 : Nat) "RosaryCarvers$Command") ∈ lw_all := lw_g (lw_at lw_m6 4 rfl) rfl
theorem q1277 : (Jvm.Cond.methodLink "RosaryCarvers" (439 : Nat) ({ cls := "RosaryCarvers", name := "does", desc := "(LRosaryCarvers$Shop;LRosaryCarvers$Command;)I" } : Jvm.MethodName)) ∈ lw_all := lw_g (lw_at lw_m6 5 rfl) rfl
theorem q1278 : (Jvm.Cond.static ({ cls := "RosaryCarvers", name := "does", desc := "(LRosaryCarvers$Shop;LRosaryCarvers$Command;)I" } : Jvm.MethodName)) ∈ lw_all := lw_g (lw_at lw_m6 6 rfl) rfl
theorem q1279 : (Jvm.Cond.code ({ cls := "RosaryCarvers", name := "does", desc := "(LRosaryCarvers$Shop;LRosaryCarvers$Command;)I" } : Jvm.MethodName) prog_1_method_44_code (4 : Nat) (Option.some Jvm.ClassFile.FieldType.int)) ∈ lw_all := lw_g (lw_at lw_m6 7 rfl) rfl
theorem q1280 : (Jvm.Cond.methodLink "RosaryCarvers" (397 : Nat) ({ cls := "java/lang/String", name := "hashCode", desc := "()I" } : Jvm.MethodName)) ∈ lw_all := lw_g (lw_at lw_m6 8 rfl) rfl
theorem q1345 : (Jvm.Cond.stringRef "RosaryCarvers" (400 : Nat) "large") ∈ lw_tbl := lw_at lw_m6 73 rfl
theorem q1346 : (Jvm.Cond.methodLink "RosaryCarvers" (402 : Nat) ({ cls := "java/lang/String", name := "equals", desc := "(Ljava/lang/Object;)Z" } : Jvm.MethodName)) ∈ lw_all := lw_g (lw_at lw_m6 74 rfl) rfl
theorem q1347 : (Jvm.Cond.stringRef "RosaryCarvers" (406 : Nat) "small") ∈ lw_tbl := lw_at lw_m6 75 rfl
theorem q1348 : (Jvm.Cond.stringRef "RosaryCarvers" (407 : Nat) "begin") ∈ lw_tbl := lw_at lw_m6 76 rfl
theorem q1349 : (Jvm.Cond.stringRef "RosaryCarvers" (409 : Nat) "thread") ∈ lw_tbl := lw_at lw_m6 77 rfl
theorem q1350 : (Jvm.Cond.stringRef "RosaryCarvers" (411 : Nat) "knot") ∈ lw_tbl := lw_at lw_m6 78 rfl
theorem q1351 : (Jvm.Cond.stringRef "RosaryCarvers" (413 : Nat) "drop") ∈ lw_tbl := lw_at lw_m6 79 rfl
theorem q1352 : (Jvm.Cond.stringRef "RosaryCarvers" (415 : Nat) "mend") ∈ lw_tbl := lw_at lw_m6 80 rfl
theorem q1353 : (Jvm.Cond.methodLink "RosaryCarvers" (417 : Nat) ({ cls := "RosaryCarvers", name := "carves", desc := "(LRosaryCarvers$Shop;LRosaryCarvers$Command;Z)I" } : Jvm.MethodName)) ∈ lw_all := lw_g (lw_at lw_m6 81 rfl) rfl
theorem q1354 : (Jvm.Cond.static ({ cls := "RosaryCarvers", name := "carves", desc := "(LRosaryCarvers$Shop;LRosaryCarvers$Command;Z)I" } : Jvm.MethodName)) ∈ lw_all := lw_g (lw_at lw_m6 82 rfl) rfl
theorem q1355 : (Jvm.Cond.code ({ cls := "RosaryCarvers", name := "carves", desc := "(LRosaryCarvers$Shop;LRosaryCarvers$Command;Z)I" } : Jvm.MethodName) prog_1_method_43_code (3 : Nat) (Option.some Jvm.ClassFile.FieldType.int)) ∈ lw_all := lw_g (lw_at lw_m6 83 rfl) rfl
theorem q1356 : (Jvm.Cond.methodLink "RosaryCarvers" (381 : Nat) ({ cls := "RosaryCarvers$Command", name := "n", desc := "(I)I" } : Jvm.MethodName)) ∈ lw_all := lw_g (lw_at lw_m6 84 rfl) rfl
theorem q1360 : (Jvm.Cond.methodLink "RosaryCarvers" (67 : Nat) ({ cls := "RosaryCarvers$Shop", name := "isCarver", desc := "(I)Z" } : Jvm.MethodName)) ∈ lw_all := lw_g (lw_at lw_m6 88 rfl) rfl
theorem q1365 : (Jvm.Cond.methodLink "RosaryCarvers" (76 : Nat) ({ cls := "RosaryCarvers", name := "isCarved", desc := "(I)Z" } : Jvm.MethodName)) ∈ lw_all := lw_g (lw_at lw_m6 93 rfl) rfl
theorem q1366 : (Jvm.Cond.static ({ cls := "RosaryCarvers", name := "isCarved", desc := "(I)Z" } : Jvm.MethodName)) ∈ lw_all := lw_g (lw_at lw_m6 94 rfl) rfl
theorem q1367 : (Jvm.Cond.code ({ cls := "RosaryCarvers", name := "isCarved", desc := "(I)Z" } : Jvm.MethodName) prog_1_method_10_code (1 : Nat) (Option.some Jvm.ClassFile.FieldType.boolean)) ∈ lw_all := lw_g (lw_at lw_m6 95 rfl) rfl
theorem q1368 : (Jvm.Cond.methodLink "RosaryCarvers" (386 : Nat) ({ cls := "RosaryCarvers", name := "inRange", desc := "(Z)V" } : Jvm.MethodName)) ∈ lw_all := lw_g (lw_at lw_m6 96 rfl) rfl
theorem q1369 : (Jvm.Cond.static ({ cls := "RosaryCarvers", name := "inRange", desc := "(Z)V" } : Jvm.MethodName)) ∈ lw_all := lw_g (lw_at lw_m6 97 rfl) rfl
theorem q1370 : (Jvm.Cond.code ({ cls := "RosaryCarvers", name := "inRange", desc := "(Z)V" } : Jvm.MethodName) prog_1_method_42_code (1 : Nat) (Option.none : Option Jvm.ClassFile.FieldType)) ∈ lw_all := lw_g (lw_at lw_m6 98 rfl) rfl
theorem q1379 : (Jvm.Cond.methodLink "RosaryCarvers" (380 : Nat) ({ cls := "RosaryCarvers$OutOfRange", name := "<init>", desc := "()V" } : Jvm.MethodName)) ∈ lw_all := lw_g (lw_at lw_m6 107 rfl) rfl
theorem q1385 : (Jvm.Cond.methodLink "RosaryCarvers" (390 : Nat) ({ cls := "RosaryCarvers$Shop", name := "carves", desc := "(IZI)I" } : Jvm.MethodName)) ∈ lw_all := lw_g (lw_at lw_m6 113 rfl) rfl
theorem q1409 : (Jvm.Cond.fieldLinkNest "RosaryCarvers" (193 : Nat) "RosaryCarvers$Bead" "number" "I" "RosaryCarvers") ∈ lw_tbl := lw_at lw_m6 137 rfl
theorem q1413 : (Jvm.Cond.fieldLinkNest "RosaryCarvers" (282 : Nat) "RosaryCarvers$Bead" "isLarge" "Z" "RosaryCarvers") ∈ lw_tbl := lw_at lw_m6 141 rfl
theorem q1416 : (Jvm.Cond.fieldLinkNest "RosaryCarvers" (214 : Nat) "RosaryCarvers$Bead" "fineness" "I" "RosaryCarvers") ∈ lw_tbl := lw_at lw_m6 144 rfl
theorem q1431 : (Jvm.Cond.methodLink "RosaryCarvers" (85 : Nat) ({ cls := "RosaryCarvers", name := "isPattern", desc := "(II)Z" } : Jvm.MethodName)) ∈ lw_all := lw_g (lw_at lw_m6 159 rfl) rfl
theorem q1432 : (Jvm.Cond.static ({ cls := "RosaryCarvers", name := "isPattern", desc := "(II)Z" } : Jvm.MethodName)) ∈ lw_all := lw_g (lw_at lw_m6 160 rfl) rfl
theorem q1433 : (Jvm.Cond.code ({ cls := "RosaryCarvers", name := "isPattern", desc := "(II)Z" } : Jvm.MethodName) prog_1_method_12_code (2 : Nat) (Option.some Jvm.ClassFile.FieldType.boolean)) ∈ lw_all := lw_g (lw_at lw_m6 161 rfl) rfl
theorem q1434 : (Jvm.Cond.methodLink "RosaryCarvers" (420 : Nat) ({ cls := "RosaryCarvers$Shop", name := "begins", desc := "(II)I" } : Jvm.MethodName)) ∈ lw_all := lw_g (lw_at lw_m6 162 rfl) rfl
theorem q1439 : (Jvm.Cond.methodLink "RosaryCarvers" (93 : Nat) ({ cls := "RosaryCarvers$Shop", name := "isString", desc := "(I)Z" } : Jvm.MethodName)) ∈ lw_all := lw_g (lw_at lw_m6 167 rfl) rfl
theorem q1443 : (Jvm.Cond.methodLink "RosaryCarvers" (423 : Nat) ({ cls := "RosaryCarvers$Shop", name := "threads", desc := "(II)I" } : Jvm.MethodName)) ∈ lw_all := lw_g (lw_at lw_m6 171 rfl) rfl
theorem q1470 : (Jvm.Cond.methodLink "RosaryCarvers" (426 : Nat) ({ cls := "RosaryCarvers$Shop", name := "ties", desc := "(I)I" } : Jvm.MethodName)) ∈ lw_all := lw_g (lw_at lw_m6 198 rfl) rfl
theorem q1475 : (Jvm.Cond.methodLink "RosaryCarvers" (429 : Nat) ({ cls := "RosaryCarvers$Shop", name := "drops", desc := "(I)I" } : Jvm.MethodName)) ∈ lw_all := lw_g (lw_at lw_m6 203 rfl) rfl
theorem q1485 : (Jvm.Cond.methodLink "RosaryCarvers" (432 : Nat) ({ cls := "RosaryCarvers$Shop", name := "mends", desc := "()I" } : Jvm.MethodName)) ∈ lw_all := lw_g (lw_at lw_m6 213 rfl) rfl
theorem q1486 : (Jvm.Cond.methodLink "RosaryCarvers" (108 : Nat) ({ cls := "RosaryCarvers", name := "areDays", desc := "(I)Z" } : Jvm.MethodName)) ∈ lw_all := lw_g (lw_at lw_m6 214 rfl) rfl
theorem q1487 : (Jvm.Cond.static ({ cls := "RosaryCarvers", name := "areDays", desc := "(I)Z" } : Jvm.MethodName)) ∈ lw_all := lw_g (lw_at lw_m6 215 rfl) rfl
theorem q1488 : (Jvm.Cond.code ({ cls := "RosaryCarvers", name := "areDays", desc := "(I)Z" } : Jvm.MethodName) prog_1_method_17_code (1 : Nat) (Option.some Jvm.ClassFile.FieldType.boolean)) ∈ lw_all := lw_g (lw_at lw_m6 216 rfl) rfl
theorem q1489 : (Jvm.Cond.methodLink "RosaryCarvers" (435 : Nat) ({ cls := "RosaryCarvers$Shop", name := "passes", desc := "(I)I" } : Jvm.MethodName)) ∈ lw_all := lw_g (lw_at lw_m6 217 rfl) rfl
theorem q1490 : (Jvm.Cond.methodLink "RosaryCarvers" (443 : Nat) ({ cls := "RosaryCarvers$Refused", name := "<init>", desc := "(IILjava/lang/Exception;)V" } : Jvm.MethodName)) ∈ lw_all := lw_g (lw_at lw_m6 218 rfl) rfl
theorem q1564 : (Jvm.Cond.instanceMethod ({ cls := "RosaryCarvers", name := "carver", desc := "(I)I" } : Jvm.MethodName)) ∈ lw_all := lw_g (lw_at lw_m7 52 rfl) rfl
theorem q1565 : (Jvm.Cond.selects "RosaryCarvers" ({ cls := "RosaryCarvers", name := "carver", desc := "(I)I" } : Jvm.MethodName) ({ cls := "RosaryCarvers", name := "carver", desc := "(I)I" } : Jvm.MethodName)) ∈ lw_all := lw_g (lw_at lw_m7 53 rfl) rfl
theorem q1566 : (Jvm.Cond.code ({ cls := "RosaryCarvers", name := "carver", desc := "(I)I" } : Jvm.MethodName) prog_1_method_7_code (2 : Nat) (Option.some Jvm.ClassFile.FieldType.int)) ∈ lw_all := lw_g (lw_at lw_m7 54 rfl) rfl
theorem q1567 : (Jvm.Cond.classLink "RosaryCarvers" (55 : Nat) "RosaryCarvers$2") ∈ lw_all := lw_g (lw_at lw_m7 55 rfl) rfl
theorem q1569 : (Jvm.Cond.methodLink "RosaryCarvers" (57 : Nat) ({ cls := "RosaryCarvers$2", name := "<init>", desc := "(LRosaryCarvers;I)V" } : Jvm.MethodName)) ∈ lw_all := lw_g (lw_at lw_m7 57 rfl) rfl
theorem q1581 : (Jvm.Cond.methodLink "RosaryCarvers" (58 : Nat) ({ cls := "RosaryCarvers$2", name := "done", desc := "()I" } : Jvm.MethodName)) ∈ lw_all := lw_g (lw_at lw_m7 69 rfl) rfl
theorem q1585 : (Jvm.Cond.instanceMethod ({ cls := "RosaryCarvers", name := "lens", desc := "(I)I" } : Jvm.MethodName)) ∈ lw_all := lw_g (lw_at lw_m7 73 rfl) rfl
theorem q1586 : (Jvm.Cond.selects "RosaryCarvers" ({ cls := "RosaryCarvers", name := "lens", desc := "(I)I" } : Jvm.MethodName) ({ cls := "RosaryCarvers", name := "lens", desc := "(I)I" } : Jvm.MethodName)) ∈ lw_all := lw_g (lw_at lw_m7 74 rfl) rfl
theorem q1587 : (Jvm.Cond.code ({ cls := "RosaryCarvers", name := "lens", desc := "(I)I" } : Jvm.MethodName) prog_1_method_8_code (2 : Nat) (Option.some Jvm.ClassFile.FieldType.int)) ∈ lw_all := lw_g (lw_at lw_m7 75 rfl) rfl
theorem q1588 : (Jvm.Cond.classLink "RosaryCarvers" (59 : Nat) "RosaryCarvers$3") ∈ lw_all := lw_g (lw_at lw_m7 76 rfl) rfl
theorem q1590 : (Jvm.Cond.methodLink "RosaryCarvers" (61 : Nat) ({ cls := "RosaryCarvers$3", name := "<init>", desc := "(LRosaryCarvers;I)V" } : Jvm.MethodName)) ∈ lw_all := lw_g (lw_at lw_m7 78 rfl) rfl
theorem q1602 : (Jvm.Cond.methodLink "RosaryCarvers" (62 : Nat) ({ cls := "RosaryCarvers$3", name := "done", desc := "()I" } : Jvm.MethodName)) ∈ lw_all := lw_g (lw_at lw_m7 90 rfl) rfl
theorem q1606 : (Jvm.Cond.instanceMethod ({ cls := "RosaryCarvers", name := "give", desc := "(II)I" } : Jvm.MethodName)) ∈ lw_all := lw_g (lw_at lw_m7 94 rfl) rfl
theorem q1607 : (Jvm.Cond.selects "RosaryCarvers" ({ cls := "RosaryCarvers", name := "give", desc := "(II)I" } : Jvm.MethodName) ({ cls := "RosaryCarvers", name := "give", desc := "(II)I" } : Jvm.MethodName)) ∈ lw_all := lw_g (lw_at lw_m7 95 rfl) rfl
theorem q1608 : (Jvm.Cond.code ({ cls := "RosaryCarvers", name := "give", desc := "(II)I" } : Jvm.MethodName) prog_1_method_9_code (3 : Nat) (Option.some Jvm.ClassFile.FieldType.int)) ∈ lw_all := lw_g (lw_at lw_m7 96 rfl) rfl
theorem q1609 : (Jvm.Cond.methodLink "RosaryCarvers" (63 : Nat) ({ cls := "RosaryCarvers$Shop", name := "isLens", desc := "(I)Z" } : Jvm.MethodName)) ∈ lw_all := lw_g (lw_at lw_m7 97 rfl) rfl
theorem q1613 : (Jvm.Cond.classLink "RosaryCarvers" (70 : Nat) "RosaryCarvers$4") ∈ lw_all := lw_g (lw_at lw_m7 101 rfl) rfl
theorem q1615 : (Jvm.Cond.methodLink "RosaryCarvers" (72 : Nat) ({ cls := "RosaryCarvers$4", name := "<init>", desc := "(LRosaryCarvers;II)V" } : Jvm.MethodName)) ∈ lw_all := lw_g (lw_at lw_m7 103 rfl) rfl
theorem q1630 : (Jvm.Cond.methodLink "RosaryCarvers" (75 : Nat) ({ cls := "RosaryCarvers$4", name := "done", desc := "()I" } : Jvm.MethodName)) ∈ lw_all := lw_g (lw_at lw_m7 118 rfl) rfl
theorem q1634 : (Jvm.Cond.instanceMethod ({ cls := "RosaryCarvers", name := "carve", desc := "(IZI)I" } : Jvm.MethodName)) ∈ lw_all := lw_g (lw_at lw_m7 122 rfl) rfl
theorem q1635 : (Jvm.Cond.selects "RosaryCarvers" ({ cls := "RosaryCarvers", name := "carve", desc := "(IZI)I" } : Jvm.MethodName) ({ cls := "RosaryCarvers", name := "carve", desc := "(IZI)I" } : Jvm.MethodName)) ∈ lw_all := lw_g (lw_at lw_m7 123 rfl) rfl
theorem q1636 : (Jvm.Cond.code ({ cls := "RosaryCarvers", name := "carve", desc := "(IZI)I" } : Jvm.MethodName) prog_1_method_11_code (4 : Nat) (Option.some Jvm.ClassFile.FieldType.int)) ∈ lw_all := lw_g (lw_at lw_m7 124 rfl) rfl
theorem q1637 : (Jvm.Cond.classLink "RosaryCarvers" (79 : Nat) "RosaryCarvers$5") ∈ lw_all := lw_g (lw_at lw_m7 125 rfl) rfl
theorem q1639 : (Jvm.Cond.methodLink "RosaryCarvers" (81 : Nat) ({ cls := "RosaryCarvers$5", name := "<init>", desc := "(LRosaryCarvers;IZI)V" } : Jvm.MethodName)) ∈ lw_all := lw_g (lw_at lw_m7 127 rfl) rfl
theorem q1657 : (Jvm.Cond.methodLink "RosaryCarvers" (84 : Nat) ({ cls := "RosaryCarvers$5", name := "done", desc := "()I" } : Jvm.MethodName)) ∈ lw_all := lw_g (lw_at lw_m7 145 rfl) rfl
theorem q1661 : (Jvm.Cond.instanceMethod ({ cls := "RosaryCarvers", name := "begin", desc := "(II)I" } : Jvm.MethodName)) ∈ lw_all := lw_g (lw_at lw_m7 149 rfl) rfl
theorem q1662 : (Jvm.Cond.selects "RosaryCarvers" ({ cls := "RosaryCarvers", name := "begin", desc := "(II)I" } : Jvm.MethodName) ({ cls := "RosaryCarvers", name := "begin", desc := "(II)I" } : Jvm.MethodName)) ∈ lw_all := lw_g (lw_at lw_m7 150 rfl) rfl
theorem q1663 : (Jvm.Cond.code ({ cls := "RosaryCarvers", name := "begin", desc := "(II)I" } : Jvm.MethodName) prog_1_method_13_code (3 : Nat) (Option.some Jvm.ClassFile.FieldType.int)) ∈ lw_all := lw_g (lw_at lw_m7 151 rfl) rfl
theorem q1664 : (Jvm.Cond.classLink "RosaryCarvers" (89 : Nat) "RosaryCarvers$6") ∈ lw_all := lw_g (lw_at lw_m7 152 rfl) rfl
theorem q1666 : (Jvm.Cond.methodLink "RosaryCarvers" (91 : Nat) ({ cls := "RosaryCarvers$6", name := "<init>", desc := "(LRosaryCarvers;II)V" } : Jvm.MethodName)) ∈ lw_all := lw_g (lw_at lw_m7 154 rfl) rfl
theorem q1681 : (Jvm.Cond.methodLink "RosaryCarvers" (92 : Nat) ({ cls := "RosaryCarvers$6", name := "done", desc := "()I" } : Jvm.MethodName)) ∈ lw_all := lw_g (lw_at lw_m7 169 rfl) rfl
theorem q1685 : (Jvm.Cond.instanceMethod ({ cls := "RosaryCarvers", name := "thread", desc := "(I)I" } : Jvm.MethodName)) ∈ lw_all := lw_g (lw_at lw_m7 173 rfl) rfl
theorem q1686 : (Jvm.Cond.selects "RosaryCarvers" ({ cls := "RosaryCarvers", name := "thread", desc := "(I)I" } : Jvm.MethodName) ({ cls := "RosaryCarvers", name := "thread", desc := "(I)I" } : Jvm.MethodName)) ∈ lw_all := lw_g (lw_at lw_m7 174 rfl) rfl
theorem q1687 : (Jvm.Cond.code ({ cls := "RosaryCarvers", name := "thread", desc := "(I)I" } : Jvm.MethodName) prog_1_method_14_code (2 : Nat) (Option.some Jvm.ClassFile.FieldType.int)) ∈ lw_all := lw_g (lw_at lw_m7 175 rfl) rfl
theorem q1688 : (Jvm.Cond.classLink "RosaryCarvers" (96 : Nat) "RosaryCarvers$7") ∈ lw_all := lw_g (lw_at lw_m7 176 rfl) rfl
theorem q1690 : (Jvm.Cond.methodLink "RosaryCarvers" (98 : Nat) ({ cls := "RosaryCarvers$7", name := "<init>", desc := "(LRosaryCarvers;I)V" } : Jvm.MethodName)) ∈ lw_all := lw_g (lw_at lw_m7 178 rfl) rfl
theorem q1702 : (Jvm.Cond.methodLink "RosaryCarvers" (99 : Nat) ({ cls := "RosaryCarvers$7", name := "done", desc := "()I" } : Jvm.MethodName)) ∈ lw_all := lw_g (lw_at lw_m7 190 rfl) rfl
theorem q1706 : (Jvm.Cond.instanceMethod ({ cls := "RosaryCarvers", name := "knot", desc := "(I)I" } : Jvm.MethodName)) ∈ lw_all := lw_g (lw_at lw_m7 194 rfl) rfl
theorem q1707 : (Jvm.Cond.selects "RosaryCarvers" ({ cls := "RosaryCarvers", name := "knot", desc := "(I)I" } : Jvm.MethodName) ({ cls := "RosaryCarvers", name := "knot", desc := "(I)I" } : Jvm.MethodName)) ∈ lw_all := lw_g (lw_at lw_m7 195 rfl) rfl
theorem q1708 : (Jvm.Cond.code ({ cls := "RosaryCarvers", name := "knot", desc := "(I)I" } : Jvm.MethodName) prog_1_method_15_code (2 : Nat) (Option.some Jvm.ClassFile.FieldType.int)) ∈ lw_all := lw_g (lw_at lw_m7 196 rfl) rfl
theorem q1709 : (Jvm.Cond.classLink "RosaryCarvers" (100 : Nat) "RosaryCarvers$8") ∈ lw_all := lw_g (lw_at lw_m7 197 rfl) rfl
theorem q1711 : (Jvm.Cond.methodLink "RosaryCarvers" (102 : Nat) ({ cls := "RosaryCarvers$8", name := "<init>", desc := "(LRosaryCarvers;I)V" } : Jvm.MethodName)) ∈ lw_all := lw_g (lw_at lw_m7 199 rfl) rfl
theorem q1723 : (Jvm.Cond.methodLink "RosaryCarvers" (103 : Nat) ({ cls := "RosaryCarvers$8", name := "done", desc := "()I" } : Jvm.MethodName)) ∈ lw_all := lw_g (lw_at lw_m7 211 rfl) rfl
theorem q1727 : (Jvm.Cond.instanceMethod ({ cls := "RosaryCarvers", name := "drop", desc := "(I)I" } : Jvm.MethodName)) ∈ lw_all := lw_g (lw_at lw_m7 215 rfl) rfl
theorem q1728 : (Jvm.Cond.selects "RosaryCarvers" ({ cls := "RosaryCarvers", name := "drop", desc := "(I)I" } : Jvm.MethodName) ({ cls := "RosaryCarvers", name := "drop", desc := "(I)I" } : Jvm.MethodName)) ∈ lw_all := lw_g (lw_at lw_m7 216 rfl) rfl
theorem q1729 : (Jvm.Cond.code ({ cls := "RosaryCarvers", name := "drop", desc := "(I)I" } : Jvm.MethodName) prog_1_method_16_code (2 : Nat) (Option.some Jvm.ClassFile.FieldType.int)) ∈ lw_all := lw_g (lw_at lw_m7 217 rfl) rfl
theorem q1730 : (Jvm.Cond.classLink "RosaryCarvers" (104 : Nat) "RosaryCarvers$9") ∈ lw_all := lw_g (lw_at lw_m7 218 rfl) rfl
theorem q1732 : (Jvm.Cond.methodLink "RosaryCarvers" (106 : Nat) ({ cls := "RosaryCarvers$9", name := "<init>", desc := "(LRosaryCarvers;I)V" } : Jvm.MethodName)) ∈ lw_all := lw_g (lw_at lw_m7 220 rfl) rfl
theorem q1744 : (Jvm.Cond.methodLink "RosaryCarvers" (107 : Nat) ({ cls := "RosaryCarvers$9", name := "done", desc := "()I" } : Jvm.MethodName)) ∈ lw_all := lw_g (lw_at lw_m7 232 rfl) rfl
theorem q1748 : (Jvm.Cond.instanceMethod ({ cls := "RosaryCarvers", name := "pilgrim", desc := "(IIII)I" } : Jvm.MethodName)) ∈ lw_all := lw_g (lw_at lw_m7 236 rfl) rfl
theorem q1749 : (Jvm.Cond.selects "RosaryCarvers" ({ cls := "RosaryCarvers", name := "pilgrim", desc := "(IIII)I" } : Jvm.MethodName) ({ cls := "RosaryCarvers", name := "pilgrim", desc := "(IIII)I" } : Jvm.MethodName)) ∈ lw_all := lw_g (lw_at lw_m7 237 rfl) rfl
theorem q1750 : (Jvm.Cond.code ({ cls := "RosaryCarvers", name := "pilgrim", desc := "(IIII)I" } : Jvm.MethodName) prog_1_method_18_code (5 : Nat) (Option.some Jvm.ClassFile.FieldType.int)) ∈ lw_all := lw_g (lw_at lw_m7 238 rfl) rfl
theorem q1751 : (Jvm.Cond.classLink "RosaryCarvers" (111 : Nat) "RosaryCarvers$10") ∈ lw_all := lw_g (lw_at lw_m7 239 rfl) rfl
theorem q1753 : (Jvm.Cond.methodLink "RosaryCarvers" (113 : Nat) ({ cls := "RosaryCarvers$10", name := "<init>", desc := "(LRosaryCarvers;IIII)V" } : Jvm.MethodName)) ∈ lw_all := lw_g (lw_at lw_m8 1 rfl) rfl
theorem q1774 : (Jvm.Cond.methodLink "RosaryCarvers" (116 : Nat) ({ cls := "RosaryCarvers$10", name := "done", desc := "()I" } : Jvm.MethodName)) ∈ lw_all := lw_g (lw_at lw_m8 22 rfl) rfl
theorem q1778 : (Jvm.Cond.instanceMethod ({ cls := "RosaryCarvers", name := "mend", desc := "()I" } : Jvm.MethodName)) ∈ lw_all := lw_g (lw_at lw_m8 26 rfl) rfl
theorem q1779 : (Jvm.Cond.selects "RosaryCarvers" ({ cls := "RosaryCarvers", name := "mend", desc := "()I" } : Jvm.MethodName) ({ cls := "RosaryCarvers", name := "mend", desc := "()I" } : Jvm.MethodName)) ∈ lw_all := lw_g (lw_at lw_m8 27 rfl) rfl
theorem q1780 : (Jvm.Cond.code ({ cls := "RosaryCarvers", name := "mend", desc := "()I" } : Jvm.MethodName) prog_1_method_19_code (1 : Nat) (Option.some Jvm.ClassFile.FieldType.int)) ∈ lw_all := lw_g (lw_at lw_m8 28 rfl) rfl
theorem q1781 : (Jvm.Cond.classLink "RosaryCarvers" (117 : Nat) "RosaryCarvers$11") ∈ lw_all := lw_g (lw_at lw_m8 29 rfl) rfl
theorem q1783 : (Jvm.Cond.methodLink "RosaryCarvers" (119 : Nat) ({ cls := "RosaryCarvers$11", name := "<init>", desc := "(LRosaryCarvers;)V" } : Jvm.MethodName)) ∈ lw_all := lw_g (lw_at lw_m8 31 rfl) rfl
theorem q1792 : (Jvm.Cond.methodLink "RosaryCarvers" (122 : Nat) ({ cls := "RosaryCarvers$11", name := "done", desc := "()I" } : Jvm.MethodName)) ∈ lw_all := lw_g (lw_at lw_m8 40 rfl) rfl
theorem q1796 : (Jvm.Cond.instanceMethod ({ cls := "RosaryCarvers", name := "pass", desc := "(I)I" } : Jvm.MethodName)) ∈ lw_all := lw_g (lw_at lw_m8 44 rfl) rfl
theorem q1797 : (Jvm.Cond.selects "RosaryCarvers" ({ cls := "RosaryCarvers", name := "pass", desc := "(I)I" } : Jvm.MethodName) ({ cls := "RosaryCarvers", name := "pass", desc := "(I)I" } : Jvm.MethodName)) ∈ lw_all := lw_g (lw_at lw_m8 45 rfl) rfl
theorem q1798 : (Jvm.Cond.code ({ cls := "RosaryCarvers", name := "pass", desc := "(I)I" } : Jvm.MethodName) prog_1_method_20_code (2 : Nat) (Option.some Jvm.ClassFile.FieldType.int)) ∈ lw_all := lw_g (lw_at lw_m8 46 rfl) rfl
theorem q1799 : (Jvm.Cond.classLink "RosaryCarvers" (123 : Nat) "RosaryCarvers$12") ∈ lw_all := lw_g (lw_at lw_m8 47 rfl) rfl
theorem q1801 : (Jvm.Cond.methodLink "RosaryCarvers" (125 : Nat) ({ cls := "RosaryCarvers$12", name := "<init>", desc := "(LRosaryCarvers;I)V" } : Jvm.MethodName)) ∈ lw_all := lw_g (lw_at lw_m8 49 rfl) rfl
theorem q1813 : (Jvm.Cond.methodLink "RosaryCarvers" (126 : Nat) ({ cls := "RosaryCarvers$12", name := "done", desc := "()I" } : Jvm.MethodName)) ∈ lw_all := lw_g (lw_at lw_m8 61 rfl) rfl
theorem q1817 : (Jvm.Cond.instanceMethod ({ cls := "RosaryCarvers", name := "carverOf", desc := "(II)I" } : Jvm.MethodName)) ∈ lw_all := lw_g (lw_at lw_m8 65 rfl) rfl
theorem q1818 : (Jvm.Cond.selects "RosaryCarvers" ({ cls := "RosaryCarvers", name := "carverOf", desc := "(II)I" } : Jvm.MethodName) ({ cls := "RosaryCarvers", name := "carverOf", desc := "(II)I" } : Jvm.MethodName)) ∈ lw_all := lw_g (lw_at lw_m8 66 rfl) rfl
theorem q1819 : (Jvm.Cond.code ({ cls := "RosaryCarvers", name := "carverOf", desc := "(II)I" } : Jvm.MethodName) prog_1_method_21_code (4 : Nat) (Option.some Jvm.ClassFile.FieldType.int)) ∈ lw_all := lw_g (lw_at lw_m8 67 rfl) rfl
theorem q1820 : (Jvm.Cond.methodLink "RosaryCarvers" (131 : Nat) ({ cls := "java/util/ArrayList", name := "get", desc := "(I)Ljava/lang/Object;" } : Jvm.MethodName)) ∈ lw_all := lw_g (lw_at lw_m8 68 rfl) rfl
theorem q1821 : (Jvm.Cond.classLink "RosaryCarvers" (137 : Nat) "RosaryCarvers$Carver") ∈ lw_all := lw_g (lw_at lw_m8 69 rfl) rfl
theorem q1822 : (Jvm.Cond.methodLink "RosaryCarvers" (145 : Nat) ({ cls := "RosaryCarvers$Shop", name := "lensOf", desc := "(I)I" } : Jvm.MethodName)) ∈ lw_all := lw_g (lw_at lw_m8 70 rfl) rfl
theorem q1823 : (Jvm.Cond.methodLink "RosaryCarvers" (149 : Nat) ({ cls := "RosaryCarvers$Shop", name := "sight", desc := "(I)I" } : Jvm.MethodName)) ∈ lw_all := lw_g (lw_at lw_m8 71 rfl) rfl
theorem q1825 : (Jvm.Cond.instanceMethod ({ cls := "RosaryCarvers", name := "lensOf", desc := "(IZ)I" } : Jvm.MethodName)) ∈ lw_all := lw_g (lw_at lw_m8 73 rfl) rfl
theorem q1826 : (Jvm.Cond.selects "RosaryCarvers" ({ cls := "RosaryCarvers", name := "lensOf", desc := "(IZ)I" } : Jvm.MethodName) ({ cls := "RosaryCarvers", name := "lensOf", desc := "(IZ)I" } : Jvm.MethodName)) ∈ lw_all := lw_g (lw_at lw_m8 74 rfl) rfl
theorem q1827 : (Jvm.Cond.code ({ cls := "RosaryCarvers", name := "lensOf", desc := "(IZ)I" } : Jvm.MethodName) prog_1_method_22_code (4 : Nat) (Option.some Jvm.ClassFile.FieldType.int)) ∈ lw_all := lw_g (lw_at lw_m8 75 rfl) rfl
theorem q1828 : (Jvm.Cond.classLink "RosaryCarvers" (161 : Nat) "RosaryCarvers$Lens") ∈ lw_all := lw_g (lw_at lw_m8 76 rfl) rfl
theorem q1830 : (Jvm.Cond.instanceMethod ({ cls := "RosaryCarvers", name := "box", desc := "(ZZ)I" } : Jvm.MethodName)) ∈ lw_all := lw_g (lw_at lw_m8 78 rfl) rfl
theorem q1831 : (Jvm.Cond.selects "RosaryCarvers" ({ cls := "RosaryCarvers", name := "box", desc := "(ZZ)I" } : Jvm.MethodName) ({ cls := "RosaryCarvers", name := "box", desc := "(ZZ)I" } : Jvm.MethodName)) ∈ lw_all := lw_g (lw_at lw_m8 79 rfl) rfl
theorem q1832 : (Jvm.Cond.code ({ cls := "RosaryCarvers", name := "box", desc := "(ZZ)I" } : Jvm.MethodName) prog_1_method_23_code (3 : Nat) (Option.some Jvm.ClassFile.FieldType.int)) ∈ lw_all := lw_g (lw_at lw_m8 80 rfl) rfl
theorem q1833 : (Jvm.Cond.methodLink "RosaryCarvers" (173 : Nat) ({ cls := "RosaryCarvers$Beads", name := "of", desc := "(Z)Ljava/lang/Iterable;" } : Jvm.MethodName)) ∈ lw_all := lw_g (lw_at lw_m8 81 rfl) rfl
theorem q1834 : (Jvm.Cond.methodLink "RosaryCarvers" (179 : Nat) ({ cls := "RosaryCarvers$Fine", name := "sum", desc := "(Ljava/lang/Iterable;)I" } : Jvm.MethodName)) ∈ lw_all := lw_g (lw_at lw_m8 82 rfl) rfl
theorem q1835 : (Jvm.Cond.methodLink "RosaryCarvers" (185 : Nat) ({ cls := "RosaryCarvers$Beads", name := "many", desc := "(Z)I" } : Jvm.MethodName)) ∈ lw_all := lw_g (lw_at lw_m8 83 rfl) rfl
theorem q1837 : (Jvm.Cond.instanceMethod ({ cls := "RosaryCarvers", name := "finest", desc := "(Z)I" } : Jvm.MethodName)) ∈ lw_all := lw_g (lw_at lw_m8 85 rfl) rfl
theorem q1838 : (Jvm.Cond.selects "RosaryCarvers" ({ cls := "RosaryCarvers", name := "finest", desc := "(Z)I" } : Jvm.MethodName) ({ cls := "RosaryCarvers", name := "finest", desc := "(Z)I" } : Jvm.MethodName)) ∈ lw_all := lw_g (lw_at lw_m8 86 rfl) rfl
theorem q1839 : (Jvm.Cond.code ({ cls := "RosaryCarvers", name := "finest", desc := "(Z)I" } : Jvm.MethodName) prog_1_method_24_code (3 : Nat) (Option.some Jvm.ClassFile.FieldType.int)) ∈ lw_all := lw_g (lw_at lw_m8 87 rfl) rfl
theorem q1840 : (Jvm.Cond.methodLink "RosaryCarvers" (189 : Nat) ({ cls := "RosaryCarvers$Beads", name := "finest", desc := "(Z)LRosaryCarvers$Bead;" } : Jvm.MethodName)) ∈ lw_all := lw_g (lw_at lw_m8 88 rfl) rfl
theorem q1842 : (Jvm.Cond.instanceMethod ({ cls := "RosaryCarvers", name := "finestAgain", desc := "(Z)I" } : Jvm.MethodName)) ∈ lw_all := lw_g (lw_at lw_m8 90 rfl) rfl
theorem q1843 : (Jvm.Cond.selects "RosaryCarvers" ({ cls := "RosaryCarvers", name := "finestAgain", desc := "(Z)I" } : Jvm.MethodName) ({ cls := "RosaryCarvers", name := "finestAgain", desc := "(Z)I" } : Jvm.MethodName)) ∈ lw_all := lw_g (lw_at lw_m8 91 rfl) rfl
theorem q1844 : (Jvm.Cond.code ({ cls := "RosaryCarvers", name := "finestAgain", desc := "(Z)I" } : Jvm.MethodName) prog_1_method_25_code (6 : Nat) (Option.some Jvm.ClassFile.FieldType.int)) ∈ lw_all := lw_g (lw_at lw_m8 92 rfl) rfl
theorem q1845 : (Jvm.Cond.interfaceEntry "RosaryCarvers" (198 : Nat)) ∈ lw_tbl := lw_at lw_m8 93 rfl
theorem q1846 : (Jvm.Cond.methodLink "RosaryCarvers" (198 : Nat) ({ cls := "java/lang/Iterable", name := "iterator", desc := "()Ljava/util/Iterator;" } : Jvm.MethodName)) ∈ lw_all := lw_g (lw_at lw_m8 94 rfl) rfl
theorem q1847 : (Jvm.Cond.classLink "RosaryCarvers" (194 : Nat) "RosaryCarvers$Bead") ∈ lw_all := lw_g (lw_at lw_m8 95 rfl) rfl
theorem q1849 : (Jvm.Cond.instanceMethod ({ cls := "RosaryCarvers", name := "stringOf", desc := "(II)I" } : Jvm.MethodName)) ∈ lw_all := lw_g (lw_at lw_m8 97 rfl) rfl
theorem q1850 : (Jvm.Cond.selects "RosaryCarvers" ({ cls := "RosaryCarvers", name := "stringOf", desc := "(II)I" } : Jvm.MethodName) ({ cls := "RosaryCarvers", name := "stringOf", desc := "(II)I" } : Jvm.MethodName)) ∈ lw_all := lw_g (lw_at lw_m8 98 rfl) rfl
theorem q1851 : (Jvm.Cond.code ({ cls := "RosaryCarvers", name := "stringOf", desc := "(II)I" } : Jvm.MethodName) prog_1_method_26_code (4 : Nat) (Option.some Jvm.ClassFile.FieldType.int)) ∈ lw_all := lw_g (lw_at lw_m8 99 rfl) rfl
theorem q1852 : (Jvm.Cond.classLink "RosaryCarvers" (220 : Nat) "RosaryCarvers$Rosary") ∈ lw_all := lw_g (lw_at lw_m8 100 rfl) rfl
theorem q1853 : (Jvm.Cond.methodLink "RosaryCarvers" (228 : Nat) ({ cls := "RosaryCarvers$Rosary", name := "size", desc := "()I" } : Jvm.MethodName)) ∈ lw_all := lw_g (lw_at lw_m8 101 rfl) rfl
theorem q1854 : (Jvm.Cond.methodLink "RosaryCarvers" (234 : Nat) ({ cls := "RosaryCarvers$Rosary", name := "fineness", desc := "()I" } : Jvm.MethodName)) ∈ lw_all := lw_g (lw_at lw_m8 102 rfl) rfl
theorem q1855 : (Jvm.Cond.methodLink "RosaryCarvers" (236 : Nat) ({ cls := "RosaryCarvers$Rosary", name := "isDone", desc := "()Z" } : Jvm.MethodName)) ∈ lw_all := lw_g (lw_at lw_m8 103 rfl) rfl
theorem q1856 : (Jvm.Cond.methodLink "RosaryCarvers" (239 : Nat) ({ cls := "RosaryCarvers", name := "bit", desc := "(Z)I" } : Jvm.MethodName)) ∈ lw_all := lw_g (lw_at lw_m8 104 rfl) rfl
theorem q1857 : (Jvm.Cond.methodLink "RosaryCarvers" (242 : Nat) ({ cls := "RosaryCarvers$Rosary", name := "wants", desc := "()I" } : Jvm.MethodName)) ∈ lw_all := lw_g (lw_at lw_m8 105 rfl) rfl
theorem q1866 : (Jvm.Cond.instanceMethod ({ cls := "RosaryCarvers", name := "bead", desc := "(IIZ)I" } : Jvm.MethodName)) ∈ lw_all := lw_g (lw_at lw_m8 114 rfl) rfl
theorem q1867 : (Jvm.Cond.selects "RosaryCarvers" ({ cls := "RosaryCarvers", name := "bead", desc := "(IIZ)I" } : Jvm.MethodName) ({ cls := "RosaryCarvers", name := "bead", desc := "(IIZ)I" } : Jvm.MethodName)) ∈ lw_all := lw_g (lw_at lw_m8 115 rfl) rfl
theorem q1868 : (Jvm.Cond.code ({ cls := "RosaryCarvers", name := "bead", desc := "(IIZ)I" } : Jvm.MethodName) prog_1_method_27_code (7 : Nat) (Option.some Jvm.ClassFile.FieldType.int)) ∈ lw_all := lw_g (lw_at lw_m8 116 rfl) rfl
theorem q1869 : (Jvm.Cond.methodLink "RosaryCarvers" (245 : Nat) ({ cls := "RosaryCarvers$Rosary", name := "iterator", desc := "()Ljava/util/Iterator;" } : Jvm.MethodName)) ∈ lw_all := lw_g (lw_at lw_m8 117 rfl) rfl
theorem q1873 : (Jvm.Cond.instanceMethod ({ cls := "RosaryCarvers", name := "pilgrimOf", desc := "(II)I" } : Jvm.MethodName)) ∈ lw_all := lw_g (lw_at lw_m8 121 rfl) rfl
theorem q1874 : (Jvm.Cond.selects "RosaryCarvers" ({ cls := "RosaryCarvers", name := "pilgrimOf", desc := "(II)I" } : Jvm.MethodName) ({ cls := "RosaryCarvers", name := "pilgrimOf", desc := "(II)I" } : Jvm.MethodName)) ∈ lw_all := lw_g (lw_at lw_m8 122 rfl) rfl
theorem q1875 : (Jvm.Cond.code ({ cls := "RosaryCarvers", name := "pilgrimOf", desc := "(II)I" } : Jvm.MethodName) prog_1_method_28_code (4 : Nat) (Option.some Jvm.ClassFile.FieldType.int)) ∈ lw_all := lw_g (lw_at lw_m8 123 rfl) rfl
theorem q1876 : (Jvm.Cond.methodLink "RosaryCarvers" (249 : Nat) ({ cls := "java/util/ArrayList", name := "size", desc := "()I" } : Jvm.MethodName)) ∈ lw_all := lw_g (lw_at lw_m8 124 rfl) rfl
theorem q1877 : (Jvm.Cond.classLink "RosaryCarvers" (250 : Nat) "RosaryCarvers$Pilgrim") ∈ lw_all := lw_g (lw_at lw_m8 125 rfl) rfl
theorem q1878 : (Jvm.Cond.methodLink "RosaryCarvers" (261 : Nat) ({ cls := "RosaryCarvers$Shop", name := "wanted", desc := "(LRosaryCarvers$Pilgrim;)I" } : Jvm.MethodName)) ∈ lw_all := lw_g (lw_at lw_m8 126 rfl) rfl
theorem q1880 : (Jvm.Cond.instanceMethod ({ cls := "RosaryCarvers", name := "soldOf", desc := "(ZII)I" } : Jvm.MethodName)) ∈ lw_all := lw_g (lw_at lw_m8 128 rfl) rfl
theorem q1881 : (Jvm.Cond.selects "RosaryCarvers" ({ cls := "RosaryCarvers", name := "soldOf", desc := "(ZII)I" } : Jvm.MethodName) ({ cls := "RosaryCarvers", name := "soldOf", desc := "(ZII)I" } : Jvm.MethodName)) ∈ lw_all := lw_g (lw_at lw_m8 129 rfl) rfl
theorem q1882 : (Jvm.Cond.code ({ cls := "RosaryCarvers", name := "soldOf", desc := "(ZII)I" } : Jvm.MethodName) prog_1_method_29_code (6 : Nat) (Option.some Jvm.ClassFile.FieldType.int)) ∈ lw_all := lw_g (lw_at lw_m8 130 rfl) rfl
theorem q1883 : (Jvm.Cond.classLink "RosaryCarvers" (271 : Nat) "RosaryCarvers$Sold") ∈ lw_all := lw_g (lw_at lw_m8 131 rfl) rfl
theorem q1884 : (Jvm.Cond.methodLink "RosaryCarvers" (273 : Nat) ({ cls := "RosaryCarvers$Sold", name := "size", desc := "()I" } : Jvm.MethodName)) ∈ lw_all := lw_g (lw_at lw_m8 132 rfl) rfl
theorem q1885 : (Jvm.Cond.methodLink "RosaryCarvers" (274 : Nat) ({ cls := "RosaryCarvers$Sold", name := "fineness", desc := "()I" } : Jvm.MethodName)) ∈ lw_all := lw_g (lw_at lw_m8 133 rfl) rfl
theorem q1886 : (Jvm.Cond.methodLink "RosaryCarvers" (275 : Nat) ({ cls := "RosaryCarvers$Sold", name := "last", desc := "()I" } : Jvm.MethodName)) ∈ lw_all := lw_g (lw_at lw_m8 134 rfl) rfl
theorem q1888 : (Jvm.Cond.instanceMethod ({ cls := "RosaryCarvers", name := "could", desc := "(II)I" } : Jvm.MethodName)) ∈ lw_all := lw_g (lw_at lw_m8 136 rfl) rfl
theorem q1889 : (Jvm.Cond.selects "RosaryCarvers" ({ cls := "RosaryCarvers", name := "could", desc := "(II)I" } : Jvm.MethodName) ({ cls := "RosaryCarvers", name := "could", desc := "(II)I" } : Jvm.MethodName)) ∈ lw_all := lw_g (lw_at lw_m8 137 rfl) rfl
theorem q1890 : (Jvm.Cond.code ({ cls := "RosaryCarvers", name := "could", desc := "(II)I" } : Jvm.MethodName) prog_1_method_30_code (3 : Nat) (Option.some Jvm.ClassFile.FieldType.int)) ∈ lw_all := lw_g (lw_at lw_m8 138 rfl) rfl
theorem q1891 : (Jvm.Cond.methodLink "RosaryCarvers" (286 : Nat) ({ cls := "java/lang/Math", name := "min", desc := "(II)I" } : Jvm.MethodName)) ∈ lw_all := lw_g (lw_at lw_m8 139 rfl) rfl
theorem q1893 : (Jvm.Cond.instanceMethod ({ cls := "RosaryCarvers", name := "nextBack", desc := "()I" } : Jvm.MethodName)) ∈ lw_all := lw_g (lw_at lw_m8 141 rfl) rfl
theorem q1894 : (Jvm.Cond.selects "RosaryCarvers" ({ cls := "RosaryCarvers", name := "nextBack", desc := "()I" } : Jvm.MethodName) ({ cls := "RosaryCarvers", name := "nextBack", desc := "()I" } : Jvm.MethodName)) ∈ lw_all := lw_g (lw_at lw_m8 142 rfl) rfl
theorem q1895 : (Jvm.Cond.code ({ cls := "RosaryCarvers", name := "nextBack", desc := "()I" } : Jvm.MethodName) prog_1_method_31_code (5 : Nat) (Option.some Jvm.ClassFile.FieldType.int)) ∈ lw_all := lw_g (lw_at lw_m8 143 rfl) rfl
theorem q1896 : (Jvm.Cond.methodLink "RosaryCarvers" (292 : Nat) ({ cls := "java/util/ArrayList", name := "iterator", desc := "()Ljava/util/Iterator;" } : Jvm.MethodName)) ∈ lw_all := lw_g (lw_at lw_m8 144 rfl) rfl
theorem q1898 : (Jvm.Cond.instanceMethod ({ cls := "RosaryCarvers", name := "isCounted", desc := "()Z" } : Jvm.MethodName)) ∈ lw_all := lw_g (lw_at lw_m8 146 rfl) rfl
theorem q1899 : (Jvm.Cond.selects "RosaryCarvers" ({ cls := "RosaryCarvers", name := "isCounted", desc := "()Z" } : Jvm.MethodName) ({ cls := "RosaryCarvers", name := "isCounted", desc := "()Z" } : Jvm.MethodName)) ∈ lw_all := lw_g (lw_at lw_m8 147 rfl) rfl
theorem q1900 : (Jvm.Cond.code ({ cls := "RosaryCarvers", name := "isCounted", desc := "()Z" } : Jvm.MethodName) prog_1_method_35_code (5 : Nat) (Option.some Jvm.ClassFile.FieldType.boolean)) ∈ lw_all := lw_g (lw_at lw_m8 148 rfl) rfl
theorem q1901 : (Jvm.Cond.classLink "RosaryCarvers" (296 : Nat) "java/util/BitSet") ∈ lw_all := lw_g (lw_at lw_m8 149 rfl) rfl
theorem q1902 : (Jvm.Cond.methodLink "RosaryCarvers" (301 : Nat) ({ cls := "java/util/BitSet", name := "<init>", desc := "()V" } : Jvm.MethodName)) ∈ lw_all := lw_g (lw_at lw_m8 150 rfl) rfl
theorem q1903 : (Jvm.Cond.methodLink "RosaryCarvers" (302 : Nat) ({ cls := "RosaryCarvers", name := "marks", desc := "(Ljava/util/BitSet;Ljava/lang/Iterable;)I" } : Jvm.MethodName)) ∈ lw_all := lw_g (lw_at lw_m8 151 rfl) rfl
theorem q1904 : (Jvm.Cond.static ({ cls := "RosaryCarvers", name := "marks", desc := "(Ljava/util/BitSet;Ljava/lang/Iterable;)I" } : Jvm.MethodName)) ∈ lw_all := lw_g (lw_at lw_m8 152 rfl) rfl
theorem q1905 : (Jvm.Cond.code ({ cls := "RosaryCarvers", name := "marks", desc := "(Ljava/util/BitSet;Ljava/lang/Iterable;)I" } : Jvm.MethodName) prog_1_method_34_code (7 : Nat) (Option.some Jvm.ClassFile.FieldType.int)) ∈ lw_all := lw_g (lw_at lw_m8 153 rfl) rfl
theorem q1906 : (Jvm.Cond.classLink "RosaryCarvers" (174 : Nat) "RosaryCarvers$Beads") ∈ lw_all := lw_g (lw_at lw_m8 154 rfl) rfl
theorem q1907 : (Jvm.Cond.methodLink "RosaryCarvers" (294 : Nat) ({ cls := "RosaryCarvers$Beads", name := "iterator", desc := "()Ljava/util/Iterator;" } : Jvm.MethodName)) ∈ lw_all := lw_g (lw_at lw_m8 155 rfl) rfl
theorem q1908 : (Jvm.Cond.methodLink "RosaryCarvers" (295 : Nat) ({ cls := "java/util/BitSet", name := "set", desc := "(I)V" } : Jvm.MethodName)) ∈ lw_all := lw_g (lw_at lw_m8 156 rfl) rfl
theorem q1909 : (Jvm.Cond.methodLink "RosaryCarvers" (310 : Nat) ({ cls := "java/util/BitSet", name := "or", desc := "(Ljava/util/BitSet;)V" } : Jvm.MethodName)) ∈ lw_all := lw_g (lw_at lw_m8 157 rfl) rfl
theorem q1910 : (Jvm.Cond.methodLink "RosaryCarvers" (320 : Nat) ({ cls := "java/util/BitSet", name := "cardinality", desc := "()I" } : Jvm.MethodName)) ∈ lw_all := lw_g (lw_at lw_m8 158 rfl) rfl
theorem q1921 : (Jvm.Cond.instanceMethod ({ cls := "RosaryCarvers", name := "meanFineness", desc := "()D" } : Jvm.MethodName)) ∈ lw_all := lw_g (lw_at lw_m8 169 rfl) rfl
theorem q1922 : (Jvm.Cond.selects "RosaryCarvers" ({ cls := "RosaryCarvers", name := "meanFineness", desc := "()D" } : Jvm.MethodName) ({ cls := "RosaryCarvers", name := "meanFineness", desc := "()D" } : Jvm.MethodName)) ∈ lw_all := lw_g (lw_at lw_m8 170 rfl) rfl
theorem q1923 : (Jvm.Cond.code ({ cls := "RosaryCarvers", name := "meanFineness", desc := "()D" } : Jvm.MethodName) prog_1_method_36_code (2 : Nat) (Option.some Jvm.ClassFile.FieldType.double)) ∈ lw_all := lw_g (lw_at lw_m8 171 rfl) rfl
theorem q1924 : (Jvm.Cond.methodLink "RosaryCarvers" (293 : Nat) ({ cls := "RosaryCarvers$Beads", name := "size", desc := "()I" } : Jvm.MethodName)) ∈ lw_all := lw_g (lw_at lw_m8 172 rfl) rfl
theorem q1925 : (Jvm.Cond.methodLink "RosaryCarvers" (323 : Nat) ({ cls := "RosaryCarvers$Beads", name := "sum", desc := "()I" } : Jvm.MethodName)) ∈ lw_all := lw_g (lw_at lw_m8 173 rfl) rfl
theorem q1927 : (Jvm.Cond.instanceMethod ({ cls := "RosaryCarvers", name := "spoilt", desc := "()F" } : Jvm.MethodName)) ∈ lw_all := lw_g (lw_at lw_m8 175 rfl) rfl
theorem q1928 : (Jvm.Cond.selects "RosaryCarvers" ({ cls := "RosaryCarvers", name := "spoilt", desc := "()F" } : Jvm.MethodName) ({ cls := "RosaryCarvers", name := "spoilt", desc := "()F" } : Jvm.MethodName)) ∈ lw_all := lw_g (lw_at lw_m8 176 rfl) rfl
theorem q1929 : (Jvm.Cond.code ({ cls := "RosaryCarvers", name := "spoilt", desc := "()F" } : Jvm.MethodName) prog_1_method_37_code (2 : Nat) (Option.some Jvm.ClassFile.FieldType.float)) ∈ lw_all := lw_g (lw_at lw_m8 177 rfl) rfl
theorem q1931 : (Jvm.Cond.instanceMethod ({ cls := "RosaryCarvers", name := "account", desc := "(I)I" } : Jvm.MethodName)) ∈ lw_all := lw_g (lw_at lw_m8 179 rfl) rfl
theorem q1932 : (Jvm.Cond.selects "RosaryCarvers" ({ cls := "RosaryCarvers", name := "account", desc := "(I)I" } : Jvm.MethodName) ({ cls := "RosaryCarvers", name := "account", desc := "(I)I" } : Jvm.MethodName)) ∈ lw_all := lw_g (lw_at lw_m8 180 rfl) rfl
theorem q1933 : (Jvm.Cond.code ({ cls := "RosaryCarvers", name := "account", desc := "(I)I" } : Jvm.MethodName) prog_1_method_38_code (2 : Nat) (Option.some Jvm.ClassFile.FieldType.int)) ∈ lw_all := lw_g (lw_at lw_m8 181 rfl) rfl
theorem q1934 : (Jvm.Cond.methodLink "RosaryCarvers" (326 : Nat) ({ cls := "RosaryCarvers", name := "seasonOf", desc := "(I)I" } : Jvm.MethodName)) ∈ lw_all := lw_g (lw_at lw_m8 182 rfl) rfl
theorem q1935 : (Jvm.Cond.methodLink "RosaryCarvers" (332 : Nat) ({ cls := "RosaryCarvers", name := "doneOnes", desc := "()I" } : Jvm.MethodName)) ∈ lw_all := lw_g (lw_at lw_m8 183 rfl) rfl
theorem q1936 : (Jvm.Cond.privateMethod ({ cls := "RosaryCarvers", name := "doneOnes", desc := "()I" } : Jvm.MethodName)) ∈ lw_tbl := lw_at lw_m8 184 rfl
theorem q1937 : (Jvm.Cond.instanceMethod ({ cls := "RosaryCarvers", name := "doneOnes", desc := "()I" } : Jvm.MethodName)) ∈ lw_all := lw_g (lw_at lw_m8 185 rfl) rfl
theorem q1938 : (Jvm.Cond.code ({ cls := "RosaryCarvers", name := "doneOnes", desc := "()I" } : Jvm.MethodName) prog_1_method_32_code (4 : Nat) (Option.some Jvm.ClassFile.FieldType.int)) ∈ lw_all := lw_g (lw_at lw_m8 186 rfl) rfl
theorem q1939 : (Jvm.Cond.methodLink "RosaryCarvers" (335 : Nat) ({ cls := "RosaryCarvers", name := "sizes", desc := "(Ljava/lang/Iterable;)I" } : Jvm.MethodName)) ∈ lw_all := lw_g (lw_at lw_m8 187 rfl) rfl
theorem q1940 : (Jvm.Cond.static ({ cls := "RosaryCarvers", name := "sizes", desc := "(Ljava/lang/Iterable;)I" } : Jvm.MethodName)) ∈ lw_all := lw_g (lw_at lw_m8 188 rfl) rfl
theorem q1941 : (Jvm.Cond.code ({ cls := "RosaryCarvers", name := "sizes", desc := "(Ljava/lang/Iterable;)I" } : Jvm.MethodName) prog_1_method_33_code (4 : Nat) (Option.some Jvm.ClassFile.FieldType.int)) ∈ lw_all := lw_g (lw_at lw_m8 189 rfl) rfl
theorem q1942 : (Jvm.Cond.methodLink "RosaryCarvers" (348 : Nat) ({ cls := "java/util/ArrayDeque", name := "size", desc := "()I" } : Jvm.MethodName)) ∈ lw_all := lw_g (lw_at lw_m8 190 rfl) rfl
theorem q1944 : (Jvm.Cond.instanceMethod ({ cls := "RosaryCarvers", name := "write", desc := "(I)I" } : Jvm.MethodName)) ∈ lw_all := lw_g (lw_at lw_m8 192 rfl) rfl
theorem q1945 : (Jvm.Cond.selects "RosaryCarvers" ({ cls := "RosaryCarvers", name := "write", desc := "(I)I" } : Jvm.MethodName) ({ cls := "RosaryCarvers", name := "write", desc := "(I)I" } : Jvm.MethodName)) ∈ lw_all := lw_g (lw_at lw_m8 193 rfl) rfl
theorem q1946 : (Jvm.Cond.code ({ cls := "RosaryCarvers", name := "write", desc := "(I)I" } : Jvm.MethodName) prog_1_method_39_code (7 : Nat) (Option.some Jvm.ClassFile.FieldType.int)) ∈ lw_all := lw_g (lw_at lw_m8 194 rfl) rfl
theorem q1947 : (Jvm.Cond.classLink "RosaryCarvers" (349 : Nat) "java/lang/StringBuilder") ∈ lw_all := lw_g (lw_at lw_m8 195 rfl) rfl
theorem q1949 : (Jvm.Cond.methodLink "RosaryCarvers" (351 : Nat) ({ cls := "java/lang/StringBuilder", name := "<init>", desc := "()V" } : Jvm.MethodName)) ∈ lw_all := lw_g (lw_at lw_m8 197 rfl) rfl
theorem q1977 : (Jvm.Cond.methodLink "RosaryCarvers" (352 : Nat) ({ cls := "RosaryCarvers$Bead", name := "sign", desc := "()C" } : Jvm.MethodName)) ∈ lw_all := lw_g (lw_at lw_m8 225 rfl) rfl
theorem q1981 : (Jvm.Cond.methodLink "RosaryCarvers" (356 : Nat) ({ cls := "java/lang/StringBuilder", name := "append", desc := "(C)Ljava/lang/StringBuilder;" } : Jvm.MethodName)) ∈ lw_all := lw_g (lw_at lw_m8 229 rfl) rfl
theorem q2048 : (Jvm.Cond.methodLink "RosaryCarvers" (360 : Nat) ({ cls := "java/lang/StringBuilder", name := "append", desc := "(I)Ljava/lang/StringBuilder;" } : Jvm.MethodName)) ∈ lw_all := lw_g (lw_at lw_m9 56 rfl) rfl
theorem q2082 : (Jvm.Cond.stringRef "RosaryCarvers" (363 : Nat) "empty") ∈ lw_tbl := lw_at lw_m9 90 rfl
theorem q2083 : (Jvm.Cond.methodLink "RosaryCarvers" (365 : Nat) ({ cls := "java/lang/StringBuilder", name := "toString", desc := "()Ljava/lang/String;" } : Jvm.MethodName)) ∈ lw_all := lw_g (lw_at lw_m9 91 rfl) rfl
theorem q2142 : (Jvm.Cond.methodLink "RosaryCarvers" (369 : Nat) ({ cls := "java/lang/String", name := "length", desc := "()I" } : Jvm.MethodName)) ∈ lw_all := lw_g (lw_at lw_m9 150 rfl) rfl
theorem q2151 : (Jvm.Cond.instanceMethod ({ cls := "RosaryCarvers", name := "written", desc := "(I)I" } : Jvm.MethodName)) ∈ lw_all := lw_g (lw_at lw_m9 159 rfl) rfl
theorem q2152 : (Jvm.Cond.selects "RosaryCarvers" ({ cls := "RosaryCarvers", name := "written", desc := "(I)I" } : Jvm.MethodName) ({ cls := "RosaryCarvers", name := "written", desc := "(I)I" } : Jvm.MethodName)) ∈ lw_all := lw_g (lw_at lw_m9 160 rfl) rfl
theorem q2153 : (Jvm.Cond.code ({ cls := "RosaryCarvers", name := "written", desc := "(I)I" } : Jvm.MethodName) prog_1_method_40_code (2 : Nat) (Option.some Jvm.ClassFile.FieldType.int)) ∈ lw_all := lw_g (lw_at lw_m9 161 rfl) rfl
theorem q2154 : (Jvm.Cond.methodLink "RosaryCarvers" (374 : Nat) ({ cls := "java/lang/String", name := "charAt", desc := "(I)C" } : Jvm.MethodName)) ∈ lw_all := lw_g (lw_at lw_m9 162 rfl) rfl
theorem q2166 : (Jvm.Cond.instanceMethod ({ cls := "RosaryCarvers", name := "append", desc := "(C)I" } : Jvm.MethodName)) ∈ lw_all := lw_g (lw_at lw_m9 174 rfl) rfl
theorem q2167 : (Jvm.Cond.selects "RosaryCarvers" ({ cls := "RosaryCarvers", name := "append", desc := "(C)I" } : Jvm.MethodName) ({ cls := "RosaryCarvers", name := "append", desc := "(C)I" } : Jvm.MethodName)) ∈ lw_all := lw_g (lw_at lw_m9 175 rfl) rfl
theorem q2168 : (Jvm.Cond.code ({ cls := "RosaryCarvers", name := "append", desc := "(C)I" } : Jvm.MethodName) prog_1_method_41_code (2 : Nat) (Option.some Jvm.ClassFile.FieldType.int)) ∈ lw_all := lw_g (lw_at lw_m9 176 rfl) rfl
theorem q2170 : (Jvm.Cond.instanceMethod ({ cls := "RosaryCarvers", name := "read", desc := "()I" } : Jvm.MethodName)) ∈ lw_all := lw_g (lw_at lw_m9 178 rfl) rfl
theorem q2171 : (Jvm.Cond.selects "RosaryCarvers" ({ cls := "RosaryCarvers", name := "read", desc := "()I" } : Jvm.MethodName) ({ cls := "RosaryCarvers", name := "read", desc := "()I" } : Jvm.MethodName)) ∈ lw_all := lw_g (lw_at lw_m9 179 rfl) rfl
theorem q2172 : (Jvm.Cond.codeWith ({ cls := "RosaryCarvers", name := "read", desc := "()I" } : Jvm.MethodName) prog_1_method_46_code (4 : Nat) (Option.some Jvm.ClassFile.FieldType.int) [((0 : Nat), (25 : Nat), (32 : Nat), (459 : Nat)), ((0 : Nat), (25 : Nat), (51 : Nat), (0 : Nat)), ((32 : Nat), (44 : Nat), (51 : Nat), (0 : Nat))]) ∈ lw_all := lw_g (lw_at lw_m9 180 rfl) rfl
theorem q2173 : (Jvm.Cond.classLink "RosaryCarvers" (459 : Nat) "RosaryCarvers$BadSign") ∈ lw_all := lw_g (lw_at lw_m9 181 rfl) rfl
theorem q2174 : (Jvm.Cond.classLink "RosaryCarvers" (446 : Nat) "RosaryCarvers$Reader") ∈ lw_all := lw_g (lw_at lw_m9 182 rfl) rfl
theorem q2176 : (Jvm.Cond.methodLinkNest "RosaryCarvers" (448 : Nat) ({ cls := "RosaryCarvers$Reader", name := "<init>", desc := "(LRosaryCarvers;)V" } : Jvm.MethodName) "RosaryCarvers") ∈ lw_tbl := lw_at lw_m9 184 rfl
theorem q2204 : (Jvm.Cond.methodLink "RosaryCarvers" (449 : Nat) ({ cls := "RosaryCarvers$Reader", name := "whole", desc := "()Ljava/util/ArrayDeque;" } : Jvm.MethodName)) ∈ lw_all := lw_g (lw_at lw_m9 212 rfl) rfl
theorem q2242 : (Jvm.Cond.fieldLinkNest "RosaryCarvers" (461 : Nat) "RosaryCarvers$BadSign" "place" "I" "RosaryCarvers") ∈ lw_tbl := lw_at lw_m10 10 rfl
theorem q2254 : (Jvm.Cond.fieldLinkNest "RosaryCarvers" (394 : Nat) "RosaryCarvers$Command" "word" "Ljava/lang/String;" "RosaryCarvers") ∈ lw_tbl := lw_at lw_m10 22 rfl
theorem q2272 : (Jvm.Cond.classLink "RosaryCarvers" (453 : Nat) "RosaryCarvers$13") ∈ lw_all := lw_g (lw_at lw_m10 40 rfl) rfl
theorem q2274 : (Jvm.Cond.methodLink "RosaryCarvers" (455 : Nat) ({ cls := "RosaryCarvers$13", name := "<init>", desc := "(LRosaryCarvers;Ljava/util/ArrayDeque;)V" } : Jvm.MethodName)) ∈ lw_all := lw_g (lw_at lw_m10 42 rfl) rfl
theorem q2286 : (Jvm.Cond.methodLink "RosaryCarvers" (458 : Nat) ({ cls := "RosaryCarvers$13", name := "done", desc := "()I" } : Jvm.MethodName)) ∈ lw_all := lw_g (lw_at lw_m10 54 rfl) rfl
theorem q2290 : (Jvm.Cond.instanceMethod ({ cls := "RosaryCarvers", name := "fault", desc := "()I" } : Jvm.MethodName)) ∈ lw_all := lw_g (lw_at lw_m10 58 rfl) rfl
theorem q2291 : (Jvm.Cond.selects "RosaryCarvers" ({ cls := "RosaryCarvers", name := "fault", desc := "()I" } : Jvm.MethodName) ({ cls := "RosaryCarvers", name := "fault", desc := "()I" } : Jvm.MethodName)) ∈ lw_all := lw_g (lw_at lw_m10 59 rfl) rfl
theorem q2292 : (Jvm.Cond.code ({ cls := "RosaryCarvers", name := "fault", desc := "()I" } : Jvm.MethodName) prog_1_method_47_code (1 : Nat) (Option.some Jvm.ClassFile.FieldType.int)) ∈ lw_all := lw_g (lw_at lw_m10 60 rfl) rfl
theorem q2294 : (Jvm.Cond.instanceMethod ({ cls := "RosaryCarvers", name := "reason", desc := "(IZ)I" } : Jvm.MethodName)) ∈ lw_all := lw_g (lw_at lw_m10 62 rfl) rfl
theorem q2295 : (Jvm.Cond.selects "RosaryCarvers" ({ cls := "RosaryCarvers", name := "reason", desc := "(IZ)I" } : Jvm.MethodName) ({ cls := "RosaryCarvers", name := "reason", desc := "(IZ)I" } : Jvm.MethodName)) ∈ lw_all := lw_g (lw_at lw_m10 63 rfl) rfl
theorem q2296 : (Jvm.Cond.code ({ cls := "RosaryCarvers", name := "reason", desc := "(IZ)I" } : Jvm.MethodName) prog_1_method_48_code (4 : Nat) (Option.some Jvm.ClassFile.FieldType.int)) ∈ lw_all := lw_g (lw_at lw_m10 64 rfl) rfl
theorem q2297 : (Jvm.Cond.methodLink "RosaryCarvers" (468 : Nat) ({ cls := "RosaryCarvers$Refused", name := "behind", desc := "(I)LRosaryCarvers$Refused;" } : Jvm.MethodName)) ∈ lw_all := lw_g (lw_at lw_m10 65 rfl) rfl
theorem q2310 : (Jvm.Cond.instanceMethod ({ cls := "RosaryCarvers", name := "undo", desc := "()I" } : Jvm.MethodName)) ∈ lw_all := lw_g (lw_at lw_m10 78 rfl) rfl
theorem q2311 : (Jvm.Cond.selects "RosaryCarvers" ({ cls := "RosaryCarvers", name := "undo", desc := "()I" } : Jvm.MethodName) ({ cls := "RosaryCarvers", name := "undo", desc := "()I" } : Jvm.MethodName)) ∈ lw_all := lw_g (lw_at lw_m10 79 rfl) rfl
theorem q2312 : (Jvm.Cond.code ({ cls := "RosaryCarvers", name := "undo", desc := "()I" } : Jvm.MethodName) prog_1_method_49_code (1 : Nat) (Option.some Jvm.ClassFile.FieldType.int)) ∈ lw_all := lw_g (lw_at lw_m10 80 rfl) rfl
theorem q2313 : (Jvm.Cond.methodLink "RosaryCarvers" (478 : Nat) ({ cls := "java/util/ArrayDeque", name := "isEmpty", desc := "()Z" } : Jvm.MethodName)) ∈ lw_all := lw_g (lw_at lw_m10 81 rfl) rfl
theorem q2317 : (Jvm.Cond.methodLink "RosaryCarvers" (481 : Nat) ({ cls := "java/util/ArrayDeque", name := "removeLast", desc := "()Ljava/lang/Object;" } : Jvm.MethodName)) ∈ lw_all := lw_g (lw_at lw_m10 85 rfl) rfl
theorem q2326 : (Jvm.Cond.instanceMethod ({ cls := "RosaryCarvers", name := "save", desc := "()I" } : Jvm.MethodName)) ∈ lw_all := lw_g (lw_at lw_m10 94 rfl) rfl
theorem q2327 : (Jvm.Cond.selects "RosaryCarvers" ({ cls := "RosaryCarvers", name := "save", desc := "()I" } : Jvm.MethodName) ({ cls := "RosaryCarvers", name := "save", desc := "()I" } : Jvm.MethodName)) ∈ lw_all := lw_g (lw_at lw_m10 95 rfl) rfl
theorem q2328 : (Jvm.Cond.code ({ cls := "RosaryCarvers", name := "save", desc := "()I" } : Jvm.MethodName) prog_1_method_50_code (1 : Nat) (Option.some Jvm.ClassFile.FieldType.int)) ∈ lw_all := lw_g (lw_at lw_m10 96 rfl) rfl
theorem q2329 : (Jvm.Cond.methodLink "RosaryCarvers" (484 : Nat) ({ cls := "RosaryCarvers$Shop", name := "<init>", desc := "(LRosaryCarvers$Shop;)V" } : Jvm.MethodName)) ∈ lw_all := lw_g (lw_at lw_m10 97 rfl) rfl
theorem q2331 : (Jvm.Cond.instanceMethod ({ cls := "RosaryCarvers", name := "restore", desc := "()I" } : Jvm.MethodName)) ∈ lw_all := lw_g (lw_at lw_m10 99 rfl) rfl
theorem q2332 : (Jvm.Cond.selects "RosaryCarvers" ({ cls := "RosaryCarvers", name := "restore", desc := "()I" } : Jvm.MethodName) ({ cls := "RosaryCarvers", name := "restore", desc := "()I" } : Jvm.MethodName)) ∈ lw_all := lw_g (lw_at lw_m10 100 rfl) rfl
theorem q2333 : (Jvm.Cond.code ({ cls := "RosaryCarvers", name := "restore", desc := "()I" } : Jvm.MethodName) prog_1_method_51_code (1 : Nat) (Option.some Jvm.ClassFile.FieldType.int)) ∈ lw_all := lw_g (lw_at lw_m10 101 rfl) rfl
theorem q2334 : (Jvm.Cond.methodLink "RosaryCarvers" (490 : Nat) ({ cls := "java/util/ArrayDeque", name := "clear", desc := "()V" } : Jvm.MethodName)) ∈ lw_all := lw_g (lw_at lw_m10 102 rfl) rfl
theorem q2808 : (Jvm.Cond.castable "RosaryCarvers" "java/lang/Object") ∈ lw_tbl := lw_at lw_m12 96 rfl
theorem in_X0 : ∀ w ∈ wsX00, w ∈ lw_all := lw_in wsX00 [316, 318, 320, 322, 324, 326, 328, 330] (by decide +kernel) (by decide +kernel)
