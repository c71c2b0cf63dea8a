/-! GaugeBlocks -/
set_option maxRecDepth 100000
def RX1 : String := "GaugeBlocks"
def TX1 : u_T := fun k => match k with
  | 0 => ("GaugeBlocks", "now", "LGaugeBlocks$State;", false)
  | 1 => ("GaugeBlocks", "saved", "Ljava/util/ArrayDeque;", true)
  | 2 => ("GaugeBlocks", "slots", "[LGaugeBlocks$State;", true)
  | _ => ("GaugeBlocks", "buffer", "Ljava/lang/StringBuilder;", true)
def tyX1 : Nat → FieldType := fun k => match k with
  | 0 => .object "GaugeBlocks$State"
  | 1 => .object "java/util/ArrayDeque"
  | 2 => .array (.object "GaugeBlocks$State")
  | _ => .object "java/lang/StringBuilder"
abbrev wsX10 : List Cond := u_ws RX1 TX1 4
theorem nmX1 : ∀ a, a < 4 → ∀ b, b < 4 → a ≠ b → (TX1 a).2.1 ≠ (TX1 b).2.1 := by decide +kernel
theorem tyX1_ok : ∀ k, k < 4 → parseFieldDescriptor (TX1 k).2.2.1 = some (tyX1 k) := by decide +kernel
abbrev cX1_init : ByteArray := prog_1_method_3_code
def yX1_init : MethodName := ⟨RX1, "<init>", "()V"⟩
def dkwX1_init_1 : List UInt8 := [181, 0, 19, 42, 5, 189, 0, 7, 181, 0, 23, 42, 187, 0, 27, 89, 183, 0, 29, 181, 0, 30, 177]
abbrev dktX1_init_1 : List UInt8 := dkwX1_init_1 ++ []
def dkwX1_init_0 : List UInt8 := [42, 183, 0, 1, 42, 187, 0, 7, 89, 183, 0, 9, 181, 0, 10, 42, 187, 0, 16, 89, 183, 0, 18]
abbrev dktX1_init_0 : List UInt8 := dkwX1_init_0 ++ dktX1_init_1
theorem dksX1_init_0 : cX1_init.data.toList.drop 0 = dktX1_init_0 := by decide +kernel
theorem dksX1_init_1 : cX1_init.data.toList.drop 23 = dktX1_init_1 := dk_seg dksX1_init_0 23 rfl rfl
theorem dX1_init_0 : decode cX1_init 0 = .ok (.aload_n 0, 1) := dk_42 (dk_at dksX1_init_0 0 rfl rfl)
theorem dX1_init_1 : decode cX1_init 1 = .ok (.invokespecial 1, 3) := dk_183 0 1 (dk_at dksX1_init_0 1 rfl rfl)
theorem dX1_init_4 : decode cX1_init 4 = .ok (.aload_n 0, 1) := dk_42 (dk_at dksX1_init_0 4 rfl rfl)
theorem dX1_init_5 : decode cX1_init 5 = .ok (.new 7, 3) := dk_187 0 7 (dk_at dksX1_init_0 5 rfl rfl)
theorem dX1_init_8 : decode cX1_init 8 = .ok (.dup, 1) := dk_89 (dk_at dksX1_init_0 8 rfl rfl)
theorem dX1_init_9 : decode cX1_init 9 = .ok (.invokespecial 9, 3) := dk_183 0 9 (dk_at dksX1_init_0 9 rfl rfl)
theorem dX1_init_12 : decode cX1_init 12 = .ok (.putfield 10, 3) := dk_181 0 10 (dk_at dksX1_init_0 12 rfl rfl)
theorem dX1_init_15 : decode cX1_init 15 = .ok (.aload_n 0, 1) := dk_42 (dk_at dksX1_init_0 15 rfl rfl)
theorem dX1_init_16 : decode cX1_init 16 = .ok (.new 16, 3) := dk_187 0 16 (dk_at dksX1_init_0 16 rfl rfl)
theorem dX1_init_19 : decode cX1_init 19 = .ok (.dup, 1) := dk_89 (dk_at dksX1_init_0 19 rfl rfl)
theorem dX1_init_20 : decode cX1_init 20 = .ok (.invokespecial 18, 3) := dk_183 0 18 (dk_at dksX1_init_0 20 rfl rfl)
theorem dX1_init_23 : decode cX1_init 23 = .ok (.putfield 19, 3) := dk_181 0 19 (dk_at dksX1_init_1 0 rfl rfl)
theorem dX1_init_26 : decode cX1_init 26 = .ok (.aload_n 0, 1) := dk_42 (dk_at dksX1_init_1 3 rfl rfl)
theorem dX1_init_27 : decode cX1_init 27 = .ok (.iconst 2, 1) := dk_5 (dk_at dksX1_init_1 4 rfl rfl)
theorem dX1_init_28 : decode cX1_init 28 = .ok (.anewarray 7, 3) := dk_189 0 7 (dk_at dksX1_init_1 5 rfl rfl)
theorem dX1_init_31 : decode cX1_init 31 = .ok (.putfield 23, 3) := dk_181 0 23 (dk_at dksX1_init_1 8 rfl rfl)
theorem dX1_init_34 : decode cX1_init 34 = .ok (.aload_n 0, 1) := dk_42 (dk_at dksX1_init_1 11 rfl rfl)
theorem dX1_init_35 : decode cX1_init 35 = .ok (.new 27, 3) := dk_187 0 27 (dk_at dksX1_init_1 12 rfl rfl)
theorem dX1_init_38 : decode cX1_init 38 = .ok (.dup, 1) := dk_89 (dk_at dksX1_init_1 15 rfl rfl)
theorem dX1_init_39 : decode cX1_init 39 = .ok (.invokespecial 29, 3) := dk_183 0 29 (dk_at dksX1_init_1 16 rfl rfl)
theorem dX1_init_42 : decode cX1_init 42 = .ok (.putfield 30, 3) := dk_181 0 30 (dk_at dksX1_init_1 19 rfl rfl)
theorem dX1_init_45 : decode cX1_init 45 = .ok (.return_, 1) := dk_177 (dk_at dksX1_init_1 22 rfl rfl)
abbrev cX1_clearBuffer : ByteArray := prog_1_method_20_code
def yX1_clearBuffer : MethodName := ⟨RX1, "clearBuffer", "()I"⟩
def dkwX1_clearBuffer_0 : List UInt8 := [42, 180, 0, 30, 182, 0, 146, 60, 42, 180, 0, 30, 3, 182, 0, 153, 27, 172]
abbrev dktX1_clearBuffer_0 : List UInt8 := dkwX1_clearBuffer_0 ++ []
theorem dksX1_clearBuffer_0 : cX1_clearBuffer.data.toList.drop 0 = dktX1_clearBuffer_0 := by decide +kernel
theorem dX1_clearBuffer_0 : decode cX1_clearBuffer 0 = .ok (.aload_n 0, 1) := dk_42 (dk_at dksX1_clearBuffer_0 0 rfl rfl)
theorem dX1_clearBuffer_1 : decode cX1_clearBuffer 1 = .ok (.getfield 30, 3) := dk_180 0 30 (dk_at dksX1_clearBuffer_0 1 rfl rfl)
theorem dX1_clearBuffer_4 : decode cX1_clearBuffer 4 = .ok (.invokevirtual 146, 3) := dk_182 0 146 (dk_at dksX1_clearBuffer_0 4 rfl rfl)
theorem dX1_clearBuffer_7 : decode cX1_clearBuffer 7 = .ok (.istore_n 1, 1) := dk_60 (dk_at dksX1_clearBuffer_0 7 rfl rfl)
theorem dX1_clearBuffer_8 : decode cX1_clearBuffer 8 = .ok (.aload_n 0, 1) := dk_42 (dk_at dksX1_clearBuffer_0 8 rfl rfl)
theorem dX1_clearBuffer_9 : decode cX1_clearBuffer 9 = .ok (.getfield 30, 3) := dk_180 0 30 (dk_at dksX1_clearBuffer_0 9 rfl rfl)
theorem dX1_clearBuffer_12 : decode cX1_clearBuffer 12 = .ok (.iconst 0, 1) := dk_3 (dk_at dksX1_clearBuffer_0 12 rfl rfl)
theorem dX1_clearBuffer_13 : decode cX1_clearBuffer 13 = .ok (.invokevirtual 153, 3) := dk_182 0 153 (dk_at dksX1_clearBuffer_0 13 rfl rfl)
theorem dX1_clearBuffer_16 : decode cX1_clearBuffer 16 = .ok (.iload_n 1, 1) := dk_27 (dk_at dksX1_clearBuffer_0 16 rfl rfl)
theorem dX1_clearBuffer_17 : decode cX1_clearBuffer 17 = .ok (.ireturn, 1) := dk_172 (dk_at dksX1_clearBuffer_0 17 rfl rfl)
abbrev cX1_firstError : ByteArray := prog_1_method_21_code
def yX1_firstError : MethodName := ⟨RX1, "firstError", "()I"⟩
def dkwX1_firstError_1 : List UInt8 := [180, 0, 167, 172]
abbrev dktX1_firstError_1 : List UInt8 := dkwX1_firstError_1 ++ []
def dkwX1_firstError_0 : List UInt8 := [187, 0, 156, 89, 42, 183, 0, 158, 182, 0, 161, 87, 42, 180, 0, 30, 182, 0, 146, 172, 76, 43]
abbrev dktX1_firstError_0 : List UInt8 := dkwX1_firstError_0 ++ dktX1_firstError_1
theorem dksX1_firstError_0 : cX1_firstError.data.toList.drop 0 = dktX1_firstError_0 := by decide +kernel
theorem dksX1_firstError_1 : cX1_firstError.data.toList.drop 22 = dktX1_firstError_1 := dk_seg dksX1_firstError_0 22 rfl rfl
theorem dX1_firstError_0 : decode cX1_firstError 0 = .ok (.new 156, 3) := dk_187 0 156 (dk_at dksX1_firstError_0 0 rfl rfl)
theorem dX1_firstError_3 : decode cX1_firstError 3 = .ok (.dup, 1) := dk_89 (dk_at dksX1_firstError_0 3 rfl rfl)
theorem dX1_firstError_4 : decode cX1_firstError 4 = .ok (.aload_n 0, 1) := dk_42 (dk_at dksX1_firstError_0 4 rfl rfl)
theorem dX1_firstError_5 : decode cX1_firstError 5 = .ok (.invokespecial 158, 3) := dk_183 0 158 (dk_at dksX1_firstError_0 5 rfl rfl)
theorem dX1_firstError_8 : decode cX1_firstError 8 = .ok (.invokevirtual 161, 3) := dk_182 0 161 (dk_at dksX1_firstError_0 8 rfl rfl)
theorem dX1_firstError_11 : decode cX1_firstError 11 = .ok (.pop, 1) := dk_87 (dk_at dksX1_firstError_0 11 rfl rfl)
theorem dX1_firstError_12 : decode cX1_firstError 12 = .ok (.aload_n 0, 1) := dk_42 (dk_at dksX1_firstError_0 12 rfl rfl)
theorem dX1_firstError_13 : decode cX1_firstError 13 = .ok (.getfield 30, 3) := dk_180 0 30 (dk_at dksX1_firstError_0 13 rfl rfl)
theorem dX1_firstError_16 : decode cX1_firstError 16 = .ok (.invokevirtual 146, 3) := dk_182 0 146 (dk_at dksX1_firstError_0 16 rfl rfl)
theorem dX1_firstError_19 : decode cX1_firstError 19 = .ok (.ireturn, 1) := dk_172 (dk_at dksX1_firstError_0 19 rfl rfl)
theorem dX1_firstError_20 : decode cX1_firstError 20 = .ok (.astore_n 1, 1) := dk_76 (dk_at dksX1_firstError_0 20 rfl rfl)
theorem dX1_firstError_21 : decode cX1_firstError 21 = .ok (.aload_n 1, 1) := dk_43 (dk_at dksX1_firstError_0 21 rfl rfl)
theorem dX1_firstError_22 : decode cX1_firstError 22 = .ok (.getfield 167, 3) := dk_180 0 167 (dk_at dksX1_firstError_1 0 rfl rfl)
theorem dX1_firstError_25 : decode cX1_firstError 25 = .ok (.ireturn, 1) := dk_172 (dk_at dksX1_firstError_1 3 rfl rfl)
abbrev cX1_isIn : ByteArray := prog_1_method_1_code
def yX1_isIn : MethodName := ⟨RX1, "isIn", "(III)Z"⟩
def dkwX1_isIn_0 : List UInt8 := [26, 27, 161, 0, 12, 26, 28, 163, 0, 7, 4, 167, 0, 4, 3, 172]
abbrev dktX1_isIn_0 : List UInt8 := dkwX1_isIn_0 ++ []
theorem dksX1_isIn_0 : cX1_isIn.data.toList.drop 0 = dktX1_isIn_0 := by decide +kernel
theorem dX1_isIn_0 : decode cX1_isIn 0 = .ok (.iload_n 0, 1) := dk_26 (dk_at dksX1_isIn_0 0 rfl rfl)
theorem dX1_isIn_1 : decode cX1_isIn 1 = .ok (.iload_n 1, 1) := dk_27 (dk_at dksX1_isIn_0 1 rfl rfl)
theorem dX1_isIn_2 : decode cX1_isIn 2 = .ok (.if_icmp .lt 12, 3) := dk_161 0 12 (dk_at dksX1_isIn_0 2 rfl rfl)
theorem dX1_isIn_5 : decode cX1_isIn 5 = .ok (.iload_n 0, 1) := dk_26 (dk_at dksX1_isIn_0 5 rfl rfl)
theorem dX1_isIn_6 : decode cX1_isIn 6 = .ok (.iload_n 2, 1) := dk_28 (dk_at dksX1_isIn_0 6 rfl rfl)
theorem dX1_isIn_7 : decode cX1_isIn 7 = .ok (.if_icmp .gt 7, 3) := dk_163 0 7 (dk_at dksX1_isIn_0 7 rfl rfl)
theorem dX1_isIn_10 : decode cX1_isIn 10 = .ok (.iconst 1, 1) := dk_4 (dk_at dksX1_isIn_0 10 rfl rfl)
theorem dX1_isIn_11 : decode cX1_isIn 11 = .ok (.goto 4, 3) := dk_167 0 4 (dk_at dksX1_isIn_0 11 rfl rfl)
theorem dX1_isIn_14 : decode cX1_isIn 14 = .ok (.iconst 0, 1) := dk_3 (dk_at dksX1_isIn_0 14 rfl rfl)
theorem dX1_isIn_15 : decode cX1_isIn 15 = .ok (.ireturn, 1) := dk_172 (dk_at dksX1_isIn_0 15 rfl rfl)
abbrev cX1_meanError : ByteArray := prog_1_method_39_code
def yX1_meanError : MethodName := ⟨RX1, "meanError", "()D"⟩
def dkwX1_meanError_3 : List UInt8 := [180, 0, 59, 182, 0, 63, 135, 111, 175]
abbrev dktX1_meanError_3 : List UInt8 := dkwX1_meanError_3 ++ []
def dkwX1_meanError_2 : List UInt8 := [180, 0, 10, 180, 0, 59, 182, 0, 136, 153, 0, 7, 14, 167, 0, 17, 27, 135, 42, 180, 0, 10]
abbrev dktX1_meanError_2 : List UInt8 := dkwX1_meanError_2 ++ dktX1_meanError_3
def dkwX1_meanError_1 : List UInt8 := [185, 0, 253, 1, 0, 192, 0, 78, 78, 27, 45, 182, 0, 190, 184, 0, 223, 96, 60, 167, 255, 227, 42]
abbrev dktX1_meanError_1 : List UInt8 := dkwX1_meanError_1 ++ dktX1_meanError_2
def dkwX1_meanError_0 : List UInt8 := [3, 60, 42, 180, 0, 10, 180, 0, 59, 182, 1, 15, 77, 44, 185, 0, 248, 1, 0, 153, 0, 26, 44]
abbrev dktX1_meanError_0 : List UInt8 := dkwX1_meanError_0 ++ dktX1_meanError_1
theorem dksX1_meanError_0 : cX1_meanError.data.toList.drop 0 = dktX1_meanError_0 := by decide +kernel
theorem dksX1_meanError_1 : cX1_meanError.data.toList.drop 23 = dktX1_meanError_1 := dk_seg dksX1_meanError_0 23 rfl rfl
theorem dksX1_meanError_2 : cX1_meanError.data.toList.drop 46 = dktX1_meanError_2 := dk_seg dksX1_meanError_1 23 rfl rfl
theorem dksX1_meanError_3 : cX1_meanError.data.toList.drop 68 = dktX1_meanError_3 := dk_seg dksX1_meanError_2 22 rfl rfl
theorem dX1_meanError_0 : decode cX1_meanError 0 = .ok (.iconst 0, 1) := dk_3 (dk_at dksX1_meanError_0 0 rfl rfl)
theorem dX1_meanError_1 : decode cX1_meanError 1 = .ok (.istore_n 1, 1) := dk_60 (dk_at dksX1_meanError_0 1 rfl rfl)
theorem dX1_meanError_2 : decode cX1_meanError 2 = .ok (.aload_n 0, 1) := dk_42 (dk_at dksX1_meanError_0 2 rfl rfl)
theorem dX1_meanError_3 : decode cX1_meanError 3 = .ok (.getfield 10, 3) := dk_180 0 10 (dk_at dksX1_meanError_0 3 rfl rfl)
theorem dX1_meanError_6 : decode cX1_meanError 6 = .ok (.getfield 59, 3) := dk_180 0 59 (dk_at dksX1_meanError_0 6 rfl rfl)
theorem dX1_meanError_9 : decode cX1_meanError 9 = .ok (.invokevirtual 271, 3) := dk_182 1 15 (dk_at dksX1_meanError_0 9 rfl rfl)
theorem dX1_meanError_12 : decode cX1_meanError 12 = .ok (.astore_n 2, 1) := dk_77 (dk_at dksX1_meanError_0 12 rfl rfl)
theorem dX1_meanError_13 : decode cX1_meanError 13 = .ok (.aload_n 2, 1) := dk_44 (dk_at dksX1_meanError_0 13 rfl rfl)
theorem dX1_meanError_14 : decode cX1_meanError 14 = .ok (.invokeinterface 248 1, 5) := by decide +kernel
theorem dX1_meanError_19 : decode cX1_meanError 19 = .ok (.ifCond .eq 26, 3) := dk_153 0 26 (dk_at dksX1_meanError_0 19 rfl rfl)
theorem dX1_meanError_22 : decode cX1_meanError 22 = .ok (.aload_n 2, 1) := dk_44 (dk_at dksX1_meanError_0 22 rfl rfl)
theorem dX1_meanError_23 : decode cX1_meanError 23 = .ok (.invokeinterface 253 1, 5) := by decide +kernel
theorem dX1_meanError_28 : decode cX1_meanError 28 = .ok (.checkcast 78, 3) := dk_192 0 78 (dk_at dksX1_meanError_1 5 rfl rfl)
theorem dX1_meanError_31 : decode cX1_meanError 31 = .ok (.astore_n 3, 1) := dk_78 (dk_at dksX1_meanError_1 8 rfl rfl)
theorem dX1_meanError_32 : decode cX1_meanError 32 = .ok (.iload_n 1, 1) := dk_27 (dk_at dksX1_meanError_1 9 rfl rfl)
theorem dX1_meanError_33 : decode cX1_meanError 33 = .ok (.aload_n 3, 1) := dk_45 (dk_at dksX1_meanError_1 10 rfl rfl)
theorem dX1_meanError_34 : decode cX1_meanError 34 = .ok (.invokevirtual 190, 3) := dk_182 0 190 (dk_at dksX1_meanError_1 11 rfl rfl)
theorem dX1_meanError_37 : decode cX1_meanError 37 = .ok (.invokestatic 223, 3) := dk_184 0 223 (dk_at dksX1_meanError_1 14 rfl rfl)
theorem dX1_meanError_40 : decode cX1_meanError 40 = .ok (.iadd, 1) := dk_96 (dk_at dksX1_meanError_1 17 rfl rfl)
theorem dX1_meanError_41 : decode cX1_meanError 41 = .ok (.istore_n 1, 1) := dk_60 (dk_at dksX1_meanError_1 18 rfl rfl)
theorem dX1_meanError_42 : decode cX1_meanError 42 = .ok (.goto (-29), 3) := dk_167 255 227 (dk_at dksX1_meanError_1 19 rfl rfl)
theorem dX1_meanError_45 : decode cX1_meanError 45 = .ok (.aload_n 0, 1) := dk_42 (dk_at dksX1_meanError_1 22 rfl rfl)
theorem dX1_meanError_46 : decode cX1_meanError 46 = .ok (.getfield 10, 3) := dk_180 0 10 (dk_at dksX1_meanError_2 0 rfl rfl)
theorem dX1_meanError_49 : decode cX1_meanError 49 = .ok (.getfield 59, 3) := dk_180 0 59 (dk_at dksX1_meanError_2 3 rfl rfl)
theorem dX1_meanError_52 : decode cX1_meanError 52 = .ok (.invokevirtual 136, 3) := dk_182 0 136 (dk_at dksX1_meanError_2 6 rfl rfl)
theorem dX1_meanError_55 : decode cX1_meanError 55 = .ok (.ifCond .eq 7, 3) := dk_153 0 7 (dk_at dksX1_meanError_2 9 rfl rfl)
theorem dX1_meanError_58 : decode cX1_meanError 58 = .ok (.dconst 0, 1) := dk_14 (dk_at dksX1_meanError_2 12 rfl rfl)
theorem dX1_meanError_59 : decode cX1_meanError 59 = .ok (.goto 17, 3) := dk_167 0 17 (dk_at dksX1_meanError_2 13 rfl rfl)
theorem dX1_meanError_62 : decode cX1_meanError 62 = .ok (.iload_n 1, 1) := dk_27 (dk_at dksX1_meanError_2 16 rfl rfl)
theorem dX1_meanError_63 : decode cX1_meanError 63 = .ok (.i2d, 1) := dk_135 (dk_at dksX1_meanError_2 17 rfl rfl)
theorem dX1_meanError_64 : decode cX1_meanError 64 = .ok (.aload_n 0, 1) := dk_42 (dk_at dksX1_meanError_2 18 rfl rfl)
theorem dX1_meanError_65 : decode cX1_meanError 65 = .ok (.getfield 10, 3) := dk_180 0 10 (dk_at dksX1_meanError_2 19 rfl rfl)
theorem dX1_meanError_68 : decode cX1_meanError 68 = .ok (.getfield 59, 3) := dk_180 0 59 (dk_at dksX1_meanError_3 0 rfl rfl)
theorem dX1_meanError_71 : decode cX1_meanError 71 = .ok (.invokevirtual 63, 3) := dk_182 0 63 (dk_at dksX1_meanError_3 3 rfl rfl)
theorem dX1_meanError_74 : decode cX1_meanError 74 = .ok (.i2d, 1) := dk_135 (dk_at dksX1_meanError_3 6 rfl rfl)
theorem dX1_meanError_75 : decode cX1_meanError 75 = .ok (.ddiv, 1) := dk_111 (dk_at dksX1_meanError_3 7 rfl rfl)
theorem dX1_meanError_76 : decode cX1_meanError 76 = .ok (.dreturn, 1) := dk_175 (dk_at dksX1_meanError_3 8 rfl rfl)
abbrev cX1_block : ByteArray := prog_1_method_10_code
def yX1_block : MethodName := ⟨RX1, "block", "(II)I"⟩
def dkwX1_block_3 : List UInt8 := [172]
abbrev dktX1_block_3 : List UInt8 := dkwX1_block_3 ++ []
def dkwX1_block_2 : List UInt8 := [162, 0, 7, 4, 167, 0, 4, 3, 184, 0, 84, 42, 182, 0, 87, 42, 180, 0, 10, 27, 28, 182, 0, 90]
abbrev dktX1_block_2 : List UInt8 := dkwX1_block_2 ++ dktX1_block_3
def dkwX1_block_1 : List UInt8 := [153, 0, 7, 4, 167, 0, 4, 3, 184, 0, 81, 42, 180, 0, 10, 180, 0, 59, 182, 0, 63, 16, 20]
abbrev dktX1_block_1 : List UInt8 := dkwX1_block_1 ++ dktX1_block_2
def dkwX1_block_0 : List UInt8 := [27, 17, 1, 244, 18, 80, 184, 0, 66, 153, 0, 20, 28, 17, 252, 124, 17, 3, 132, 184, 0, 66]
abbrev dktX1_block_0 : List UInt8 := dkwX1_block_0 ++ dktX1_block_1
theorem dksX1_block_0 : cX1_block.data.toList.drop 0 = dktX1_block_0 := by decide +kernel
theorem dksX1_block_1 : cX1_block.data.toList.drop 22 = dktX1_block_1 := dk_seg dksX1_block_0 22 rfl rfl
theorem dksX1_block_2 : cX1_block.data.toList.drop 45 = dktX1_block_2 := dk_seg dksX1_block_1 23 rfl rfl
theorem dksX1_block_3 : cX1_block.data.toList.drop 69 = dktX1_block_3 := dk_seg dksX1_block_2 24 rfl rfl
theorem dX1_block_0 : decode cX1_block 0 = .ok (.iload_n 1, 1) := dk_27 (dk_at dksX1_block_0 0 rfl rfl)
theorem dX1_block_1 : decode cX1_block 1 = .ok (.sipush 500, 3) := dk_17 1 244 (dk_at dksX1_block_0 1 rfl rfl)
theorem dX1_block_4 : decode cX1_block 4 = .ok (.ldc 80, 2) := dk_18 80 (dk_at dksX1_block_0 4 rfl rfl)
theorem dX1_block_6 : decode cX1_block 6 = .ok (.invokestatic 66, 3) := dk_184 0 66 (dk_at dksX1_block_0 6 rfl rfl)
theorem dX1_block_9 : decode cX1_block 9 = .ok (.ifCond .eq 20, 3) := dk_153 0 20 (dk_at dksX1_block_0 9 rfl rfl)
theorem dX1_block_12 : decode cX1_block 12 = .ok (.iload_n 2, 1) := dk_28 (dk_at dksX1_block_0 12 rfl rfl)
theorem dX1_block_13 : decode cX1_block 13 = .ok (.sipush (-900), 3) := dk_17 252 124 (dk_at dksX1_block_0 13 rfl rfl)
theorem dX1_block_16 : decode cX1_block 16 = .ok (.sipush 900, 3) := dk_17 3 132 (dk_at dksX1_block_0 16 rfl rfl)
theorem dX1_block_19 : decode cX1_block 19 = .ok (.invokestatic 66, 3) := dk_184 0 66 (dk_at dksX1_block_0 19 rfl rfl)
theorem dX1_block_22 : decode cX1_block 22 = .ok (.ifCond .eq 7, 3) := dk_153 0 7 (dk_at dksX1_block_1 0 rfl rfl)
theorem dX1_block_25 : decode cX1_block 25 = .ok (.iconst 1, 1) := dk_4 (dk_at dksX1_block_1 3 rfl rfl)
theorem dX1_block_26 : decode cX1_block 26 = .ok (.goto 4, 3) := dk_167 0 4 (dk_at dksX1_block_1 4 rfl rfl)
theorem dX1_block_29 : decode cX1_block 29 = .ok (.iconst 0, 1) := dk_3 (dk_at dksX1_block_1 7 rfl rfl)
theorem dX1_block_30 : decode cX1_block 30 = .ok (.invokestatic 81, 3) := dk_184 0 81 (dk_at dksX1_block_1 8 rfl rfl)
theorem dX1_block_33 : decode cX1_block 33 = .ok (.aload_n 0, 1) := dk_42 (dk_at dksX1_block_1 11 rfl rfl)
theorem dX1_block_34 : decode cX1_block 34 = .ok (.getfield 10, 3) := dk_180 0 10 (dk_at dksX1_block_1 12 rfl rfl)
theorem dX1_block_37 : decode cX1_block 37 = .ok (.getfield 59, 3) := dk_180 0 59 (dk_at dksX1_block_1 15 rfl rfl)
theorem dX1_block_40 : decode cX1_block 40 = .ok (.invokevirtual 63, 3) := dk_182 0 63 (dk_at dksX1_block_1 18 rfl rfl)
theorem dX1_block_43 : decode cX1_block 43 = .ok (.bipush 20, 2) := dk_16 20 (dk_at dksX1_block_1 21 rfl rfl)
theorem dX1_block_45 : decode cX1_block 45 = .ok (.if_icmp .ge 7, 3) := dk_162 0 7 (dk_at dksX1_block_2 0 rfl rfl)
theorem dX1_block_48 : decode cX1_block 48 = .ok (.iconst 1, 1) := dk_4 (dk_at dksX1_block_2 3 rfl rfl)
theorem dX1_block_49 : decode cX1_block 49 = .ok (.goto 4, 3) := dk_167 0 4 (dk_at dksX1_block_2 4 rfl rfl)
theorem dX1_block_52 : decode cX1_block 52 = .ok (.iconst 0, 1) := dk_3 (dk_at dksX1_block_2 7 rfl rfl)
theorem dX1_block_53 : decode cX1_block 53 = .ok (.invokestatic 84, 3) := dk_184 0 84 (dk_at dksX1_block_2 8 rfl rfl)
theorem dX1_block_56 : decode cX1_block 56 = .ok (.aload_n 0, 1) := dk_42 (dk_at dksX1_block_2 11 rfl rfl)
theorem dX1_block_57 : decode cX1_block 57 = .ok (.invokevirtual 87, 3) := dk_182 0 87 (dk_at dksX1_block_2 12 rfl rfl)
theorem dX1_block_60 : decode cX1_block 60 = .ok (.aload_n 0, 1) := dk_42 (dk_at dksX1_block_2 15 rfl rfl)
theorem dX1_block_61 : decode cX1_block 61 = .ok (.getfield 10, 3) := dk_180 0 10 (dk_at dksX1_block_2 16 rfl rfl)
theorem dX1_block_64 : decode cX1_block 64 = .ok (.iload_n 1, 1) := dk_27 (dk_at dksX1_block_2 19 rfl rfl)
theorem dX1_block_65 : decode cX1_block 65 = .ok (.iload_n 2, 1) := dk_28 (dk_at dksX1_block_2 20 rfl rfl)
theorem dX1_block_66 : decode cX1_block 66 = .ok (.invokevirtual 90, 3) := dk_182 0 90 (dk_at dksX1_block_2 21 rfl rfl)
theorem dX1_block_69 : decode cX1_block 69 = .ok (.ireturn, 1) := dk_172 (dk_at dksX1_block_3 0 rfl rfl)
abbrev cX1_require : ByteArray := prog_1_method_5_code
def yX1_require : MethodName := ⟨RX1, "require", "(Z)V"⟩
def dkwX1_require_0 : List UInt8 := [26, 154, 0, 11, 187, 0, 50, 89, 183, 0, 52, 191, 177]
abbrev dktX1_require_0 : List UInt8 := dkwX1_require_0 ++ []
theorem dksX1_require_0 : cX1_require.data.toList.drop 0 = dktX1_require_0 := by decide +kernel
theorem dX1_require_0 : decode cX1_require 0 = .ok (.iload_n 0, 1) := dk_26 (dk_at dksX1_require_0 0 rfl rfl)
theorem dX1_require_1 : decode cX1_require 1 = .ok (.ifCond .ne 11, 3) := dk_154 0 11 (dk_at dksX1_require_0 1 rfl rfl)
theorem dX1_require_4 : decode cX1_require 4 = .ok (.new 50, 3) := dk_187 0 50 (dk_at dksX1_require_0 4 rfl rfl)
theorem dX1_require_7 : decode cX1_require 7 = .ok (.dup, 1) := dk_89 (dk_at dksX1_require_0 7 rfl rfl)
theorem dX1_require_8 : decode cX1_require 8 = .ok (.invokespecial 52, 3) := dk_183 0 52 (dk_at dksX1_require_0 8 rfl rfl)
theorem dX1_require_11 : decode cX1_require 11 = .ok (.athrow, 1) := dk_191 (dk_at dksX1_require_0 11 rfl rfl)
theorem dX1_require_12 : decode cX1_require 12 = .ok (.return_, 1) := dk_177 (dk_at dksX1_require_0 12 rfl rfl)
abbrev cX1_allow : ByteArray := prog_1_method_6_code
def yX1_allow : MethodName := ⟨RX1, "allow", "(Z)V"⟩
def dkwX1_allow_0 : List UInt8 := [26, 154, 0, 11, 187, 0, 53, 89, 183, 0, 55, 191, 177]
abbrev dktX1_allow_0 : List UInt8 := dkwX1_allow_0 ++ []
theorem dksX1_allow_0 : cX1_allow.data.toList.drop 0 = dktX1_allow_0 := by decide +kernel
theorem dX1_allow_0 : decode cX1_allow 0 = .ok (.iload_n 0, 1) := dk_26 (dk_at dksX1_allow_0 0 rfl rfl)
theorem dX1_allow_1 : decode cX1_allow 1 = .ok (.ifCond .ne 11, 3) := dk_154 0 11 (dk_at dksX1_allow_0 1 rfl rfl)
theorem dX1_allow_4 : decode cX1_allow 4 = .ok (.new 53, 3) := dk_187 0 53 (dk_at dksX1_allow_0 4 rfl rfl)
theorem dX1_allow_7 : decode cX1_allow 7 = .ok (.dup, 1) := dk_89 (dk_at dksX1_allow_0 7 rfl rfl)
theorem dX1_allow_8 : decode cX1_allow 8 = .ok (.invokespecial 55, 3) := dk_183 0 55 (dk_at dksX1_allow_0 8 rfl rfl)
theorem dX1_allow_11 : decode cX1_allow 11 = .ok (.athrow, 1) := dk_191 (dk_at dksX1_allow_0 11 rfl rfl)
theorem dX1_allow_12 : decode cX1_allow 12 = .ok (.return_, 1) := dk_177 (dk_at dksX1_allow_0 12 rfl rfl)
abbrev cX1_save : ByteArray := prog_1_method_4_code
def yX1_save : MethodName := ⟨RX1, "save", "()V"⟩
def dkwX1_save_1 : List UInt8 := [42, 180, 0, 10, 182, 0, 42, 182, 0, 46, 177]
abbrev dktX1_save_1 : List UInt8 := dkwX1_save_1 ++ []
def dkwX1_save_0 : List UInt8 := [42, 180, 0, 19, 182, 0, 34, 16, 6, 160, 0, 11, 42, 180, 0, 19, 182, 0, 38, 87, 42, 180, 0, 19]
abbrev dktX1_save_0 : List UInt8 := dkwX1_save_0 ++ dktX1_save_1
theorem dksX1_save_0 : cX1_save.data.toList.drop 0 = dktX1_save_0 := by decide +kernel
theorem dksX1_save_1 : cX1_save.data.toList.drop 24 = dktX1_save_1 := dk_seg dksX1_save_0 24 rfl rfl
theorem dX1_save_0 : decode cX1_save 0 = .ok (.aload_n 0, 1) := dk_42 (dk_at dksX1_save_0 0 rfl rfl)
theorem dX1_save_1 : decode cX1_save 1 = .ok (.getfield 19, 3) := dk_180 0 19 (dk_at dksX1_save_0 1 rfl rfl)
theorem dX1_save_4 : decode cX1_save 4 = .ok (.invokevirtual 34, 3) := dk_182 0 34 (dk_at dksX1_save_0 4 rfl rfl)
theorem dX1_save_7 : decode cX1_save 7 = .ok (.bipush 6, 2) := dk_16 6 (dk_at dksX1_save_0 7 rfl rfl)
theorem dX1_save_9 : decode cX1_save 9 = .ok (.if_icmp .ne 11, 3) := dk_160 0 11 (dk_at dksX1_save_0 9 rfl rfl)
theorem dX1_save_12 : decode cX1_save 12 = .ok (.aload_n 0, 1) := dk_42 (dk_at dksX1_save_0 12 rfl rfl)
theorem dX1_save_13 : decode cX1_save 13 = .ok (.getfield 19, 3) := dk_180 0 19 (dk_at dksX1_save_0 13 rfl rfl)
theorem dX1_save_16 : decode cX1_save 16 = .ok (.invokevirtual 38, 3) := dk_182 0 38 (dk_at dksX1_save_0 16 rfl rfl)
theorem dX1_save_19 : decode cX1_save 19 = .ok (.pop, 1) := dk_87 (dk_at dksX1_save_0 19 rfl rfl)
theorem dX1_save_20 : decode cX1_save 20 = .ok (.aload_n 0, 1) := dk_42 (dk_at dksX1_save_0 20 rfl rfl)
theorem dX1_save_21 : decode cX1_save 21 = .ok (.getfield 19, 3) := dk_180 0 19 (dk_at dksX1_save_0 21 rfl rfl)
theorem dX1_save_24 : decode cX1_save 24 = .ok (.aload_n 0, 1) := dk_42 (dk_at dksX1_save_1 0 rfl rfl)
theorem dX1_save_25 : decode cX1_save 25 = .ok (.getfield 10, 3) := dk_180 0 10 (dk_at dksX1_save_1 1 rfl rfl)
theorem dX1_save_28 : decode cX1_save 28 = .ok (.invokevirtual 42, 3) := dk_182 0 42 (dk_at dksX1_save_1 4 rfl rfl)
theorem dX1_save_31 : decode cX1_save 31 = .ok (.invokevirtual 46, 3) := dk_182 0 46 (dk_at dksX1_save_1 7 rfl rfl)
theorem dX1_save_34 : decode cX1_save 34 = .ok (.return_, 1) := dk_177 (dk_at dksX1_save_1 10 rfl rfl)
abbrev cX1_discard : ByteArray := prog_1_method_11_code
def yX1_discard : MethodName := ⟨RX1, "discard", "(I)I"⟩
def dkwX1_discard_1 : List UInt8 := [182, 0, 102, 87, 42, 180, 0, 10, 180, 0, 59, 182, 0, 63, 172]
abbrev dktX1_discard_1 : List UInt8 := dkwX1_discard_1 ++ []
def dkwX1_discard_0 : List UInt8 := [42, 27, 182, 0, 94, 182, 0, 98, 184, 0, 84, 42, 182, 0, 87, 42, 180, 0, 10, 180, 0, 59, 27]
abbrev dktX1_discard_0 : List UInt8 := dkwX1_discard_0 ++ dktX1_discard_1
theorem dksX1_discard_0 : cX1_discard.data.toList.drop 0 = dktX1_discard_0 := by decide +kernel
theorem dksX1_discard_1 : cX1_discard.data.toList.drop 23 = dktX1_discard_1 := dk_seg dksX1_discard_0 23 rfl rfl
theorem dX1_discard_0 : decode cX1_discard 0 = .ok (.aload_n 0, 1) := dk_42 (dk_at dksX1_discard_0 0 rfl rfl)
theorem dX1_discard_1 : decode cX1_discard 1 = .ok (.iload_n 1, 1) := dk_27 (dk_at dksX1_discard_0 1 rfl rfl)
theorem dX1_discard_2 : decode cX1_discard 2 = .ok (.invokevirtual 94, 3) := dk_182 0 94 (dk_at dksX1_discard_0 2 rfl rfl)
theorem dX1_discard_5 : decode cX1_discard 5 = .ok (.invokevirtual 98, 3) := dk_182 0 98 (dk_at dksX1_discard_0 5 rfl rfl)
theorem dX1_discard_8 : decode cX1_discard 8 = .ok (.invokestatic 84, 3) := dk_184 0 84 (dk_at dksX1_discard_0 8 rfl rfl)
theorem dX1_discard_11 : decode cX1_discard 11 = .ok (.aload_n 0, 1) := dk_42 (dk_at dksX1_discard_0 11 rfl rfl)
theorem dX1_discard_12 : decode cX1_discard 12 = .ok (.invokevirtual 87, 3) := dk_182 0 87 (dk_at dksX1_discard_0 12 rfl rfl)
theorem dX1_discard_15 : decode cX1_discard 15 = .ok (.aload_n 0, 1) := dk_42 (dk_at dksX1_discard_0 15 rfl rfl)
theorem dX1_discard_16 : decode cX1_discard 16 = .ok (.getfield 10, 3) := dk_180 0 10 (dk_at dksX1_discard_0 16 rfl rfl)
theorem dX1_discard_19 : decode cX1_discard 19 = .ok (.getfield 59, 3) := dk_180 0 59 (dk_at dksX1_discard_0 19 rfl rfl)
theorem dX1_discard_22 : decode cX1_discard 22 = .ok (.iload_n 1, 1) := dk_27 (dk_at dksX1_discard_0 22 rfl rfl)
theorem dX1_discard_23 : decode cX1_discard 23 = .ok (.invokevirtual 102, 3) := dk_182 0 102 (dk_at dksX1_discard_1 0 rfl rfl)
theorem dX1_discard_26 : decode cX1_discard 26 = .ok (.pop, 1) := dk_87 (dk_at dksX1_discard_1 3 rfl rfl)
theorem dX1_discard_27 : decode cX1_discard 27 = .ok (.aload_n 0, 1) := dk_42 (dk_at dksX1_discard_1 4 rfl rfl)
theorem dX1_discard_28 : decode cX1_discard 28 = .ok (.getfield 10, 3) := dk_180 0 10 (dk_at dksX1_discard_1 5 rfl rfl)
theorem dX1_discard_31 : decode cX1_discard 31 = .ok (.getfield 59, 3) := dk_180 0 59 (dk_at dksX1_discard_1 8 rfl rfl)
theorem dX1_discard_34 : decode cX1_discard 34 = .ok (.invokevirtual 63, 3) := dk_182 0 63 (dk_at dksX1_discard_1 11 rfl rfl)
theorem dX1_discard_37 : decode cX1_discard 37 = .ok (.ireturn, 1) := dk_172 (dk_at dksX1_discard_1 14 rfl rfl)
abbrev cX1_blockAt : ByteArray := prog_1_method_8_code
def yX1_blockAt : MethodName := ⟨RX1, "blockAt", "(I)LGaugeBlocks$Block;"⟩
def dkwX1_blockAt_1 : List UInt8 := [180, 0, 59, 27, 182, 0, 74, 192, 0, 78, 176]
abbrev dktX1_blockAt_1 : List UInt8 := dkwX1_blockAt_1 ++ []
def dkwX1_blockAt_0 : List UInt8 := [27, 3, 42, 180, 0, 10, 180, 0, 59, 182, 0, 63, 4, 100, 184, 0, 66, 184, 0, 70, 42, 180, 0, 10]
abbrev dktX1_blockAt_0 : List UInt8 := dkwX1_blockAt_0 ++ dktX1_blockAt_1
theorem dksX1_blockAt_0 : cX1_blockAt.data.toList.drop 0 = dktX1_blockAt_0 := by decide +kernel
theorem dksX1_blockAt_1 : cX1_blockAt.data.toList.drop 24 = dktX1_blockAt_1 := dk_seg dksX1_blockAt_0 24 rfl rfl
theorem dX1_blockAt_0 : decode cX1_blockAt 0 = .ok (.iload_n 1, 1) := dk_27 (dk_at dksX1_blockAt_0 0 rfl rfl)
theorem dX1_blockAt_1 : decode cX1_blockAt 1 = .ok (.iconst 0, 1) := dk_3 (dk_at dksX1_blockAt_0 1 rfl rfl)
theorem dX1_blockAt_2 : decode cX1_blockAt 2 = .ok (.aload_n 0, 1) := dk_42 (dk_at dksX1_blockAt_0 2 rfl rfl)
theorem dX1_blockAt_3 : decode cX1_blockAt 3 = .ok (.getfield 10, 3) := dk_180 0 10 (dk_at dksX1_blockAt_0 3 rfl rfl)
theorem dX1_blockAt_6 : decode cX1_blockAt 6 = .ok (.getfield 59, 3) := dk_180 0 59 (dk_at dksX1_blockAt_0 6 rfl rfl)
theorem dX1_blockAt_9 : decode cX1_blockAt 9 = .ok (.invokevirtual 63, 3) := dk_182 0 63 (dk_at dksX1_blockAt_0 9 rfl rfl)
theorem dX1_blockAt_12 : decode cX1_blockAt 12 = .ok (.iconst 1, 1) := dk_4 (dk_at dksX1_blockAt_0 12 rfl rfl)
theorem dX1_blockAt_13 : decode cX1_blockAt 13 = .ok (.isub, 1) := dk_100 (dk_at dksX1_blockAt_0 13 rfl rfl)
theorem dX1_blockAt_14 : decode cX1_blockAt 14 = .ok (.invokestatic 66, 3) := dk_184 0 66 (dk_at dksX1_blockAt_0 14 rfl rfl)
theorem dX1_blockAt_17 : decode cX1_blockAt 17 = .ok (.invokestatic 70, 3) := dk_184 0 70 (dk_at dksX1_blockAt_0 17 rfl rfl)
theorem dX1_blockAt_20 : decode cX1_blockAt 20 = .ok (.aload_n 0, 1) := dk_42 (dk_at dksX1_blockAt_0 20 rfl rfl)
theorem dX1_blockAt_21 : decode cX1_blockAt 21 = .ok (.getfield 10, 3) := dk_180 0 10 (dk_at dksX1_blockAt_0 21 rfl rfl)
theorem dX1_blockAt_24 : decode cX1_blockAt 24 = .ok (.getfield 59, 3) := dk_180 0 59 (dk_at dksX1_blockAt_1 0 rfl rfl)
theorem dX1_blockAt_27 : decode cX1_blockAt 27 = .ok (.iload_n 1, 1) := dk_27 (dk_at dksX1_blockAt_1 3 rfl rfl)
theorem dX1_blockAt_28 : decode cX1_blockAt 28 = .ok (.invokevirtual 74, 3) := dk_182 0 74 (dk_at dksX1_blockAt_1 4 rfl rfl)
theorem dX1_blockAt_31 : decode cX1_blockAt 31 = .ok (.checkcast 78, 3) := dk_192 0 78 (dk_at dksX1_blockAt_1 7 rfl rfl)
theorem dX1_blockAt_34 : decode cX1_blockAt 34 = .ok (.areturn, 1) := dk_176 (dk_at dksX1_blockAt_1 10 rfl rfl)
abbrev cX1_exists : ByteArray := prog_1_method_7_code
def yX1_exists : MethodName := ⟨RX1, "exists", "(Z)V"⟩
def dkwX1_exists_0 : List UInt8 := [26, 154, 0, 11, 187, 0, 56, 89, 183, 0, 58, 191, 177]
abbrev dktX1_exists_0 : List UInt8 := dkwX1_exists_0 ++ []
theorem dksX1_exists_0 : cX1_exists.data.toList.drop 0 = dktX1_exists_0 := by decide +kernel
theorem dX1_exists_0 : decode cX1_exists 0 = .ok (.iload_n 0, 1) := dk_26 (dk_at dksX1_exists_0 0 rfl rfl)
theorem dX1_exists_1 : decode cX1_exists 1 = .ok (.ifCond .ne 11, 3) := dk_154 0 11 (dk_at dksX1_exists_0 1 rfl rfl)
theorem dX1_exists_4 : decode cX1_exists 4 = .ok (.new 56, 3) := dk_187 0 56 (dk_at dksX1_exists_0 4 rfl rfl)
theorem dX1_exists_7 : decode cX1_exists 7 = .ok (.dup, 1) := dk_89 (dk_at dksX1_exists_0 7 rfl rfl)
theorem dX1_exists_8 : decode cX1_exists 8 = .ok (.invokespecial 58, 3) := dk_183 0 58 (dk_at dksX1_exists_0 8 rfl rfl)
theorem dX1_exists_11 : decode cX1_exists 11 = .ok (.athrow, 1) := dk_191 (dk_at dksX1_exists_0 11 rfl rfl)
theorem dX1_exists_12 : decode cX1_exists 12 = .ok (.return_, 1) := dk_177 (dk_at dksX1_exists_0 12 rfl rfl)
abbrev cX1_calibrate : ByteArray := prog_1_method_12_code
def yX1_calibrate : MethodName := ⟨RX1, "calibrate", "(I)I"⟩
def dkwX1_calibrate_1 : List UInt8 := [182, 0, 108, 172]
abbrev dktX1_calibrate_1 : List UInt8 := dkwX1_calibrate_1 ++ []
def dkwX1_calibrate_0 : List UInt8 := [42, 27, 182, 0, 94, 77, 44, 182, 0, 98, 184, 0, 84, 42, 182, 0, 87, 44, 182, 0, 105, 44]
abbrev dktX1_calibrate_0 : List UInt8 := dkwX1_calibrate_0 ++ dktX1_calibrate_1
theorem dksX1_calibrate_0 : cX1_calibrate.data.toList.drop 0 = dktX1_calibrate_0 := by decide +kernel
theorem dksX1_calibrate_1 : cX1_calibrate.data.toList.drop 22 = dktX1_calibrate_1 := dk_seg dksX1_calibrate_0 22 rfl rfl
theorem dX1_calibrate_0 : decode cX1_calibrate 0 = .ok (.aload_n 0, 1) := dk_42 (dk_at dksX1_calibrate_0 0 rfl rfl)
theorem dX1_calibrate_1 : decode cX1_calibrate 1 = .ok (.iload_n 1, 1) := dk_27 (dk_at dksX1_calibrate_0 1 rfl rfl)
theorem dX1_calibrate_2 : decode cX1_calibrate 2 = .ok (.invokevirtual 94, 3) := dk_182 0 94 (dk_at dksX1_calibrate_0 2 rfl rfl)
theorem dX1_calibrate_5 : decode cX1_calibrate 5 = .ok (.astore_n 2, 1) := dk_77 (dk_at dksX1_calibrate_0 5 rfl rfl)
theorem dX1_calibrate_6 : decode cX1_calibrate 6 = .ok (.aload_n 2, 1) := dk_44 (dk_at dksX1_calibrate_0 6 rfl rfl)
theorem dX1_calibrate_7 : decode cX1_calibrate 7 = .ok (.invokevirtual 98, 3) := dk_182 0 98 (dk_at dksX1_calibrate_0 7 rfl rfl)
theorem dX1_calibrate_10 : decode cX1_calibrate 10 = .ok (.invokestatic 84, 3) := dk_184 0 84 (dk_at dksX1_calibrate_0 10 rfl rfl)
theorem dX1_calibrate_13 : decode cX1_calibrate 13 = .ok (.aload_n 0, 1) := dk_42 (dk_at dksX1_calibrate_0 13 rfl rfl)
theorem dX1_calibrate_14 : decode cX1_calibrate 14 = .ok (.invokevirtual 87, 3) := dk_182 0 87 (dk_at dksX1_calibrate_0 14 rfl rfl)
theorem dX1_calibrate_17 : decode cX1_calibrate 17 = .ok (.aload_n 2, 1) := dk_44 (dk_at dksX1_calibrate_0 17 rfl rfl)
theorem dX1_calibrate_18 : decode cX1_calibrate 18 = .ok (.invokevirtual 105, 3) := dk_182 0 105 (dk_at dksX1_calibrate_0 18 rfl rfl)
theorem dX1_calibrate_21 : decode cX1_calibrate 21 = .ok (.aload_n 2, 1) := dk_44 (dk_at dksX1_calibrate_0 21 rfl rfl)
theorem dX1_calibrate_22 : decode cX1_calibrate 22 = .ok (.invokevirtual 108, 3) := dk_182 0 108 (dk_at dksX1_calibrate_1 0 rfl rfl)
theorem dX1_calibrate_25 : decode cX1_calibrate 25 = .ok (.ireturn, 1) := dk_172 (dk_at dksX1_calibrate_1 3 rfl rfl)
abbrev cX1_hold : ByteArray := prog_1_method_13_code
def yX1_hold : MethodName := ⟨RX1, "hold", "(II)I"⟩
def dkwX1_hold_1 : List UInt8 := [182, 0, 111, 45, 180, 0, 115, 172]
abbrev dktX1_hold_1 : List UInt8 := dkwX1_hold_1 ++ []
def dkwX1_hold_0 : List UInt8 := [42, 27, 182, 0, 94, 78, 28, 4, 16, 60, 184, 0, 66, 184, 0, 81, 42, 182, 0, 87, 45, 8, 28, 104]
abbrev dktX1_hold_0 : List UInt8 := dkwX1_hold_0 ++ dktX1_hold_1
theorem dksX1_hold_0 : cX1_hold.data.toList.drop 0 = dktX1_hold_0 := by decide +kernel
theorem dksX1_hold_1 : cX1_hold.data.toList.drop 24 = dktX1_hold_1 := dk_seg dksX1_hold_0 24 rfl rfl
theorem dX1_hold_0 : decode cX1_hold 0 = .ok (.aload_n 0, 1) := dk_42 (dk_at dksX1_hold_0 0 rfl rfl)
theorem dX1_hold_1 : decode cX1_hold 1 = .ok (.iload_n 1, 1) := dk_27 (dk_at dksX1_hold_0 1 rfl rfl)
theorem dX1_hold_2 : decode cX1_hold 2 = .ok (.invokevirtual 94, 3) := dk_182 0 94 (dk_at dksX1_hold_0 2 rfl rfl)
theorem dX1_hold_5 : decode cX1_hold 5 = .ok (.astore_n 3, 1) := dk_78 (dk_at dksX1_hold_0 5 rfl rfl)
theorem dX1_hold_6 : decode cX1_hold 6 = .ok (.iload_n 2, 1) := dk_28 (dk_at dksX1_hold_0 6 rfl rfl)
theorem dX1_hold_7 : decode cX1_hold 7 = .ok (.iconst 1, 1) := dk_4 (dk_at dksX1_hold_0 7 rfl rfl)
theorem dX1_hold_8 : decode cX1_hold 8 = .ok (.bipush 60, 2) := dk_16 60 (dk_at dksX1_hold_0 8 rfl rfl)
theorem dX1_hold_10 : decode cX1_hold 10 = .ok (.invokestatic 66, 3) := dk_184 0 66 (dk_at dksX1_hold_0 10 rfl rfl)
theorem dX1_hold_13 : decode cX1_hold 13 = .ok (.invokestatic 81, 3) := dk_184 0 81 (dk_at dksX1_hold_0 13 rfl rfl)
theorem dX1_hold_16 : decode cX1_hold 16 = .ok (.aload_n 0, 1) := dk_42 (dk_at dksX1_hold_0 16 rfl rfl)
theorem dX1_hold_17 : decode cX1_hold 17 = .ok (.invokevirtual 87, 3) := dk_182 0 87 (dk_at dksX1_hold_0 17 rfl rfl)
theorem dX1_hold_20 : decode cX1_hold 20 = .ok (.aload_n 3, 1) := dk_45 (dk_at dksX1_hold_0 20 rfl rfl)
theorem dX1_hold_21 : decode cX1_hold 21 = .ok (.iconst 5, 1) := dk_8 (dk_at dksX1_hold_0 21 rfl rfl)
theorem dX1_hold_22 : decode cX1_hold 22 = .ok (.iload_n 2, 1) := dk_28 (dk_at dksX1_hold_0 22 rfl rfl)
theorem dX1_hold_23 : decode cX1_hold 23 = .ok (.imul, 1) := dk_104 (dk_at dksX1_hold_0 23 rfl rfl)
theorem dX1_hold_24 : decode cX1_hold 24 = .ok (.invokevirtual 111, 3) := dk_182 0 111 (dk_at dksX1_hold_1 0 rfl rfl)
theorem dX1_hold_27 : decode cX1_hold 27 = .ok (.aload_n 3, 1) := dk_45 (dk_at dksX1_hold_1 3 rfl rfl)
theorem dX1_hold_28 : decode cX1_hold 28 = .ok (.getfield 115, 3) := dk_180 0 115 (dk_at dksX1_hold_1 4 rfl rfl)
theorem dX1_hold_31 : decode cX1_hold 31 = .ok (.ireturn, 1) := dk_172 (dk_at dksX1_hold_1 7 rfl rfl)
abbrev cX1_rest : ByteArray := prog_1_method_14_code
def yX1_rest : MethodName := ⟨RX1, "rest", "(I)I"⟩
def dkwX1_rest_0 : List UInt8 := [27, 4, 16, 60, 184, 0, 66, 184, 0, 81, 42, 182, 0, 87, 42, 180, 0, 10, 27, 182, 0, 119, 172]
abbrev dktX1_rest_0 : List UInt8 := dkwX1_rest_0 ++ []
theorem dksX1_rest_0 : cX1_rest.data.toList.drop 0 = dktX1_rest_0 := by decide +kernel
theorem dX1_rest_0 : decode cX1_rest 0 = .ok (.iload_n 1, 1) := dk_27 (dk_at dksX1_rest_0 0 rfl rfl)
theorem dX1_rest_1 : decode cX1_rest 1 = .ok (.iconst 1, 1) := dk_4 (dk_at dksX1_rest_0 1 rfl rfl)
theorem dX1_rest_2 : decode cX1_rest 2 = .ok (.bipush 60, 2) := dk_16 60 (dk_at dksX1_rest_0 2 rfl rfl)
theorem dX1_rest_4 : decode cX1_rest 4 = .ok (.invokestatic 66, 3) := dk_184 0 66 (dk_at dksX1_rest_0 4 rfl rfl)
theorem dX1_rest_7 : decode cX1_rest 7 = .ok (.invokestatic 81, 3) := dk_184 0 81 (dk_at dksX1_rest_0 7 rfl rfl)
theorem dX1_rest_10 : decode cX1_rest 10 = .ok (.aload_n 0, 1) := dk_42 (dk_at dksX1_rest_0 10 rfl rfl)
theorem dX1_rest_11 : decode cX1_rest 11 = .ok (.invokevirtual 87, 3) := dk_182 0 87 (dk_at dksX1_rest_0 11 rfl rfl)
theorem dX1_rest_14 : decode cX1_rest 14 = .ok (.aload_n 0, 1) := dk_42 (dk_at dksX1_rest_0 14 rfl rfl)
theorem dX1_rest_15 : decode cX1_rest 15 = .ok (.getfield 10, 3) := dk_180 0 10 (dk_at dksX1_rest_0 15 rfl rfl)
theorem dX1_rest_18 : decode cX1_rest 18 = .ok (.iload_n 1, 1) := dk_27 (dk_at dksX1_rest_0 18 rfl rfl)
theorem dX1_rest_19 : decode cX1_rest 19 = .ok (.invokevirtual 119, 3) := dk_182 0 119 (dk_at dksX1_rest_0 19 rfl rfl)
theorem dX1_rest_22 : decode cX1_rest 22 = .ok (.ireturn, 1) := dk_172 (dk_at dksX1_rest_0 22 rfl rfl)
abbrev cX1_cooled : ByteArray := prog_1_method_2_code
def yX1_cooled : MethodName := ⟨RX1, "cooled", "(I)I"⟩
def dkwX1_cooled_0 : List UInt8 := [26, 26, 16, 9, 96, 16, 10, 108, 100, 172]
abbrev dktX1_cooled_0 : List UInt8 := dkwX1_cooled_0 ++ []
theorem dksX1_cooled_0 : cX1_cooled.data.toList.drop 0 = dktX1_cooled_0 := by decide +kernel
theorem dX1_cooled_0 : decode cX1_cooled 0 = .ok (.iload_n 0, 1) := dk_26 (dk_at dksX1_cooled_0 0 rfl rfl)
theorem dX1_cooled_1 : decode cX1_cooled 1 = .ok (.iload_n 0, 1) := dk_26 (dk_at dksX1_cooled_0 1 rfl rfl)
theorem dX1_cooled_2 : decode cX1_cooled 2 = .ok (.bipush 9, 2) := dk_16 9 (dk_at dksX1_cooled_0 2 rfl rfl)
theorem dX1_cooled_4 : decode cX1_cooled 4 = .ok (.iadd, 1) := dk_96 (dk_at dksX1_cooled_0 4 rfl rfl)
theorem dX1_cooled_5 : decode cX1_cooled 5 = .ok (.bipush 10, 2) := dk_16 10 (dk_at dksX1_cooled_0 5 rfl rfl)
theorem dX1_cooled_7 : decode cX1_cooled 7 = .ok (.idiv, 1) := dk_108 (dk_at dksX1_cooled_0 7 rfl rfl)
theorem dX1_cooled_8 : decode cX1_cooled 8 = .ok (.isub, 1) := dk_100 (dk_at dksX1_cooled_0 8 rfl rfl)
theorem dX1_cooled_9 : decode cX1_cooled 9 = .ok (.ireturn, 1) := dk_172 (dk_at dksX1_cooled_0 9 rfl rfl)
abbrev cX1_set : ByteArray := prog_1_method_15_code
def yX1_set : MethodName := ⟨RX1, "set", "(II)I"⟩
def dkwX1_set_3 : List UInt8 := [180, 0, 123, 27, 28, 79, 29, 172]
abbrev dktX1_set_3 : List UInt8 := dkwX1_set_3 ++ []
def dkwX1_set_2 : List UInt8 := [184, 0, 66, 184, 0, 81, 42, 182, 0, 87, 42, 180, 0, 10, 180, 0, 123, 27, 46, 62, 42, 180, 0, 10]
abbrev dktX1_set_2 : List UInt8 := dkwX1_set_2 ++ dktX1_set_3
def dkwX1_set_1 : List UInt8 := [160, 0, 9, 17, 3, 232, 167, 0, 16, 27, 5, 160, 0, 8, 16, 20, 167, 0, 6, 17, 0, 200]
abbrev dktX1_set_1 : List UInt8 := dkwX1_set_1 ++ dktX1_set_2
def dkwX1_set_0 : List UInt8 := [27, 3, 6, 184, 0, 66, 184, 0, 70, 28, 3, 27, 154, 0, 8, 16, 60, 167, 0, 27, 27, 4]
abbrev dktX1_set_0 : List UInt8 := dkwX1_set_0 ++ dktX1_set_1
theorem dksX1_set_0 : cX1_set.data.toList.drop 0 = dktX1_set_0 := by decide +kernel
theorem dksX1_set_1 : cX1_set.data.toList.drop 22 = dktX1_set_1 := dk_seg dksX1_set_0 22 rfl rfl
theorem dksX1_set_2 : cX1_set.data.toList.drop 44 = dktX1_set_2 := dk_seg dksX1_set_1 22 rfl rfl
theorem dksX1_set_3 : cX1_set.data.toList.drop 68 = dktX1_set_3 := dk_seg dksX1_set_2 24 rfl rfl
theorem dX1_set_0 : decode cX1_set 0 = .ok (.iload_n 1, 1) := dk_27 (dk_at dksX1_set_0 0 rfl rfl)
theorem dX1_set_1 : decode cX1_set 1 = .ok (.iconst 0, 1) := dk_3 (dk_at dksX1_set_0 1 rfl rfl)
theorem dX1_set_2 : decode cX1_set 2 = .ok (.iconst 3, 1) := dk_6 (dk_at dksX1_set_0 2 rfl rfl)
theorem dX1_set_3 : decode cX1_set 3 = .ok (.invokestatic 66, 3) := dk_184 0 66 (dk_at dksX1_set_0 3 rfl rfl)
theorem dX1_set_6 : decode cX1_set 6 = .ok (.invokestatic 70, 3) := dk_184 0 70 (dk_at dksX1_set_0 6 rfl rfl)
theorem dX1_set_9 : decode cX1_set 9 = .ok (.iload_n 2, 1) := dk_28 (dk_at dksX1_set_0 9 rfl rfl)
theorem dX1_set_10 : decode cX1_set 10 = .ok (.iconst 0, 1) := dk_3 (dk_at dksX1_set_0 10 rfl rfl)
theorem dX1_set_11 : decode cX1_set 11 = .ok (.iload_n 1, 1) := dk_27 (dk_at dksX1_set_0 11 rfl rfl)
theorem dX1_set_12 : decode cX1_set 12 = .ok (.ifCond .ne 8, 3) := dk_154 0 8 (dk_at dksX1_set_0 12 rfl rfl)
theorem dX1_set_15 : decode cX1_set 15 = .ok (.bipush 60, 2) := dk_16 60 (dk_at dksX1_set_0 15 rfl rfl)
theorem dX1_set_17 : decode cX1_set 17 = .ok (.goto 27, 3) := dk_167 0 27 (dk_at dksX1_set_0 17 rfl rfl)
theorem dX1_set_20 : decode cX1_set 20 = .ok (.iload_n 1, 1) := dk_27 (dk_at dksX1_set_0 20 rfl rfl)
theorem dX1_set_21 : decode cX1_set 21 = .ok (.iconst 1, 1) := dk_4 (dk_at dksX1_set_0 21 rfl rfl)
theorem dX1_set_22 : decode cX1_set 22 = .ok (.if_icmp .ne 9, 3) := dk_160 0 9 (dk_at dksX1_set_1 0 rfl rfl)
theorem dX1_set_25 : decode cX1_set 25 = .ok (.sipush 1000, 3) := dk_17 3 232 (dk_at dksX1_set_1 3 rfl rfl)
theorem dX1_set_28 : decode cX1_set 28 = .ok (.goto 16, 3) := dk_167 0 16 (dk_at dksX1_set_1 6 rfl rfl)
theorem dX1_set_31 : decode cX1_set 31 = .ok (.iload_n 1, 1) := dk_27 (dk_at dksX1_set_1 9 rfl rfl)
theorem dX1_set_32 : decode cX1_set 32 = .ok (.iconst 2, 1) := dk_5 (dk_at dksX1_set_1 10 rfl rfl)
theorem dX1_set_33 : decode cX1_set 33 = .ok (.if_icmp .ne 8, 3) := dk_160 0 8 (dk_at dksX1_set_1 11 rfl rfl)
theorem dX1_set_36 : decode cX1_set 36 = .ok (.bipush 20, 2) := dk_16 20 (dk_at dksX1_set_1 14 rfl rfl)
theorem dX1_set_38 : decode cX1_set 38 = .ok (.goto 6, 3) := dk_167 0 6 (dk_at dksX1_set_1 16 rfl rfl)
theorem dX1_set_41 : decode cX1_set 41 = .ok (.sipush 200, 3) := dk_17 0 200 (dk_at dksX1_set_1 19 rfl rfl)
theorem dX1_set_44 : decode cX1_set 44 = .ok (.invokestatic 66, 3) := dk_184 0 66 (dk_at dksX1_set_2 0 rfl rfl)
theorem dX1_set_47 : decode cX1_set 47 = .ok (.invokestatic 81, 3) := dk_184 0 81 (dk_at dksX1_set_2 3 rfl rfl)
theorem dX1_set_50 : decode cX1_set 50 = .ok (.aload_n 0, 1) := dk_42 (dk_at dksX1_set_2 6 rfl rfl)
theorem dX1_set_51 : decode cX1_set 51 = .ok (.invokevirtual 87, 3) := dk_182 0 87 (dk_at dksX1_set_2 7 rfl rfl)
theorem dX1_set_54 : decode cX1_set 54 = .ok (.aload_n 0, 1) := dk_42 (dk_at dksX1_set_2 10 rfl rfl)
theorem dX1_set_55 : decode cX1_set 55 = .ok (.getfield 10, 3) := dk_180 0 10 (dk_at dksX1_set_2 11 rfl rfl)
theorem dX1_set_58 : decode cX1_set 58 = .ok (.getfield 123, 3) := dk_180 0 123 (dk_at dksX1_set_2 14 rfl rfl)
theorem dX1_set_61 : decode cX1_set 61 = .ok (.iload_n 1, 1) := dk_27 (dk_at dksX1_set_2 17 rfl rfl)
theorem dX1_set_62 : decode cX1_set 62 = .ok (.iaload, 1) := dk_46 (dk_at dksX1_set_2 18 rfl rfl)
theorem dX1_set_63 : decode cX1_set 63 = .ok (.istore_n 3, 1) := dk_62 (dk_at dksX1_set_2 19 rfl rfl)
theorem dX1_set_64 : decode cX1_set 64 = .ok (.aload_n 0, 1) := dk_42 (dk_at dksX1_set_2 20 rfl rfl)
theorem dX1_set_65 : decode cX1_set 65 = .ok (.getfield 10, 3) := dk_180 0 10 (dk_at dksX1_set_2 21 rfl rfl)
theorem dX1_set_68 : decode cX1_set 68 = .ok (.getfield 123, 3) := dk_180 0 123 (dk_at dksX1_set_3 0 rfl rfl)
theorem dX1_set_71 : decode cX1_set 71 = .ok (.iload_n 1, 1) := dk_27 (dk_at dksX1_set_3 3 rfl rfl)
theorem dX1_set_72 : decode cX1_set 72 = .ok (.iload_n 2, 1) := dk_28 (dk_at dksX1_set_3 4 rfl rfl)
theorem dX1_set_73 : decode cX1_set 73 = .ok (.iastore, 1) := dk_79 (dk_at dksX1_set_3 5 rfl rfl)
theorem dX1_set_74 : decode cX1_set 74 = .ok (.iload_n 3, 1) := dk_29 (dk_at dksX1_set_3 6 rfl rfl)
theorem dX1_set_75 : decode cX1_set 75 = .ok (.ireturn, 1) := dk_172 (dk_at dksX1_set_3 7 rfl rfl)
abbrev cX1_wring : ByteArray := prog_1_method_16_code
def yX1_wring : MethodName := ⟨RX1, "wring", "(II)I"⟩
def dkwX1_wring_0 : List UInt8 := [27, 184, 0, 127, 42, 28, 182, 0, 94, 87, 42, 182, 0, 87, 42, 180, 0, 10, 27, 28, 182, 0, 130, 172]
abbrev dktX1_wring_0 : List UInt8 := dkwX1_wring_0 ++ []
theorem dksX1_wring_0 : cX1_wring.data.toList.drop 0 = dktX1_wring_0 := by decide +kernel
theorem dX1_wring_0 : decode cX1_wring 0 = .ok (.iload_n 1, 1) := dk_27 (dk_at dksX1_wring_0 0 rfl rfl)
theorem dX1_wring_1 : decode cX1_wring 1 = .ok (.invokestatic 127, 3) := dk_184 0 127 (dk_at dksX1_wring_0 1 rfl rfl)
theorem dX1_wring_4 : decode cX1_wring 4 = .ok (.aload_n 0, 1) := dk_42 (dk_at dksX1_wring_0 4 rfl rfl)
theorem dX1_wring_5 : decode cX1_wring 5 = .ok (.iload_n 2, 1) := dk_28 (dk_at dksX1_wring_0 5 rfl rfl)
theorem dX1_wring_6 : decode cX1_wring 6 = .ok (.invokevirtual 94, 3) := dk_182 0 94 (dk_at dksX1_wring_0 6 rfl rfl)
theorem dX1_wring_9 : decode cX1_wring 9 = .ok (.pop, 1) := dk_87 (dk_at dksX1_wring_0 9 rfl rfl)
theorem dX1_wring_10 : decode cX1_wring 10 = .ok (.aload_n 0, 1) := dk_42 (dk_at dksX1_wring_0 10 rfl rfl)
theorem dX1_wring_11 : decode cX1_wring 11 = .ok (.invokevirtual 87, 3) := dk_182 0 87 (dk_at dksX1_wring_0 11 rfl rfl)
theorem dX1_wring_14 : decode cX1_wring 14 = .ok (.aload_n 0, 1) := dk_42 (dk_at dksX1_wring_0 14 rfl rfl)
theorem dX1_wring_15 : decode cX1_wring 15 = .ok (.getfield 10, 3) := dk_180 0 10 (dk_at dksX1_wring_0 15 rfl rfl)
theorem dX1_wring_18 : decode cX1_wring 18 = .ok (.iload_n 1, 1) := dk_27 (dk_at dksX1_wring_0 18 rfl rfl)
theorem dX1_wring_19 : decode cX1_wring 19 = .ok (.iload_n 2, 1) := dk_28 (dk_at dksX1_wring_0 19 rfl rfl)
theorem dX1_wring_20 : decode cX1_wring 20 = .ok (.invokevirtual 130, 3) := dk_182 0 130 (dk_at dksX1_wring_0 20 rfl rfl)
theorem dX1_wring_23 : decode cX1_wring 23 = .ok (.ireturn, 1) := dk_172 (dk_at dksX1_wring_0 23 rfl rfl)
abbrev cX1_checkStack : ByteArray := prog_1_method_9_code
def yX1_checkStack : MethodName := ⟨RX1, "checkStack", "(I)V"⟩
def dkwX1_checkStack_0 : List UInt8 := [26, 3, 5, 184, 0, 66, 184, 0, 70, 177]
abbrev dktX1_checkStack_0 : List UInt8 := dkwX1_checkStack_0 ++ []
theorem dksX1_checkStack_0 : cX1_checkStack.data.toList.drop 0 = dktX1_checkStack_0 := by decide +kernel
theorem dX1_checkStack_0 : decode cX1_checkStack 0 = .ok (.iload_n 0, 1) := dk_26 (dk_at dksX1_checkStack_0 0 rfl rfl)
theorem dX1_checkStack_1 : decode cX1_checkStack 1 = .ok (.iconst 0, 1) := dk_3 (dk_at dksX1_checkStack_0 1 rfl rfl)
theorem dX1_checkStack_2 : decode cX1_checkStack 2 = .ok (.iconst 2, 1) := dk_5 (dk_at dksX1_checkStack_0 2 rfl rfl)
theorem dX1_checkStack_3 : decode cX1_checkStack 3 = .ok (.invokestatic 66, 3) := dk_184 0 66 (dk_at dksX1_checkStack_0 3 rfl rfl)
theorem dX1_checkStack_6 : decode cX1_checkStack 6 = .ok (.invokestatic 70, 3) := dk_184 0 70 (dk_at dksX1_checkStack_0 6 rfl rfl)
theorem dX1_checkStack_9 : decode cX1_checkStack 9 = .ok (.return_, 1) := dk_177 (dk_at dksX1_checkStack_0 9 rfl rfl)
abbrev cX1_takeOff : ByteArray := prog_1_method_17_code
def yX1_takeOff : MethodName := ⟨RX1, "takeOff", "(I)I"⟩
def dkwX1_takeOff_1 : List UInt8 := [4, 167, 0, 4, 3, 184, 0, 84, 42, 182, 0, 87, 42, 180, 0, 10, 27, 182, 0, 139, 172]
abbrev dktX1_takeOff_1 : List UInt8 := dkwX1_takeOff_1 ++ []
def dkwX1_takeOff_0 : List UInt8 := [27, 184, 0, 127, 42, 180, 0, 10, 180, 0, 133, 27, 182, 0, 74, 192, 0, 64, 182, 0, 136, 154, 0, 7]
abbrev dktX1_takeOff_0 : List UInt8 := dkwX1_takeOff_0 ++ dktX1_takeOff_1
theorem dksX1_takeOff_0 : cX1_takeOff.data.toList.drop 0 = dktX1_takeOff_0 := by decide +kernel
theorem dksX1_takeOff_1 : cX1_takeOff.data.toList.drop 24 = dktX1_takeOff_1 := dk_seg dksX1_takeOff_0 24 rfl rfl
theorem dX1_takeOff_0 : decode cX1_takeOff 0 = .ok (.iload_n 1, 1) := dk_27 (dk_at dksX1_takeOff_0 0 rfl rfl)
theorem dX1_takeOff_1 : decode cX1_takeOff 1 = .ok (.invokestatic 127, 3) := dk_184 0 127 (dk_at dksX1_takeOff_0 1 rfl rfl)
theorem dX1_takeOff_4 : decode cX1_takeOff 4 = .ok (.aload_n 0, 1) := dk_42 (dk_at dksX1_takeOff_0 4 rfl rfl)
theorem dX1_takeOff_5 : decode cX1_takeOff 5 = .ok (.getfield 10, 3) := dk_180 0 10 (dk_at dksX1_takeOff_0 5 rfl rfl)
theorem dX1_takeOff_8 : decode cX1_takeOff 8 = .ok (.getfield 133, 3) := dk_180 0 133 (dk_at dksX1_takeOff_0 8 rfl rfl)
theorem dX1_takeOff_11 : decode cX1_takeOff 11 = .ok (.iload_n 1, 1) := dk_27 (dk_at dksX1_takeOff_0 11 rfl rfl)
theorem dX1_takeOff_12 : decode cX1_takeOff 12 = .ok (.invokevirtual 74, 3) := dk_182 0 74 (dk_at dksX1_takeOff_0 12 rfl rfl)
theorem dX1_takeOff_15 : decode cX1_takeOff 15 = .ok (.checkcast 64, 3) := dk_192 0 64 (dk_at dksX1_takeOff_0 15 rfl rfl)
theorem dX1_takeOff_18 : decode cX1_takeOff 18 = .ok (.invokevirtual 136, 3) := dk_182 0 136 (dk_at dksX1_takeOff_0 18 rfl rfl)
theorem dX1_takeOff_21 : decode cX1_takeOff 21 = .ok (.ifCond .ne 7, 3) := dk_154 0 7 (dk_at dksX1_takeOff_0 21 rfl rfl)
theorem dX1_takeOff_24 : decode cX1_takeOff 24 = .ok (.iconst 1, 1) := dk_4 (dk_at dksX1_takeOff_1 0 rfl rfl)
theorem dX1_takeOff_25 : decode cX1_takeOff 25 = .ok (.goto 4, 3) := dk_167 0 4 (dk_at dksX1_takeOff_1 1 rfl rfl)
theorem dX1_takeOff_28 : decode cX1_takeOff 28 = .ok (.iconst 0, 1) := dk_3 (dk_at dksX1_takeOff_1 4 rfl rfl)
theorem dX1_takeOff_29 : decode cX1_takeOff 29 = .ok (.invokestatic 84, 3) := dk_184 0 84 (dk_at dksX1_takeOff_1 5 rfl rfl)
theorem dX1_takeOff_32 : decode cX1_takeOff 32 = .ok (.aload_n 0, 1) := dk_42 (dk_at dksX1_takeOff_1 8 rfl rfl)
theorem dX1_takeOff_33 : decode cX1_takeOff 33 = .ok (.invokevirtual 87, 3) := dk_182 0 87 (dk_at dksX1_takeOff_1 9 rfl rfl)
theorem dX1_takeOff_36 : decode cX1_takeOff 36 = .ok (.aload_n 0, 1) := dk_42 (dk_at dksX1_takeOff_1 12 rfl rfl)
theorem dX1_takeOff_37 : decode cX1_takeOff 37 = .ok (.getfield 10, 3) := dk_180 0 10 (dk_at dksX1_takeOff_1 13 rfl rfl)
theorem dX1_takeOff_40 : decode cX1_takeOff 40 = .ok (.iload_n 1, 1) := dk_27 (dk_at dksX1_takeOff_1 16 rfl rfl)
theorem dX1_takeOff_41 : decode cX1_takeOff 41 = .ok (.invokevirtual 139, 3) := dk_182 0 139 (dk_at dksX1_takeOff_1 17 rfl rfl)
theorem dX1_takeOff_44 : decode cX1_takeOff 44 = .ok (.ireturn, 1) := dk_172 (dk_at dksX1_takeOff_1 20 rfl rfl)
abbrev cX1_make : ByteArray := prog_1_method_18_code
def yX1_make : MethodName := ⟨RX1, "make", "(II)I"⟩
def dkwX1_make_2 : List UInt8 := [182, 0, 143, 172]
abbrev dktX1_make_2 : List UInt8 := dkwX1_make_2 ++ []
def dkwX1_make_1 : List UInt8 := [182, 0, 74, 192, 0, 64, 182, 0, 136, 184, 0, 84, 42, 182, 0, 87, 42, 180, 0, 10, 27, 28]
abbrev dktX1_make_1 : List UInt8 := dkwX1_make_1 ++ dktX1_make_2
def dkwX1_make_0 : List UInt8 := [27, 184, 0, 127, 28, 17, 1, 244, 18, 142, 184, 0, 66, 184, 0, 81, 42, 180, 0, 10, 180, 0, 133, 27]
abbrev dktX1_make_0 : List UInt8 := dkwX1_make_0 ++ dktX1_make_1
theorem dksX1_make_0 : cX1_make.data.toList.drop 0 = dktX1_make_0 := by decide +kernel
theorem dksX1_make_1 : cX1_make.data.toList.drop 24 = dktX1_make_1 := dk_seg dksX1_make_0 24 rfl rfl
theorem dksX1_make_2 : cX1_make.data.toList.drop 46 = dktX1_make_2 := dk_seg dksX1_make_1 22 rfl rfl
theorem dX1_make_0 : decode cX1_make 0 = .ok (.iload_n 1, 1) := dk_27 (dk_at dksX1_make_0 0 rfl rfl)
theorem dX1_make_1 : decode cX1_make 1 = .ok (.invokestatic 127, 3) := dk_184 0 127 (dk_at dksX1_make_0 1 rfl rfl)
theorem dX1_make_4 : decode cX1_make 4 = .ok (.iload_n 2, 1) := dk_28 (dk_at dksX1_make_0 4 rfl rfl)
theorem dX1_make_5 : decode cX1_make 5 = .ok (.sipush 500, 3) := dk_17 1 244 (dk_at dksX1_make_0 5 rfl rfl)
theorem dX1_make_8 : decode cX1_make 8 = .ok (.ldc 142, 2) := dk_18 142 (dk_at dksX1_make_0 8 rfl rfl)
theorem dX1_make_10 : decode cX1_make 10 = .ok (.invokestatic 66, 3) := dk_184 0 66 (dk_at dksX1_make_0 10 rfl rfl)
theorem dX1_make_13 : decode cX1_make 13 = .ok (.invokestatic 81, 3) := dk_184 0 81 (dk_at dksX1_make_0 13 rfl rfl)
theorem dX1_make_16 : decode cX1_make 16 = .ok (.aload_n 0, 1) := dk_42 (dk_at dksX1_make_0 16 rfl rfl)
theorem dX1_make_17 : decode cX1_make 17 = .ok (.getfield 10, 3) := dk_180 0 10 (dk_at dksX1_make_0 17 rfl rfl)
theorem dX1_make_20 : decode cX1_make 20 = .ok (.getfield 133, 3) := dk_180 0 133 (dk_at dksX1_make_0 20 rfl rfl)
theorem dX1_make_23 : decode cX1_make 23 = .ok (.iload_n 1, 1) := dk_27 (dk_at dksX1_make_0 23 rfl rfl)
theorem dX1_make_24 : decode cX1_make 24 = .ok (.invokevirtual 74, 3) := dk_182 0 74 (dk_at dksX1_make_1 0 rfl rfl)
theorem dX1_make_27 : decode cX1_make 27 = .ok (.checkcast 64, 3) := dk_192 0 64 (dk_at dksX1_make_1 3 rfl rfl)
theorem dX1_make_30 : decode cX1_make 30 = .ok (.invokevirtual 136, 3) := dk_182 0 136 (dk_at dksX1_make_1 6 rfl rfl)
theorem dX1_make_33 : decode cX1_make 33 = .ok (.invokestatic 84, 3) := dk_184 0 84 (dk_at dksX1_make_1 9 rfl rfl)
theorem dX1_make_36 : decode cX1_make 36 = .ok (.aload_n 0, 1) := dk_42 (dk_at dksX1_make_1 12 rfl rfl)
theorem dX1_make_37 : decode cX1_make 37 = .ok (.invokevirtual 87, 3) := dk_182 0 87 (dk_at dksX1_make_1 13 rfl rfl)
theorem dX1_make_40 : decode cX1_make 40 = .ok (.aload_n 0, 1) := dk_42 (dk_at dksX1_make_1 16 rfl rfl)
theorem dX1_make_41 : decode cX1_make 41 = .ok (.getfield 10, 3) := dk_180 0 10 (dk_at dksX1_make_1 17 rfl rfl)
theorem dX1_make_44 : decode cX1_make 44 = .ok (.iload_n 1, 1) := dk_27 (dk_at dksX1_make_1 20 rfl rfl)
theorem dX1_make_45 : decode cX1_make 45 = .ok (.iload_n 2, 1) := dk_28 (dk_at dksX1_make_1 21 rfl rfl)
theorem dX1_make_46 : decode cX1_make 46 = .ok (.invokevirtual 143, 3) := dk_182 0 143 (dk_at dksX1_make_2 0 rfl rfl)
theorem dX1_make_49 : decode cX1_make 49 = .ok (.ireturn, 1) := dk_172 (dk_at dksX1_make_2 3 rfl rfl)
abbrev cX1_append : ByteArray := prog_1_method_19_code
def yX1_append : MethodName := ⟨RX1, "append", "(I)I"⟩
def dkwX1_append_2 : List UInt8 := [172]
abbrev dktX1_append_2 : List UInt8 := dkwX1_append_2 ++ []
def dkwX1_append_1 : List UInt8 := [167, 0, 4, 3, 184, 0, 84, 42, 180, 0, 30, 27, 146, 182, 0, 149, 87, 42, 180, 0, 30, 182, 0, 146]
abbrev dktX1_append_1 : List UInt8 := dkwX1_append_1 ++ dktX1_append_2
def dkwX1_append_0 : List UInt8 := [27, 16, 33, 16, 126, 184, 0, 66, 184, 0, 81, 42, 180, 0, 30, 182, 0, 146, 16, 60, 162, 0, 7, 4]
abbrev dktX1_append_0 : List UInt8 := dkwX1_append_0 ++ dktX1_append_1
theorem dksX1_append_0 : cX1_append.data.toList.drop 0 = dktX1_append_0 := by decide +kernel
theorem dksX1_append_1 : cX1_append.data.toList.drop 24 = dktX1_append_1 := dk_seg dksX1_append_0 24 rfl rfl
theorem dksX1_append_2 : cX1_append.data.toList.drop 48 = dktX1_append_2 := dk_seg dksX1_append_1 24 rfl rfl
theorem dX1_append_0 : decode cX1_append 0 = .ok (.iload_n 1, 1) := dk_27 (dk_at dksX1_append_0 0 rfl rfl)
theorem dX1_append_1 : decode cX1_append 1 = .ok (.bipush 33, 2) := dk_16 33 (dk_at dksX1_append_0 1 rfl rfl)
theorem dX1_append_3 : decode cX1_append 3 = .ok (.bipush 126, 2) := dk_16 126 (dk_at dksX1_append_0 3 rfl rfl)
theorem dX1_append_5 : decode cX1_append 5 = .ok (.invokestatic 66, 3) := dk_184 0 66 (dk_at dksX1_append_0 5 rfl rfl)
theorem dX1_append_8 : decode cX1_append 8 = .ok (.invokestatic 81, 3) := dk_184 0 81 (dk_at dksX1_append_0 8 rfl rfl)
theorem dX1_append_11 : decode cX1_append 11 = .ok (.aload_n 0, 1) := dk_42 (dk_at dksX1_append_0 11 rfl rfl)
theorem dX1_append_12 : decode cX1_append 12 = .ok (.getfield 30, 3) := dk_180 0 30 (dk_at dksX1_append_0 12 rfl rfl)
theorem dX1_append_15 : decode cX1_append 15 = .ok (.invokevirtual 146, 3) := dk_182 0 146 (dk_at dksX1_append_0 15 rfl rfl)
theorem dX1_append_18 : decode cX1_append 18 = .ok (.bipush 60, 2) := dk_16 60 (dk_at dksX1_append_0 18 rfl rfl)
theorem dX1_append_20 : decode cX1_append 20 = .ok (.if_icmp .ge 7, 3) := dk_162 0 7 (dk_at dksX1_append_0 20 rfl rfl)
theorem dX1_append_23 : decode cX1_append 23 = .ok (.iconst 1, 1) := dk_4 (dk_at dksX1_append_0 23 rfl rfl)
theorem dX1_append_24 : decode cX1_append 24 = .ok (.goto 4, 3) := dk_167 0 4 (dk_at dksX1_append_1 0 rfl rfl)
theorem dX1_append_27 : decode cX1_append 27 = .ok (.iconst 0, 1) := dk_3 (dk_at dksX1_append_1 3 rfl rfl)
theorem dX1_append_28 : decode cX1_append 28 = .ok (.invokestatic 84, 3) := dk_184 0 84 (dk_at dksX1_append_1 4 rfl rfl)
theorem dX1_append_31 : decode cX1_append 31 = .ok (.aload_n 0, 1) := dk_42 (dk_at dksX1_append_1 7 rfl rfl)
theorem dX1_append_32 : decode cX1_append 32 = .ok (.getfield 30, 3) := dk_180 0 30 (dk_at dksX1_append_1 8 rfl rfl)
theorem dX1_append_35 : decode cX1_append 35 = .ok (.iload_n 1, 1) := dk_27 (dk_at dksX1_append_1 11 rfl rfl)
theorem dX1_append_36 : decode cX1_append 36 = .ok (.i2c, 1) := dk_146 (dk_at dksX1_append_1 12 rfl rfl)
theorem dX1_append_37 : decode cX1_append 37 = .ok (.invokevirtual 149, 3) := dk_182 0 149 (dk_at dksX1_append_1 13 rfl rfl)
theorem dX1_append_40 : decode cX1_append 40 = .ok (.pop, 1) := dk_87 (dk_at dksX1_append_1 16 rfl rfl)
theorem dX1_append_41 : decode cX1_append 41 = .ok (.aload_n 0, 1) := dk_42 (dk_at dksX1_append_1 17 rfl rfl)
theorem dX1_append_42 : decode cX1_append 42 = .ok (.getfield 30, 3) := dk_180 0 30 (dk_at dksX1_append_1 18 rfl rfl)
theorem dX1_append_45 : decode cX1_append 45 = .ok (.invokevirtual 146, 3) := dk_182 0 146 (dk_at dksX1_append_1 21 rfl rfl)
theorem dX1_append_48 : decode cX1_append 48 = .ok (.ireturn, 1) := dk_172 (dk_at dksX1_append_2 0 rfl rfl)
abbrev cX1_execute : ByteArray := prog_1_method_22_code
def yX1_execute : MethodName := ⟨RX1, "execute", "()I"⟩
def dkwX1_execute_2 : List UInt8 := [28, 182, 0, 74, 192, 0, 170, 182, 0, 172, 153, 0, 9, 132, 2, 1, 167, 255, 230, 28, 172]
abbrev dktX1_execute_2 : List UInt8 := dkwX1_execute_2 ++ []
def dkwX1_execute_1 : List UInt8 := [42, 182, 0, 87, 42, 180, 0, 30, 3, 182, 0, 153, 3, 61, 28, 43, 182, 0, 63, 162, 0, 24, 42, 43]
abbrev dktX1_execute_1 : List UInt8 := dkwX1_execute_1 ++ dktX1_execute_2
def dkwX1_execute_0 : List UInt8 := [187, 0, 156, 89, 42, 183, 0, 158, 182, 0, 161, 76, 167, 0, 12, 77, 187, 0, 50, 89, 183, 0, 52, 191]
abbrev dktX1_execute_0 : List UInt8 := dkwX1_execute_0 ++ dktX1_execute_1
theorem dksX1_execute_0 : cX1_execute.data.toList.drop 0 = dktX1_execute_0 := by decide +kernel
theorem dksX1_execute_1 : cX1_execute.data.toList.drop 24 = dktX1_execute_1 := dk_seg dksX1_execute_0 24 rfl rfl
theorem dksX1_execute_2 : cX1_execute.data.toList.drop 48 = dktX1_execute_2 := dk_seg dksX1_execute_1 24 rfl rfl
theorem dX1_execute_0 : decode cX1_execute 0 = .ok (.new 156, 3) := dk_187 0 156 (dk_at dksX1_execute_0 0 rfl rfl)
theorem dX1_execute_3 : decode cX1_execute 3 = .ok (.dup, 1) := dk_89 (dk_at dksX1_execute_0 3 rfl rfl)
theorem dX1_execute_4 : decode cX1_execute 4 = .ok (.aload_n 0, 1) := dk_42 (dk_at dksX1_execute_0 4 rfl rfl)
theorem dX1_execute_5 : decode cX1_execute 5 = .ok (.invokespecial 158, 3) := dk_183 0 158 (dk_at dksX1_execute_0 5 rfl rfl)
theorem dX1_execute_8 : decode cX1_execute 8 = .ok (.invokevirtual 161, 3) := dk_182 0 161 (dk_at dksX1_execute_0 8 rfl rfl)
theorem dX1_execute_11 : decode cX1_execute 11 = .ok (.astore_n 1, 1) := dk_76 (dk_at dksX1_execute_0 11 rfl rfl)
theorem dX1_execute_12 : decode cX1_execute 12 = .ok (.goto 12, 3) := dk_167 0 12 (dk_at dksX1_execute_0 12 rfl rfl)
theorem dX1_execute_15 : decode cX1_execute 15 = .ok (.astore_n 2, 1) := dk_77 (dk_at dksX1_execute_0 15 rfl rfl)
theorem dX1_execute_16 : decode cX1_execute 16 = .ok (.new 50, 3) := dk_187 0 50 (dk_at dksX1_execute_0 16 rfl rfl)
theorem dX1_execute_19 : decode cX1_execute 19 = .ok (.dup, 1) := dk_89 (dk_at dksX1_execute_0 19 rfl rfl)
theorem dX1_execute_20 : decode cX1_execute 20 = .ok (.invokespecial 52, 3) := dk_183 0 52 (dk_at dksX1_execute_0 20 rfl rfl)
theorem dX1_execute_23 : decode cX1_execute 23 = .ok (.athrow, 1) := dk_191 (dk_at dksX1_execute_0 23 rfl rfl)
theorem dX1_execute_24 : decode cX1_execute 24 = .ok (.aload_n 0, 1) := dk_42 (dk_at dksX1_execute_1 0 rfl rfl)
theorem dX1_execute_25 : decode cX1_execute 25 = .ok (.invokevirtual 87, 3) := dk_182 0 87 (dk_at dksX1_execute_1 1 rfl rfl)
theorem dX1_execute_28 : decode cX1_execute 28 = .ok (.aload_n 0, 1) := dk_42 (dk_at dksX1_execute_1 4 rfl rfl)
theorem dX1_execute_29 : decode cX1_execute 29 = .ok (.getfield 30, 3) := dk_180 0 30 (dk_at dksX1_execute_1 5 rfl rfl)
theorem dX1_execute_32 : decode cX1_execute 32 = .ok (.iconst 0, 1) := dk_3 (dk_at dksX1_execute_1 8 rfl rfl)
theorem dX1_execute_33 : decode cX1_execute 33 = .ok (.invokevirtual 153, 3) := dk_182 0 153 (dk_at dksX1_execute_1 9 rfl rfl)
theorem dX1_execute_36 : decode cX1_execute 36 = .ok (.iconst 0, 1) := dk_3 (dk_at dksX1_execute_1 12 rfl rfl)
theorem dX1_execute_37 : decode cX1_execute 37 = .ok (.istore_n 2, 1) := dk_61 (dk_at dksX1_execute_1 13 rfl rfl)
theorem dX1_execute_38 : decode cX1_execute 38 = .ok (.iload_n 2, 1) := dk_28 (dk_at dksX1_execute_1 14 rfl rfl)
theorem dX1_execute_39 : decode cX1_execute 39 = .ok (.aload_n 1, 1) := dk_43 (dk_at dksX1_execute_1 15 rfl rfl)
theorem dX1_execute_40 : decode cX1_execute 40 = .ok (.invokevirtual 63, 3) := dk_182 0 63 (dk_at dksX1_execute_1 16 rfl rfl)
theorem dX1_execute_43 : decode cX1_execute 43 = .ok (.if_icmp .ge 24, 3) := dk_162 0 24 (dk_at dksX1_execute_1 19 rfl rfl)
theorem dX1_execute_46 : decode cX1_execute 46 = .ok (.aload_n 0, 1) := dk_42 (dk_at dksX1_execute_1 22 rfl rfl)
theorem dX1_execute_47 : decode cX1_execute 47 = .ok (.aload_n 1, 1) := dk_43 (dk_at dksX1_execute_1 23 rfl rfl)
theorem dX1_execute_48 : decode cX1_execute 48 = .ok (.iload_n 2, 1) := dk_28 (dk_at dksX1_execute_2 0 rfl rfl)
theorem dX1_execute_49 : decode cX1_execute 49 = .ok (.invokevirtual 74, 3) := dk_182 0 74 (dk_at dksX1_execute_2 1 rfl rfl)
theorem dX1_execute_52 : decode cX1_execute 52 = .ok (.checkcast 170, 3) := dk_192 0 170 (dk_at dksX1_execute_2 4 rfl rfl)
theorem dX1_execute_55 : decode cX1_execute 55 = .ok (.invokevirtual 172, 3) := dk_182 0 172 (dk_at dksX1_execute_2 7 rfl rfl)
theorem dX1_execute_58 : decode cX1_execute 58 = .ok (.ifCond .eq 9, 3) := dk_153 0 9 (dk_at dksX1_execute_2 10 rfl rfl)
theorem dX1_execute_61 : decode cX1_execute 61 = .ok (.iinc 2 1, 3) := dk_132 2 1 (dk_at dksX1_execute_2 13 rfl rfl)
theorem dX1_execute_64 : decode cX1_execute 64 = .ok (.goto (-26), 3) := dk_167 255 230 (dk_at dksX1_execute_2 16 rfl rfl)
theorem dX1_execute_67 : decode cX1_execute 67 = .ok (.iload_n 2, 1) := dk_28 (dk_at dksX1_execute_2 19 rfl rfl)
theorem dX1_execute_68 : decode cX1_execute 68 = .ok (.ireturn, 1) := dk_172 (dk_at dksX1_execute_2 20 rfl rfl)
abbrev cX1_run : ByteArray := prog_1_method_23_code
def yX1_run : MethodName := ⟨RX1, "run", "(LGaugeBlocks$Command;)Z"⟩
def dkwX1_run_9 : List UInt8 := [182, 0, 119, 155, 0, 7, 4, 167, 0, 4, 3, 172]
abbrev dktX1_run_9 : List UInt8 := dkwX1_run_9 ++ []
def dkwX1_run_8 : List UInt8 := [182, 0, 74, 192, 0, 78, 8, 43, 180, 0, 176, 4, 46, 104, 182, 0, 111, 4, 172, 42, 180, 0, 10, 28]
abbrev dktX1_run_8 : List UInt8 := dkwX1_run_8 ++ dktX1_run_9
def dkwX1_run_7 : List UInt8 := [180, 0, 10, 180, 0, 59, 182, 0, 63, 161, 0, 5, 3, 172, 42, 180, 0, 10, 180, 0, 59, 28]
abbrev dktX1_run_7 : List UInt8 := dkwX1_run_7 ++ dktX1_run_8
def dkwX1_run_6 : List UInt8 := [154, 0, 18, 42, 180, 0, 10, 28, 182, 0, 139, 155, 0, 7, 4, 167, 0, 4, 3, 172, 28, 42]
abbrev dktX1_run_6 : List UInt8 := dkwX1_run_6 ++ dktX1_run_7
def dkwX1_run_5 : List UInt8 := [167, 0, 4, 3, 172, 42, 180, 0, 10, 180, 0, 133, 28, 182, 0, 74, 192, 0, 64, 182, 0, 136]
abbrev dktX1_run_5 : List UInt8 := dkwX1_run_5 ++ dktX1_run_6
def dkwX1_run_4 : List UInt8 := [182, 0, 63, 162, 0, 24, 42, 180, 0, 10, 28, 43, 180, 0, 176, 4, 46, 182, 0, 130, 154, 0, 7, 4]
abbrev dktX1_run_4 : List UInt8 := dkwX1_run_4 ++ dktX1_run_5
def dkwX1_run_3 : List UInt8 := [155, 0, 7, 4, 167, 0, 4, 3, 172, 43, 180, 0, 176, 4, 46, 42, 180, 0, 10, 180, 0, 59]
abbrev dktX1_run_3 : List UInt8 := dkwX1_run_3 ++ dktX1_run_4
def dkwX1_run_2 : List UInt8 := [42, 180, 0, 10, 180, 0, 59, 182, 0, 63, 16, 20, 162, 0, 19, 42, 180, 0, 10, 28, 3, 182, 0, 90]
abbrev dktX1_run_2 : List UInt8 := dkwX1_run_2 ++ dktX1_run_3
def dkwX1_run_1 : List UInt8 := [171, 0, 0, 0, 196, 0, 0, 0, 4, 0, 0, 0, 98, 0, 0, 0, 41, 0, 0, 0, 104, 0, 0, 0, 153, 0, 0, 0, 117, 0, 0, 0, 116, 0, 0, 0, 119, 0, 0, 0, 74]
abbrev dktX1_run_1 : List UInt8 := dkwX1_run_1 ++ dktX1_run_2
def dkwX1_run_0 : List UInt8 := [43, 180, 0, 176, 3, 46, 61, 43, 180, 0, 179]
abbrev dktX1_run_0 : List UInt8 := dkwX1_run_0 ++ dktX1_run_1
theorem dksX1_run_0 : cX1_run.data.toList.drop 0 = dktX1_run_0 := by decide +kernel
theorem dksX1_run_1 : cX1_run.data.toList.drop 11 = dktX1_run_1 := dk_seg dksX1_run_0 11 rfl rfl
theorem dksX1_run_2 : cX1_run.data.toList.drop 52 = dktX1_run_2 := dk_seg dksX1_run_1 41 rfl rfl
theorem dksX1_run_3 : cX1_run.data.toList.drop 76 = dktX1_run_3 := dk_seg dksX1_run_2 24 rfl rfl
theorem dksX1_run_4 : cX1_run.data.toList.drop 98 = dktX1_run_4 := dk_seg dksX1_run_3 22 rfl rfl
theorem dksX1_run_5 : cX1_run.data.toList.drop 122 = dktX1_run_5 := dk_seg dksX1_run_4 24 rfl rfl
theorem dksX1_run_6 : cX1_run.data.toList.drop 144 = dktX1_run_6 := dk_seg dksX1_run_5 22 rfl rfl
theorem dksX1_run_7 : cX1_run.data.toList.drop 166 = dktX1_run_7 := dk_seg dksX1_run_6 22 rfl rfl
theorem dksX1_run_8 : cX1_run.data.toList.drop 188 = dktX1_run_8 := dk_seg dksX1_run_7 22 rfl rfl
theorem dksX1_run_9 : cX1_run.data.toList.drop 212 = dktX1_run_9 := dk_seg dksX1_run_8 24 rfl rfl
theorem dX1_run_0 : decode cX1_run 0 = .ok (.aload_n 1, 1) := dk_43 (dk_at dksX1_run_0 0 rfl rfl)
theorem dX1_run_1 : decode cX1_run 1 = .ok (.getfield 176, 3) := dk_180 0 176 (dk_at dksX1_run_0 1 rfl rfl)
theorem dX1_run_4 : decode cX1_run 4 = .ok (.iconst 0, 1) := dk_3 (dk_at dksX1_run_0 4 rfl rfl)
theorem dX1_run_5 : decode cX1_run 5 = .ok (.iaload, 1) := dk_46 (dk_at dksX1_run_0 5 rfl rfl)
theorem dX1_run_6 : decode cX1_run 6 = .ok (.istore_n 2, 1) := dk_61 (dk_at dksX1_run_0 6 rfl rfl)
theorem dX1_run_7 : decode cX1_run 7 = .ok (.aload_n 1, 1) := dk_43 (dk_at dksX1_run_0 7 rfl rfl)
theorem dX1_run_8 : decode cX1_run 8 = .ok (.getfield 179, 3) := dk_180 0 179 (dk_at dksX1_run_0 8 rfl rfl)
theorem dX1_run_11 : decode cX1_run 11 = .ok (.lookupswitch 196 #[(98, 41), (104, 153), (117, 116), (119, 74)], 41) := by decide +kernel
theorem dX1_run_52 : decode cX1_run 52 = .ok (.aload_n 0, 1) := dk_42 (dk_at dksX1_run_2 0 rfl rfl)
theorem dX1_run_53 : decode cX1_run 53 = .ok (.getfield 10, 3) := dk_180 0 10 (dk_at dksX1_run_2 1 rfl rfl)
theorem dX1_run_56 : decode cX1_run 56 = .ok (.getfield 59, 3) := dk_180 0 59 (dk_at dksX1_run_2 4 rfl rfl)
theorem dX1_run_59 : decode cX1_run 59 = .ok (.invokevirtual 63, 3) := dk_182 0 63 (dk_at dksX1_run_2 7 rfl rfl)
theorem dX1_run_62 : decode cX1_run 62 = .ok (.bipush 20, 2) := dk_16 20 (dk_at dksX1_run_2 10 rfl rfl)
theorem dX1_run_64 : decode cX1_run 64 = .ok (.if_icmp .ge 19, 3) := dk_162 0 19 (dk_at dksX1_run_2 12 rfl rfl)
theorem dX1_run_67 : decode cX1_run 67 = .ok (.aload_n 0, 1) := dk_42 (dk_at dksX1_run_2 15 rfl rfl)
theorem dX1_run_68 : decode cX1_run 68 = .ok (.getfield 10, 3) := dk_180 0 10 (dk_at dksX1_run_2 16 rfl rfl)
theorem dX1_run_71 : decode cX1_run 71 = .ok (.iload_n 2, 1) := dk_28 (dk_at dksX1_run_2 19 rfl rfl)
theorem dX1_run_72 : decode cX1_run 72 = .ok (.iconst 0, 1) := dk_3 (dk_at dksX1_run_2 20 rfl rfl)
theorem dX1_run_73 : decode cX1_run 73 = .ok (.invokevirtual 90, 3) := dk_182 0 90 (dk_at dksX1_run_2 21 rfl rfl)
theorem dX1_run_76 : decode cX1_run 76 = .ok (.ifCond .lt 7, 3) := dk_155 0 7 (dk_at dksX1_run_3 0 rfl rfl)
theorem dX1_run_79 : decode cX1_run 79 = .ok (.iconst 1, 1) := dk_4 (dk_at dksX1_run_3 3 rfl rfl)
theorem dX1_run_80 : decode cX1_run 80 = .ok (.goto 4, 3) := dk_167 0 4 (dk_at dksX1_run_3 4 rfl rfl)
theorem dX1_run_83 : decode cX1_run 83 = .ok (.iconst 0, 1) := dk_3 (dk_at dksX1_run_3 7 rfl rfl)
theorem dX1_run_84 : decode cX1_run 84 = .ok (.ireturn, 1) := dk_172 (dk_at dksX1_run_3 8 rfl rfl)
theorem dX1_run_85 : decode cX1_run 85 = .ok (.aload_n 1, 1) := dk_43 (dk_at dksX1_run_3 9 rfl rfl)
theorem dX1_run_86 : decode cX1_run 86 = .ok (.getfield 176, 3) := dk_180 0 176 (dk_at dksX1_run_3 10 rfl rfl)
theorem dX1_run_89 : decode cX1_run 89 = .ok (.iconst 1, 1) := dk_4 (dk_at dksX1_run_3 13 rfl rfl)
theorem dX1_run_90 : decode cX1_run 90 = .ok (.iaload, 1) := dk_46 (dk_at dksX1_run_3 14 rfl rfl)
theorem dX1_run_91 : decode cX1_run 91 = .ok (.aload_n 0, 1) := dk_42 (dk_at dksX1_run_3 15 rfl rfl)
theorem dX1_run_92 : decode cX1_run 92 = .ok (.getfield 10, 3) := dk_180 0 10 (dk_at dksX1_run_3 16 rfl rfl)
theorem dX1_run_95 : decode cX1_run 95 = .ok (.getfield 59, 3) := dk_180 0 59 (dk_at dksX1_run_3 19 rfl rfl)
theorem dX1_run_98 : decode cX1_run 98 = .ok (.invokevirtual 63, 3) := dk_182 0 63 (dk_at dksX1_run_4 0 rfl rfl)
theorem dX1_run_101 : decode cX1_run 101 = .ok (.if_icmp .ge 24, 3) := dk_162 0 24 (dk_at dksX1_run_4 3 rfl rfl)
theorem dX1_run_104 : decode cX1_run 104 = .ok (.aload_n 0, 1) := dk_42 (dk_at dksX1_run_4 6 rfl rfl)
theorem dX1_run_105 : decode cX1_run 105 = .ok (.getfield 10, 3) := dk_180 0 10 (dk_at dksX1_run_4 7 rfl rfl)
theorem dX1_run_108 : decode cX1_run 108 = .ok (.iload_n 2, 1) := dk_28 (dk_at dksX1_run_4 10 rfl rfl)
theorem dX1_run_109 : decode cX1_run 109 = .ok (.aload_n 1, 1) := dk_43 (dk_at dksX1_run_4 11 rfl rfl)
theorem dX1_run_110 : decode cX1_run 110 = .ok (.getfield 176, 3) := dk_180 0 176 (dk_at dksX1_run_4 12 rfl rfl)
theorem dX1_run_113 : decode cX1_run 113 = .ok (.iconst 1, 1) := dk_4 (dk_at dksX1_run_4 15 rfl rfl)
theorem dX1_run_114 : decode cX1_run 114 = .ok (.iaload, 1) := dk_46 (dk_at dksX1_run_4 16 rfl rfl)
theorem dX1_run_115 : decode cX1_run 115 = .ok (.invokevirtual 130, 3) := dk_182 0 130 (dk_at dksX1_run_4 17 rfl rfl)
theorem dX1_run_118 : decode cX1_run 118 = .ok (.ifCond .ne 7, 3) := dk_154 0 7 (dk_at dksX1_run_4 20 rfl rfl)
theorem dX1_run_121 : decode cX1_run 121 = .ok (.iconst 1, 1) := dk_4 (dk_at dksX1_run_4 23 rfl rfl)
theorem dX1_run_122 : decode cX1_run 122 = .ok (.goto 4, 3) := dk_167 0 4 (dk_at dksX1_run_5 0 rfl rfl)
theorem dX1_run_125 : decode cX1_run 125 = .ok (.iconst 0, 1) := dk_3 (dk_at dksX1_run_5 3 rfl rfl)
theorem dX1_run_126 : decode cX1_run 126 = .ok (.ireturn, 1) := dk_172 (dk_at dksX1_run_5 4 rfl rfl)
theorem dX1_run_127 : decode cX1_run 127 = .ok (.aload_n 0, 1) := dk_42 (dk_at dksX1_run_5 5 rfl rfl)
theorem dX1_run_128 : decode cX1_run 128 = .ok (.getfield 10, 3) := dk_180 0 10 (dk_at dksX1_run_5 6 rfl rfl)
theorem dX1_run_131 : decode cX1_run 131 = .ok (.getfield 133, 3) := dk_180 0 133 (dk_at dksX1_run_5 9 rfl rfl)
theorem dX1_run_134 : decode cX1_run 134 = .ok (.iload_n 2, 1) := dk_28 (dk_at dksX1_run_5 12 rfl rfl)
theorem dX1_run_135 : decode cX1_run 135 = .ok (.invokevirtual 74, 3) := dk_182 0 74 (dk_at dksX1_run_5 13 rfl rfl)
theorem dX1_run_138 : decode cX1_run 138 = .ok (.checkcast 64, 3) := dk_192 0 64 (dk_at dksX1_run_5 16 rfl rfl)
theorem dX1_run_141 : decode cX1_run 141 = .ok (.invokevirtual 136, 3) := dk_182 0 136 (dk_at dksX1_run_5 19 rfl rfl)
theorem dX1_run_144 : decode cX1_run 144 = .ok (.ifCond .ne 18, 3) := dk_154 0 18 (dk_at dksX1_run_6 0 rfl rfl)
theorem dX1_run_147 : decode cX1_run 147 = .ok (.aload_n 0, 1) := dk_42 (dk_at dksX1_run_6 3 rfl rfl)
theorem dX1_run_148 : decode cX1_run 148 = .ok (.getfield 10, 3) := dk_180 0 10 (dk_at dksX1_run_6 4 rfl rfl)
theorem dX1_run_151 : decode cX1_run 151 = .ok (.iload_n 2, 1) := dk_28 (dk_at dksX1_run_6 7 rfl rfl)
theorem dX1_run_152 : decode cX1_run 152 = .ok (.invokevirtual 139, 3) := dk_182 0 139 (dk_at dksX1_run_6 8 rfl rfl)
theorem dX1_run_155 : decode cX1_run 155 = .ok (.ifCond .lt 7, 3) := dk_155 0 7 (dk_at dksX1_run_6 11 rfl rfl)
theorem dX1_run_158 : decode cX1_run 158 = .ok (.iconst 1, 1) := dk_4 (dk_at dksX1_run_6 14 rfl rfl)
theorem dX1_run_159 : decode cX1_run 159 = .ok (.goto 4, 3) := dk_167 0 4 (dk_at dksX1_run_6 15 rfl rfl)
theorem dX1_run_162 : decode cX1_run 162 = .ok (.iconst 0, 1) := dk_3 (dk_at dksX1_run_6 18 rfl rfl)
theorem dX1_run_163 : decode cX1_run 163 = .ok (.ireturn, 1) := dk_172 (dk_at dksX1_run_6 19 rfl rfl)
theorem dX1_run_164 : decode cX1_run 164 = .ok (.iload_n 2, 1) := dk_28 (dk_at dksX1_run_6 20 rfl rfl)
theorem dX1_run_165 : decode cX1_run 165 = .ok (.aload_n 0, 1) := dk_42 (dk_at dksX1_run_6 21 rfl rfl)
theorem dX1_run_166 : decode cX1_run 166 = .ok (.getfield 10, 3) := dk_180 0 10 (dk_at dksX1_run_7 0 rfl rfl)
theorem dX1_run_169 : decode cX1_run 169 = .ok (.getfield 59, 3) := dk_180 0 59 (dk_at dksX1_run_7 3 rfl rfl)
theorem dX1_run_172 : decode cX1_run 172 = .ok (.invokevirtual 63, 3) := dk_182 0 63 (dk_at dksX1_run_7 6 rfl rfl)
theorem dX1_run_175 : decode cX1_run 175 = .ok (.if_icmp .lt 5, 3) := dk_161 0 5 (dk_at dksX1_run_7 9 rfl rfl)
theorem dX1_run_178 : decode cX1_run 178 = .ok (.iconst 0, 1) := dk_3 (dk_at dksX1_run_7 12 rfl rfl)
theorem dX1_run_179 : decode cX1_run 179 = .ok (.ireturn, 1) := dk_172 (dk_at dksX1_run_7 13 rfl rfl)
theorem dX1_run_180 : decode cX1_run 180 = .ok (.aload_n 0, 1) := dk_42 (dk_at dksX1_run_7 14 rfl rfl)
theorem dX1_run_181 : decode cX1_run 181 = .ok (.getfield 10, 3) := dk_180 0 10 (dk_at dksX1_run_7 15 rfl rfl)
theorem dX1_run_184 : decode cX1_run 184 = .ok (.getfield 59, 3) := dk_180 0 59 (dk_at dksX1_run_7 18 rfl rfl)
theorem dX1_run_187 : decode cX1_run 187 = .ok (.iload_n 2, 1) := dk_28 (dk_at dksX1_run_7 21 rfl rfl)
theorem dX1_run_188 : decode cX1_run 188 = .ok (.invokevirtual 74, 3) := dk_182 0 74 (dk_at dksX1_run_8 0 rfl rfl)
theorem dX1_run_191 : decode cX1_run 191 = .ok (.checkcast 78, 3) := dk_192 0 78 (dk_at dksX1_run_8 3 rfl rfl)
theorem dX1_run_194 : decode cX1_run 194 = .ok (.iconst 5, 1) := dk_8 (dk_at dksX1_run_8 6 rfl rfl)
theorem dX1_run_195 : decode cX1_run 195 = .ok (.aload_n 1, 1) := dk_43 (dk_at dksX1_run_8 7 rfl rfl)
theorem dX1_run_196 : decode cX1_run 196 = .ok (.getfield 176, 3) := dk_180 0 176 (dk_at dksX1_run_8 8 rfl rfl)
theorem dX1_run_199 : decode cX1_run 199 = .ok (.iconst 1, 1) := dk_4 (dk_at dksX1_run_8 11 rfl rfl)
theorem dX1_run_200 : decode cX1_run 200 = .ok (.iaload, 1) := dk_46 (dk_at dksX1_run_8 12 rfl rfl)
theorem dX1_run_201 : decode cX1_run 201 = .ok (.imul, 1) := dk_104 (dk_at dksX1_run_8 13 rfl rfl)
theorem dX1_run_202 : decode cX1_run 202 = .ok (.invokevirtual 111, 3) := dk_182 0 111 (dk_at dksX1_run_8 14 rfl rfl)
theorem dX1_run_205 : decode cX1_run 205 = .ok (.iconst 1, 1) := dk_4 (dk_at dksX1_run_8 17 rfl rfl)
theorem dX1_run_206 : decode cX1_run 206 = .ok (.ireturn, 1) := dk_172 (dk_at dksX1_run_8 18 rfl rfl)
theorem dX1_run_207 : decode cX1_run 207 = .ok (.aload_n 0, 1) := dk_42 (dk_at dksX1_run_8 19 rfl rfl)
theorem dX1_run_208 : decode cX1_run 208 = .ok (.getfield 10, 3) := dk_180 0 10 (dk_at dksX1_run_8 20 rfl rfl)
theorem dX1_run_211 : decode cX1_run 211 = .ok (.iload_n 2, 1) := dk_28 (dk_at dksX1_run_8 23 rfl rfl)
theorem dX1_run_212 : decode cX1_run 212 = .ok (.invokevirtual 119, 3) := dk_182 0 119 (dk_at dksX1_run_9 0 rfl rfl)
theorem dX1_run_215 : decode cX1_run 215 = .ok (.ifCond .lt 7, 3) := dk_155 0 7 (dk_at dksX1_run_9 3 rfl rfl)
theorem dX1_run_218 : decode cX1_run 218 = .ok (.iconst 1, 1) := dk_4 (dk_at dksX1_run_9 6 rfl rfl)
theorem dX1_run_219 : decode cX1_run 219 = .ok (.goto 4, 3) := dk_167 0 4 (dk_at dksX1_run_9 7 rfl rfl)
theorem dX1_run_222 : decode cX1_run 222 = .ok (.iconst 0, 1) := dk_3 (dk_at dksX1_run_9 10 rfl rfl)
theorem dX1_run_223 : decode cX1_run 223 = .ok (.ireturn, 1) := dk_172 (dk_at dksX1_run_9 11 rfl rfl)
abbrev cX1_undo : ByteArray := prog_1_method_24_code
def yX1_undo : MethodName := ⟨RX1, "undo", "()I"⟩
def dkwX1_undo_1 : List UInt8 := [182, 0, 184, 192, 0, 7, 181, 0, 10, 42, 180, 0, 19, 182, 0, 34, 172]
abbrev dktX1_undo_1 : List UInt8 := dkwX1_undo_1 ++ []
def dkwX1_undo_0 : List UInt8 := [42, 180, 0, 19, 182, 0, 183, 154, 0, 7, 4, 167, 0, 4, 3, 184, 0, 84, 42, 42, 180, 0, 19]
abbrev dktX1_undo_0 : List UInt8 := dkwX1_undo_0 ++ dktX1_undo_1
theorem dksX1_undo_0 : cX1_undo.data.toList.drop 0 = dktX1_undo_0 := by decide +kernel
theorem dksX1_undo_1 : cX1_undo.data.toList.drop 23 = dktX1_undo_1 := dk_seg dksX1_undo_0 23 rfl rfl
theorem dX1_undo_0 : decode cX1_undo 0 = .ok (.aload_n 0, 1) := dk_42 (dk_at dksX1_undo_0 0 rfl rfl)
theorem dX1_undo_1 : decode cX1_undo 1 = .ok (.getfield 19, 3) := dk_180 0 19 (dk_at dksX1_undo_0 1 rfl rfl)
theorem dX1_undo_4 : decode cX1_undo 4 = .ok (.invokevirtual 183, 3) := dk_182 0 183 (dk_at dksX1_undo_0 4 rfl rfl)
theorem dX1_undo_7 : decode cX1_undo 7 = .ok (.ifCond .ne 7, 3) := dk_154 0 7 (dk_at dksX1_undo_0 7 rfl rfl)
theorem dX1_undo_10 : decode cX1_undo 10 = .ok (.iconst 1, 1) := dk_4 (dk_at dksX1_undo_0 10 rfl rfl)
theorem dX1_undo_11 : decode cX1_undo 11 = .ok (.goto 4, 3) := dk_167 0 4 (dk_at dksX1_undo_0 11 rfl rfl)
theorem dX1_undo_14 : decode cX1_undo 14 = .ok (.iconst 0, 1) := dk_3 (dk_at dksX1_undo_0 14 rfl rfl)
theorem dX1_undo_15 : decode cX1_undo 15 = .ok (.invokestatic 84, 3) := dk_184 0 84 (dk_at dksX1_undo_0 15 rfl rfl)
theorem dX1_undo_18 : decode cX1_undo 18 = .ok (.aload_n 0, 1) := dk_42 (dk_at dksX1_undo_0 18 rfl rfl)
theorem dX1_undo_19 : decode cX1_undo 19 = .ok (.aload_n 0, 1) := dk_42 (dk_at dksX1_undo_0 19 rfl rfl)
theorem dX1_undo_20 : decode cX1_undo 20 = .ok (.getfield 19, 3) := dk_180 0 19 (dk_at dksX1_undo_0 20 rfl rfl)
theorem dX1_undo_23 : decode cX1_undo 23 = .ok (.invokevirtual 184, 3) := dk_182 0 184 (dk_at dksX1_undo_1 0 rfl rfl)
theorem dX1_undo_26 : decode cX1_undo 26 = .ok (.checkcast 7, 3) := dk_192 0 7 (dk_at dksX1_undo_1 3 rfl rfl)
theorem dX1_undo_29 : decode cX1_undo 29 = .ok (.putfield 10, 3) := dk_181 0 10 (dk_at dksX1_undo_1 6 rfl rfl)
theorem dX1_undo_32 : decode cX1_undo 32 = .ok (.aload_n 0, 1) := dk_42 (dk_at dksX1_undo_1 9 rfl rfl)
theorem dX1_undo_33 : decode cX1_undo 33 = .ok (.getfield 19, 3) := dk_180 0 19 (dk_at dksX1_undo_1 10 rfl rfl)
theorem dX1_undo_36 : decode cX1_undo 36 = .ok (.invokevirtual 34, 3) := dk_182 0 34 (dk_at dksX1_undo_1 13 rfl rfl)
theorem dX1_undo_39 : decode cX1_undo 39 = .ok (.ireturn, 1) := dk_172 (dk_at dksX1_undo_1 16 rfl rfl)
abbrev cX1_keep : ByteArray := prog_1_method_25_code
def yX1_keep : MethodName := ⟨RX1, "keep", "(I)I"⟩
def dkwX1_keep_1 : List UInt8 := [180, 0, 10, 180, 0, 59, 182, 0, 63, 172]
abbrev dktX1_keep_1 : List UInt8 := dkwX1_keep_1 ++ []
def dkwX1_keep_0 : List UInt8 := [27, 3, 4, 184, 0, 66, 184, 0, 81, 42, 180, 0, 23, 27, 42, 180, 0, 10, 182, 0, 42, 83, 42]
abbrev dktX1_keep_0 : List UInt8 := dkwX1_keep_0 ++ dktX1_keep_1
theorem dksX1_keep_0 : cX1_keep.data.toList.drop 0 = dktX1_keep_0 := by decide +kernel
theorem dksX1_keep_1 : cX1_keep.data.toList.drop 23 = dktX1_keep_1 := dk_seg dksX1_keep_0 23 rfl rfl
theorem dX1_keep_0 : decode cX1_keep 0 = .ok (.iload_n 1, 1) := dk_27 (dk_at dksX1_keep_0 0 rfl rfl)
theorem dX1_keep_1 : decode cX1_keep 1 = .ok (.iconst 0, 1) := dk_3 (dk_at dksX1_keep_0 1 rfl rfl)
theorem dX1_keep_2 : decode cX1_keep 2 = .ok (.iconst 1, 1) := dk_4 (dk_at dksX1_keep_0 2 rfl rfl)
theorem dX1_keep_3 : decode cX1_keep 3 = .ok (.invokestatic 66, 3) := dk_184 0 66 (dk_at dksX1_keep_0 3 rfl rfl)
theorem dX1_keep_6 : decode cX1_keep 6 = .ok (.invokestatic 81, 3) := dk_184 0 81 (dk_at dksX1_keep_0 6 rfl rfl)
theorem dX1_keep_9 : decode cX1_keep 9 = .ok (.aload_n 0, 1) := dk_42 (dk_at dksX1_keep_0 9 rfl rfl)
theorem dX1_keep_10 : decode cX1_keep 10 = .ok (.getfield 23, 3) := dk_180 0 23 (dk_at dksX1_keep_0 10 rfl rfl)
theorem dX1_keep_13 : decode cX1_keep 13 = .ok (.iload_n 1, 1) := dk_27 (dk_at dksX1_keep_0 13 rfl rfl)
theorem dX1_keep_14 : decode cX1_keep 14 = .ok (.aload_n 0, 1) := dk_42 (dk_at dksX1_keep_0 14 rfl rfl)
theorem dX1_keep_15 : decode cX1_keep 15 = .ok (.getfield 10, 3) := dk_180 0 10 (dk_at dksX1_keep_0 15 rfl rfl)
theorem dX1_keep_18 : decode cX1_keep 18 = .ok (.invokevirtual 42, 3) := dk_182 0 42 (dk_at dksX1_keep_0 18 rfl rfl)
theorem dX1_keep_21 : decode cX1_keep 21 = .ok (.aastore, 1) := dk_83 (dk_at dksX1_keep_0 21 rfl rfl)
theorem dX1_keep_22 : decode cX1_keep 22 = .ok (.aload_n 0, 1) := dk_42 (dk_at dksX1_keep_0 22 rfl rfl)
theorem dX1_keep_23 : decode cX1_keep 23 = .ok (.getfield 10, 3) := dk_180 0 10 (dk_at dksX1_keep_1 0 rfl rfl)
theorem dX1_keep_26 : decode cX1_keep 26 = .ok (.getfield 59, 3) := dk_180 0 59 (dk_at dksX1_keep_1 3 rfl rfl)
theorem dX1_keep_29 : decode cX1_keep 29 = .ok (.invokevirtual 63, 3) := dk_182 0 63 (dk_at dksX1_keep_1 6 rfl rfl)
theorem dX1_keep_32 : decode cX1_keep 32 = .ok (.ireturn, 1) := dk_172 (dk_at dksX1_keep_1 9 rfl rfl)
abbrev cX1_goBack : ByteArray := prog_1_method_26_code
def yX1_goBack : MethodName := ⟨RX1, "goBack", "(I)I"⟩
def dkwX1_goBack_2 : List UInt8 := [180, 0, 59, 182, 0, 63, 172]
abbrev dktX1_goBack_2 : List UInt8 := dkwX1_goBack_2 ++ []
def dkwX1_goBack_1 : List UInt8 := [184, 0, 84, 42, 182, 0, 87, 42, 42, 180, 0, 23, 27, 50, 182, 0, 42, 181, 0, 10, 42, 180, 0, 10]
abbrev dktX1_goBack_1 : List UInt8 := dkwX1_goBack_1 ++ dktX1_goBack_2
def dkwX1_goBack_0 : List UInt8 := [27, 3, 4, 184, 0, 66, 184, 0, 81, 42, 180, 0, 23, 27, 50, 198, 0, 7, 4, 167, 0, 4, 3]
abbrev dktX1_goBack_0 : List UInt8 := dkwX1_goBack_0 ++ dktX1_goBack_1
theorem dksX1_goBack_0 : cX1_goBack.data.toList.drop 0 = dktX1_goBack_0 := by decide +kernel
theorem dksX1_goBack_1 : cX1_goBack.data.toList.drop 23 = dktX1_goBack_1 := dk_seg dksX1_goBack_0 23 rfl rfl
theorem dksX1_goBack_2 : cX1_goBack.data.toList.drop 47 = dktX1_goBack_2 := dk_seg dksX1_goBack_1 24 rfl rfl
theorem dX1_goBack_0 : decode cX1_goBack 0 = .ok (.iload_n 1, 1) := dk_27 (dk_at dksX1_goBack_0 0 rfl rfl)
theorem dX1_goBack_1 : decode cX1_goBack 1 = .ok (.iconst 0, 1) := dk_3 (dk_at dksX1_goBack_0 1 rfl rfl)
theorem dX1_goBack_2 : decode cX1_goBack 2 = .ok (.iconst 1, 1) := dk_4 (dk_at dksX1_goBack_0 2 rfl rfl)
theorem dX1_goBack_3 : decode cX1_goBack 3 = .ok (.invokestatic 66, 3) := dk_184 0 66 (dk_at dksX1_goBack_0 3 rfl rfl)
theorem dX1_goBack_6 : decode cX1_goBack 6 = .ok (.invokestatic 81, 3) := dk_184 0 81 (dk_at dksX1_goBack_0 6 rfl rfl)
theorem dX1_goBack_9 : decode cX1_goBack 9 = .ok (.aload_n 0, 1) := dk_42 (dk_at dksX1_goBack_0 9 rfl rfl)
theorem dX1_goBack_10 : decode cX1_goBack 10 = .ok (.getfield 23, 3) := dk_180 0 23 (dk_at dksX1_goBack_0 10 rfl rfl)
theorem dX1_goBack_13 : decode cX1_goBack 13 = .ok (.iload_n 1, 1) := dk_27 (dk_at dksX1_goBack_0 13 rfl rfl)
theorem dX1_goBack_14 : decode cX1_goBack 14 = .ok (.aaload, 1) := dk_50 (dk_at dksX1_goBack_0 14 rfl rfl)
theorem dX1_goBack_15 : decode cX1_goBack 15 = .ok (.ifnull 7, 3) := dk_198 0 7 (dk_at dksX1_goBack_0 15 rfl rfl)
theorem dX1_goBack_18 : decode cX1_goBack 18 = .ok (.iconst 1, 1) := dk_4 (dk_at dksX1_goBack_0 18 rfl rfl)
theorem dX1_goBack_19 : decode cX1_goBack 19 = .ok (.goto 4, 3) := dk_167 0 4 (dk_at dksX1_goBack_0 19 rfl rfl)
theorem dX1_goBack_22 : decode cX1_goBack 22 = .ok (.iconst 0, 1) := dk_3 (dk_at dksX1_goBack_0 22 rfl rfl)
theorem dX1_goBack_23 : decode cX1_goBack 23 = .ok (.invokestatic 84, 3) := dk_184 0 84 (dk_at dksX1_goBack_1 0 rfl rfl)
theorem dX1_goBack_26 : decode cX1_goBack 26 = .ok (.aload_n 0, 1) := dk_42 (dk_at dksX1_goBack_1 3 rfl rfl)
theorem dX1_goBack_27 : decode cX1_goBack 27 = .ok (.invokevirtual 87, 3) := dk_182 0 87 (dk_at dksX1_goBack_1 4 rfl rfl)
theorem dX1_goBack_30 : decode cX1_goBack 30 = .ok (.aload_n 0, 1) := dk_42 (dk_at dksX1_goBack_1 7 rfl rfl)
theorem dX1_goBack_31 : decode cX1_goBack 31 = .ok (.aload_n 0, 1) := dk_42 (dk_at dksX1_goBack_1 8 rfl rfl)
theorem dX1_goBack_32 : decode cX1_goBack 32 = .ok (.getfield 23, 3) := dk_180 0 23 (dk_at dksX1_goBack_1 9 rfl rfl)
theorem dX1_goBack_35 : decode cX1_goBack 35 = .ok (.iload_n 1, 1) := dk_27 (dk_at dksX1_goBack_1 12 rfl rfl)
theorem dX1_goBack_36 : decode cX1_goBack 36 = .ok (.aaload, 1) := dk_50 (dk_at dksX1_goBack_1 13 rfl rfl)
theorem dX1_goBack_37 : decode cX1_goBack 37 = .ok (.invokevirtual 42, 3) := dk_182 0 42 (dk_at dksX1_goBack_1 14 rfl rfl)
theorem dX1_goBack_40 : decode cX1_goBack 40 = .ok (.putfield 10, 3) := dk_181 0 10 (dk_at dksX1_goBack_1 17 rfl rfl)
theorem dX1_goBack_43 : decode cX1_goBack 43 = .ok (.aload_n 0, 1) := dk_42 (dk_at dksX1_goBack_1 20 rfl rfl)
theorem dX1_goBack_44 : decode cX1_goBack 44 = .ok (.getfield 10, 3) := dk_180 0 10 (dk_at dksX1_goBack_1 21 rfl rfl)
theorem dX1_goBack_47 : decode cX1_goBack 47 = .ok (.getfield 59, 3) := dk_180 0 59 (dk_at dksX1_goBack_2 0 rfl rfl)
theorem dX1_goBack_50 : decode cX1_goBack 50 = .ok (.invokevirtual 63, 3) := dk_182 0 63 (dk_at dksX1_goBack_2 3 rfl rfl)
theorem dX1_goBack_53 : decode cX1_goBack 53 = .ok (.ireturn, 1) := dk_172 (dk_at dksX1_goBack_2 6 rfl rfl)
abbrev cX1_blockOf : ByteArray := prog_1_method_27_code
def yX1_blockOf : MethodName := ⟨RX1, "blockOf", "(II)I"⟩
def dkwX1_blockOf_7 : List UInt8 := [132, 5, 1, 167, 255, 186, 21, 4, 172, 45, 180, 0, 202, 172, 187, 0, 50, 89, 183, 0, 52, 191]
abbrev dktX1_blockOf_7 : List UInt8 := dkwX1_blockOf_7 ++ []
def dkwX1_blockOf_6 : List UInt8 := [182, 0, 74, 192, 0, 64, 21, 5, 182, 0, 74, 45, 166, 0, 8, 21, 5, 167, 0, 5, 21, 4, 54, 4]
abbrev dktX1_blockOf_6 : List UInt8 := dkwX1_blockOf_6 ++ dktX1_blockOf_7
def dkwX1_blockOf_5 : List UInt8 := [182, 0, 74, 192, 0, 64, 182, 0, 63, 162, 0, 44, 42, 180, 0, 10, 180, 0, 133, 45, 180, 0, 199]
abbrev dktX1_blockOf_5 : List UInt8 := dkwX1_blockOf_5 ++ dktX1_blockOf_6
def dkwX1_blockOf_4 : List UInt8 := [54, 5, 45, 182, 0, 98, 154, 0, 69, 21, 5, 42, 180, 0, 10, 180, 0, 133, 45, 180, 0, 199]
abbrev dktX1_blockOf_4 : List UInt8 := dkwX1_blockOf_4 ++ dktX1_blockOf_5
def dkwX1_blockOf_3 : List UInt8 := [45, 182, 0, 108, 172, 45, 45, 180, 0, 115, 182, 0, 196, 172, 45, 180, 0, 199, 172, 2, 54, 4, 3]
abbrev dktX1_blockOf_3 : List UInt8 := dkwX1_blockOf_3 ++ dktX1_blockOf_4
def dkwX1_blockOf_2 : List UInt8 := [45, 180, 0, 187, 172, 45, 182, 0, 190, 17, 39, 16, 96, 172, 45, 180, 0, 193, 172, 45, 180, 0, 115, 172]
abbrev dktX1_blockOf_2 : List UInt8 := dkwX1_blockOf_2 ++ dktX1_blockOf_3
def dkwX1_blockOf_1 : List UInt8 := [170, 0, 0, 0, 179, 0, 0, 0, 0, 0, 0, 0, 8, 0, 0, 0, 49, 0, 0, 0, 54, 0, 0, 0, 63, 0, 0, 0, 68, 0, 0, 0, 73, 0, 0, 0, 78, 0, 0, 0, 87, 0, 0, 0, 92, 0, 0, 0, 174]
abbrev dktX1_blockOf_1 : List UInt8 := dkwX1_blockOf_1 ++ dktX1_blockOf_2
def dkwX1_blockOf_0 : List UInt8 := [42, 27, 182, 0, 94, 78, 28]
abbrev dktX1_blockOf_0 : List UInt8 := dkwX1_blockOf_0 ++ dktX1_blockOf_1
theorem dksX1_blockOf_0 : cX1_blockOf.data.toList.drop 0 = dktX1_blockOf_0 := by decide +kernel
theorem dksX1_blockOf_1 : cX1_blockOf.data.toList.drop 7 = dktX1_blockOf_1 := dk_seg dksX1_blockOf_0 7 rfl rfl
theorem dksX1_blockOf_2 : cX1_blockOf.data.toList.drop 56 = dktX1_blockOf_2 := dk_seg dksX1_blockOf_1 49 rfl rfl
theorem dksX1_blockOf_3 : cX1_blockOf.data.toList.drop 80 = dktX1_blockOf_3 := dk_seg dksX1_blockOf_2 24 rfl rfl
theorem dksX1_blockOf_4 : cX1_blockOf.data.toList.drop 103 = dktX1_blockOf_4 := dk_seg dksX1_blockOf_3 23 rfl rfl
theorem dksX1_blockOf_5 : cX1_blockOf.data.toList.drop 125 = dktX1_blockOf_5 := dk_seg dksX1_blockOf_4 22 rfl rfl
theorem dksX1_blockOf_6 : cX1_blockOf.data.toList.drop 148 = dktX1_blockOf_6 := dk_seg dksX1_blockOf_5 23 rfl rfl
theorem dksX1_blockOf_7 : cX1_blockOf.data.toList.drop 172 = dktX1_blockOf_7 := dk_seg dksX1_blockOf_6 24 rfl rfl
theorem dX1_blockOf_0 : decode cX1_blockOf 0 = .ok (.aload_n 0, 1) := dk_42 (dk_at dksX1_blockOf_0 0 rfl rfl)
theorem dX1_blockOf_1 : decode cX1_blockOf 1 = .ok (.iload_n 1, 1) := dk_27 (dk_at dksX1_blockOf_0 1 rfl rfl)
theorem dX1_blockOf_2 : decode cX1_blockOf 2 = .ok (.invokevirtual 94, 3) := dk_182 0 94 (dk_at dksX1_blockOf_0 2 rfl rfl)
theorem dX1_blockOf_5 : decode cX1_blockOf 5 = .ok (.astore_n 3, 1) := dk_78 (dk_at dksX1_blockOf_0 5 rfl rfl)
theorem dX1_blockOf_6 : decode cX1_blockOf 6 = .ok (.iload_n 2, 1) := dk_28 (dk_at dksX1_blockOf_0 6 rfl rfl)
theorem dX1_blockOf_7 : decode cX1_blockOf 7 = .ok (.tableswitch 179 0 8 #[49, 54, 63, 68, 73, 78, 87, 92, 174], 49) := by decide +kernel
theorem dX1_blockOf_56 : decode cX1_blockOf 56 = .ok (.aload_n 3, 1) := dk_45 (dk_at dksX1_blockOf_2 0 rfl rfl)
theorem dX1_blockOf_57 : decode cX1_blockOf 57 = .ok (.getfield 187, 3) := dk_180 0 187 (dk_at dksX1_blockOf_2 1 rfl rfl)
theorem dX1_blockOf_60 : decode cX1_blockOf 60 = .ok (.ireturn, 1) := dk_172 (dk_at dksX1_blockOf_2 4 rfl rfl)
theorem dX1_blockOf_61 : decode cX1_blockOf 61 = .ok (.aload_n 3, 1) := dk_45 (dk_at dksX1_blockOf_2 5 rfl rfl)
theorem dX1_blockOf_62 : decode cX1_blockOf 62 = .ok (.invokevirtual 190, 3) := dk_182 0 190 (dk_at dksX1_blockOf_2 6 rfl rfl)
theorem dX1_blockOf_65 : decode cX1_blockOf 65 = .ok (.sipush 10000, 3) := dk_17 39 16 (dk_at dksX1_blockOf_2 9 rfl rfl)
theorem dX1_blockOf_68 : decode cX1_blockOf 68 = .ok (.iadd, 1) := dk_96 (dk_at dksX1_blockOf_2 12 rfl rfl)
theorem dX1_blockOf_69 : decode cX1_blockOf 69 = .ok (.ireturn, 1) := dk_172 (dk_at dksX1_blockOf_2 13 rfl rfl)
theorem dX1_blockOf_70 : decode cX1_blockOf 70 = .ok (.aload_n 3, 1) := dk_45 (dk_at dksX1_blockOf_2 14 rfl rfl)
theorem dX1_blockOf_71 : decode cX1_blockOf 71 = .ok (.getfield 193, 3) := dk_180 0 193 (dk_at dksX1_blockOf_2 15 rfl rfl)
theorem dX1_blockOf_74 : decode cX1_blockOf 74 = .ok (.ireturn, 1) := dk_172 (dk_at dksX1_blockOf_2 18 rfl rfl)
theorem dX1_blockOf_75 : decode cX1_blockOf 75 = .ok (.aload_n 3, 1) := dk_45 (dk_at dksX1_blockOf_2 19 rfl rfl)
theorem dX1_blockOf_76 : decode cX1_blockOf 76 = .ok (.getfield 115, 3) := dk_180 0 115 (dk_at dksX1_blockOf_2 20 rfl rfl)
theorem dX1_blockOf_79 : decode cX1_blockOf 79 = .ok (.ireturn, 1) := dk_172 (dk_at dksX1_blockOf_2 23 rfl rfl)
theorem dX1_blockOf_80 : decode cX1_blockOf 80 = .ok (.aload_n 3, 1) := dk_45 (dk_at dksX1_blockOf_3 0 rfl rfl)
theorem dX1_blockOf_81 : decode cX1_blockOf 81 = .ok (.invokevirtual 108, 3) := dk_182 0 108 (dk_at dksX1_blockOf_3 1 rfl rfl)
theorem dX1_blockOf_84 : decode cX1_blockOf 84 = .ok (.ireturn, 1) := dk_172 (dk_at dksX1_blockOf_3 4 rfl rfl)
theorem dX1_blockOf_85 : decode cX1_blockOf 85 = .ok (.aload_n 3, 1) := dk_45 (dk_at dksX1_blockOf_3 5 rfl rfl)
theorem dX1_blockOf_86 : decode cX1_blockOf 86 = .ok (.aload_n 3, 1) := dk_45 (dk_at dksX1_blockOf_3 6 rfl rfl)
theorem dX1_blockOf_87 : decode cX1_blockOf 87 = .ok (.getfield 115, 3) := dk_180 0 115 (dk_at dksX1_blockOf_3 7 rfl rfl)
theorem dX1_blockOf_90 : decode cX1_blockOf 90 = .ok (.invokevirtual 196, 3) := dk_182 0 196 (dk_at dksX1_blockOf_3 10 rfl rfl)
theorem dX1_blockOf_93 : decode cX1_blockOf 93 = .ok (.ireturn, 1) := dk_172 (dk_at dksX1_blockOf_3 13 rfl rfl)
theorem dX1_blockOf_94 : decode cX1_blockOf 94 = .ok (.aload_n 3, 1) := dk_45 (dk_at dksX1_blockOf_3 14 rfl rfl)
theorem dX1_blockOf_95 : decode cX1_blockOf 95 = .ok (.getfield 199, 3) := dk_180 0 199 (dk_at dksX1_blockOf_3 15 rfl rfl)
theorem dX1_blockOf_98 : decode cX1_blockOf 98 = .ok (.ireturn, 1) := dk_172 (dk_at dksX1_blockOf_3 18 rfl rfl)
theorem dX1_blockOf_99 : decode cX1_blockOf 99 = .ok (.iconst (-1), 1) := dk_2 (dk_at dksX1_blockOf_3 19 rfl rfl)
theorem dX1_blockOf_100 : decode cX1_blockOf 100 = .ok (.istore 4, 2) := dk_54 4 (dk_at dksX1_blockOf_3 20 rfl rfl)
theorem dX1_blockOf_102 : decode cX1_blockOf 102 = .ok (.iconst 0, 1) := dk_3 (dk_at dksX1_blockOf_3 22 rfl rfl)
theorem dX1_blockOf_103 : decode cX1_blockOf 103 = .ok (.istore 5, 2) := dk_54 5 (dk_at dksX1_blockOf_4 0 rfl rfl)
theorem dX1_blockOf_105 : decode cX1_blockOf 105 = .ok (.aload_n 3, 1) := dk_45 (dk_at dksX1_blockOf_4 2 rfl rfl)
theorem dX1_blockOf_106 : decode cX1_blockOf 106 = .ok (.invokevirtual 98, 3) := dk_182 0 98 (dk_at dksX1_blockOf_4 3 rfl rfl)
theorem dX1_blockOf_109 : decode cX1_blockOf 109 = .ok (.ifCond .ne 69, 3) := dk_154 0 69 (dk_at dksX1_blockOf_4 6 rfl rfl)
theorem dX1_blockOf_112 : decode cX1_blockOf 112 = .ok (.iload 5, 2) := dk_21 5 (dk_at dksX1_blockOf_4 9 rfl rfl)
theorem dX1_blockOf_114 : decode cX1_blockOf 114 = .ok (.aload_n 0, 1) := dk_42 (dk_at dksX1_blockOf_4 11 rfl rfl)
theorem dX1_blockOf_115 : decode cX1_blockOf 115 = .ok (.getfield 10, 3) := dk_180 0 10 (dk_at dksX1_blockOf_4 12 rfl rfl)
theorem dX1_blockOf_118 : decode cX1_blockOf 118 = .ok (.getfield 133, 3) := dk_180 0 133 (dk_at dksX1_blockOf_4 15 rfl rfl)
theorem dX1_blockOf_121 : decode cX1_blockOf 121 = .ok (.aload_n 3, 1) := dk_45 (dk_at dksX1_blockOf_4 18 rfl rfl)
theorem dX1_blockOf_122 : decode cX1_blockOf 122 = .ok (.getfield 199, 3) := dk_180 0 199 (dk_at dksX1_blockOf_4 19 rfl rfl)
theorem dX1_blockOf_125 : decode cX1_blockOf 125 = .ok (.invokevirtual 74, 3) := dk_182 0 74 (dk_at dksX1_blockOf_5 0 rfl rfl)
theorem dX1_blockOf_128 : decode cX1_blockOf 128 = .ok (.checkcast 64, 3) := dk_192 0 64 (dk_at dksX1_blockOf_5 3 rfl rfl)
theorem dX1_blockOf_131 : decode cX1_blockOf 131 = .ok (.invokevirtual 63, 3) := dk_182 0 63 (dk_at dksX1_blockOf_5 6 rfl rfl)
theorem dX1_blockOf_134 : decode cX1_blockOf 134 = .ok (.if_icmp .ge 44, 3) := dk_162 0 44 (dk_at dksX1_blockOf_5 9 rfl rfl)
theorem dX1_blockOf_137 : decode cX1_blockOf 137 = .ok (.aload_n 0, 1) := dk_42 (dk_at dksX1_blockOf_5 12 rfl rfl)
theorem dX1_blockOf_138 : decode cX1_blockOf 138 = .ok (.getfield 10, 3) := dk_180 0 10 (dk_at dksX1_blockOf_5 13 rfl rfl)
theorem dX1_blockOf_141 : decode cX1_blockOf 141 = .ok (.getfield 133, 3) := dk_180 0 133 (dk_at dksX1_blockOf_5 16 rfl rfl)
theorem dX1_blockOf_144 : decode cX1_blockOf 144 = .ok (.aload_n 3, 1) := dk_45 (dk_at dksX1_blockOf_5 19 rfl rfl)
theorem dX1_blockOf_145 : decode cX1_blockOf 145 = .ok (.getfield 199, 3) := dk_180 0 199 (dk_at dksX1_blockOf_5 20 rfl rfl)
theorem dX1_blockOf_148 : decode cX1_blockOf 148 = .ok (.invokevirtual 74, 3) := dk_182 0 74 (dk_at dksX1_blockOf_6 0 rfl rfl)
theorem dX1_blockOf_151 : decode cX1_blockOf 151 = .ok (.checkcast 64, 3) := dk_192 0 64 (dk_at dksX1_blockOf_6 3 rfl rfl)
theorem dX1_blockOf_154 : decode cX1_blockOf 154 = .ok (.iload 5, 2) := dk_21 5 (dk_at dksX1_blockOf_6 6 rfl rfl)
theorem dX1_blockOf_156 : decode cX1_blockOf 156 = .ok (.invokevirtual 74, 3) := dk_182 0 74 (dk_at dksX1_blockOf_6 8 rfl rfl)
theorem dX1_blockOf_159 : decode cX1_blockOf 159 = .ok (.aload_n 3, 1) := dk_45 (dk_at dksX1_blockOf_6 11 rfl rfl)
theorem dX1_blockOf_160 : decode cX1_blockOf 160 = .ok (.if_acmp .ne 8, 3) := dk_166 0 8 (dk_at dksX1_blockOf_6 12 rfl rfl)
theorem dX1_blockOf_163 : decode cX1_blockOf 163 = .ok (.iload 5, 2) := dk_21 5 (dk_at dksX1_blockOf_6 15 rfl rfl)
theorem dX1_blockOf_165 : decode cX1_blockOf 165 = .ok (.goto 5, 3) := dk_167 0 5 (dk_at dksX1_blockOf_6 17 rfl rfl)
theorem dX1_blockOf_168 : decode cX1_blockOf 168 = .ok (.iload 4, 2) := dk_21 4 (dk_at dksX1_blockOf_6 20 rfl rfl)
theorem dX1_blockOf_170 : decode cX1_blockOf 170 = .ok (.istore 4, 2) := dk_54 4 (dk_at dksX1_blockOf_6 22 rfl rfl)
theorem dX1_blockOf_172 : decode cX1_blockOf 172 = .ok (.iinc 5 1, 3) := dk_132 5 1 (dk_at dksX1_blockOf_7 0 rfl rfl)
theorem dX1_blockOf_175 : decode cX1_blockOf 175 = .ok (.goto (-70), 3) := dk_167 255 186 (dk_at dksX1_blockOf_7 3 rfl rfl)
theorem dX1_blockOf_178 : decode cX1_blockOf 178 = .ok (.iload 4, 2) := dk_21 4 (dk_at dksX1_blockOf_7 6 rfl rfl)
theorem dX1_blockOf_180 : decode cX1_blockOf 180 = .ok (.ireturn, 1) := dk_172 (dk_at dksX1_blockOf_7 8 rfl rfl)
theorem dX1_blockOf_181 : decode cX1_blockOf 181 = .ok (.aload_n 3, 1) := dk_45 (dk_at dksX1_blockOf_7 9 rfl rfl)
theorem dX1_blockOf_182 : decode cX1_blockOf 182 = .ok (.getfield 202, 3) := dk_180 0 202 (dk_at dksX1_blockOf_7 10 rfl rfl)
theorem dX1_blockOf_185 : decode cX1_blockOf 185 = .ok (.ireturn, 1) := dk_172 (dk_at dksX1_blockOf_7 13 rfl rfl)
theorem dX1_blockOf_186 : decode cX1_blockOf 186 = .ok (.new 50, 3) := dk_187 0 50 (dk_at dksX1_blockOf_7 14 rfl rfl)
theorem dX1_blockOf_189 : decode cX1_blockOf 189 = .ok (.dup, 1) := dk_89 (dk_at dksX1_blockOf_7 17 rfl rfl)
theorem dX1_blockOf_190 : decode cX1_blockOf 190 = .ok (.invokespecial 52, 3) := dk_183 0 52 (dk_at dksX1_blockOf_7 18 rfl rfl)
theorem dX1_blockOf_193 : decode cX1_blockOf 193 = .ok (.athrow, 1) := dk_191 (dk_at dksX1_blockOf_7 21 rfl rfl)
abbrev cX1_stackOf : ByteArray := prog_1_method_28_code
def yX1_stackOf : MethodName := ⟨RX1, "stackOf", "(II)I"⟩
def dkwX1_stackOf_6 : List UInt8 := [184, 0, 223, 172, 187, 0, 50, 89, 183, 0, 52, 191]
abbrev dktX1_stackOf_6 : List UInt8 := dkwX1_stackOf_6 ++ []
def dkwX1_stackOf_5 : List UInt8 := [42, 180, 0, 10, 27, 3, 182, 0, 207, 17, 3, 232, 42, 180, 0, 10, 27, 182, 0, 205, 104, 100]
abbrev dktX1_stackOf_5 : List UInt8 := dkwX1_stackOf_5 ++ dktX1_stackOf_6
def dkwX1_stackOf_4 : List UInt8 := [180, 0, 10, 42, 180, 0, 10, 27, 182, 0, 213, 182, 0, 216, 172, 42, 180, 0, 10, 27, 182, 0, 220, 172]
abbrev dktX1_stackOf_4 : List UInt8 := dkwX1_stackOf_4 ++ dktX1_stackOf_5
def dkwX1_stackOf_3 : List UInt8 := [182, 0, 205, 172, 42, 180, 0, 10, 27, 3, 182, 0, 207, 172, 42, 180, 0, 10, 27, 182, 0, 210, 172, 42]
abbrev dktX1_stackOf_3 : List UInt8 := dkwX1_stackOf_3 ++ dktX1_stackOf_4
def dkwX1_stackOf_2 : List UInt8 := [42, 180, 0, 10, 180, 0, 133, 27, 182, 0, 74, 192, 0, 64, 182, 0, 63, 172, 42, 180, 0, 10, 27]
abbrev dktX1_stackOf_2 : List UInt8 := dkwX1_stackOf_2 ++ dktX1_stackOf_3
def dkwX1_stackOf_1 : List UInt8 := [170, 0, 0, 0, 0, 0, 140, 0, 0, 0, 0, 0, 0, 0, 6, 0, 0, 0, 43, 0, 0, 0, 61, 0, 0, 0, 70, 0, 0, 0, 80, 0, 0, 0, 89, 0, 0, 0, 105, 0, 0, 0, 114]
abbrev dktX1_stackOf_1 : List UInt8 := dkwX1_stackOf_1 ++ dktX1_stackOf_2
def dkwX1_stackOf_0 : List UInt8 := [27, 184, 0, 127, 28]
abbrev dktX1_stackOf_0 : List UInt8 := dkwX1_stackOf_0 ++ dktX1_stackOf_1
theorem dksX1_stackOf_0 : cX1_stackOf.data.toList.drop 0 = dktX1_stackOf_0 := by decide +kernel
theorem dksX1_stackOf_1 : cX1_stackOf.data.toList.drop 5 = dktX1_stackOf_1 := dk_seg dksX1_stackOf_0 5 rfl rfl
theorem dksX1_stackOf_2 : cX1_stackOf.data.toList.drop 48 = dktX1_stackOf_2 := dk_seg dksX1_stackOf_1 43 rfl rfl
theorem dksX1_stackOf_3 : cX1_stackOf.data.toList.drop 71 = dktX1_stackOf_3 := dk_seg dksX1_stackOf_2 23 rfl rfl
theorem dksX1_stackOf_4 : cX1_stackOf.data.toList.drop 95 = dktX1_stackOf_4 := dk_seg dksX1_stackOf_3 24 rfl rfl
theorem dksX1_stackOf_5 : cX1_stackOf.data.toList.drop 119 = dktX1_stackOf_5 := dk_seg dksX1_stackOf_4 24 rfl rfl
theorem dksX1_stackOf_6 : cX1_stackOf.data.toList.drop 141 = dktX1_stackOf_6 := dk_seg dksX1_stackOf_5 22 rfl rfl
theorem dX1_stackOf_0 : decode cX1_stackOf 0 = .ok (.iload_n 1, 1) := dk_27 (dk_at dksX1_stackOf_0 0 rfl rfl)
theorem dX1_stackOf_1 : decode cX1_stackOf 1 = .ok (.invokestatic 127, 3) := dk_184 0 127 (dk_at dksX1_stackOf_0 1 rfl rfl)
theorem dX1_stackOf_4 : decode cX1_stackOf 4 = .ok (.iload_n 2, 1) := dk_28 (dk_at dksX1_stackOf_0 4 rfl rfl)
theorem dX1_stackOf_5 : decode cX1_stackOf 5 = .ok (.tableswitch 140 0 6 #[43, 61, 70, 80, 89, 105, 114], 43) := by decide +kernel
theorem dX1_stackOf_48 : decode cX1_stackOf 48 = .ok (.aload_n 0, 1) := dk_42 (dk_at dksX1_stackOf_2 0 rfl rfl)
theorem dX1_stackOf_49 : decode cX1_stackOf 49 = .ok (.getfield 10, 3) := dk_180 0 10 (dk_at dksX1_stackOf_2 1 rfl rfl)
theorem dX1_stackOf_52 : decode cX1_stackOf 52 = .ok (.getfield 133, 3) := dk_180 0 133 (dk_at dksX1_stackOf_2 4 rfl rfl)
theorem dX1_stackOf_55 : decode cX1_stackOf 55 = .ok (.iload_n 1, 1) := dk_27 (dk_at dksX1_stackOf_2 7 rfl rfl)
theorem dX1_stackOf_56 : decode cX1_stackOf 56 = .ok (.invokevirtual 74, 3) := dk_182 0 74 (dk_at dksX1_stackOf_2 8 rfl rfl)
theorem dX1_stackOf_59 : decode cX1_stackOf 59 = .ok (.checkcast 64, 3) := dk_192 0 64 (dk_at dksX1_stackOf_2 11 rfl rfl)
theorem dX1_stackOf_62 : decode cX1_stackOf 62 = .ok (.invokevirtual 63, 3) := dk_182 0 63 (dk_at dksX1_stackOf_2 14 rfl rfl)
theorem dX1_stackOf_65 : decode cX1_stackOf 65 = .ok (.ireturn, 1) := dk_172 (dk_at dksX1_stackOf_2 17 rfl rfl)
theorem dX1_stackOf_66 : decode cX1_stackOf 66 = .ok (.aload_n 0, 1) := dk_42 (dk_at dksX1_stackOf_2 18 rfl rfl)
theorem dX1_stackOf_67 : decode cX1_stackOf 67 = .ok (.getfield 10, 3) := dk_180 0 10 (dk_at dksX1_stackOf_2 19 rfl rfl)
theorem dX1_stackOf_70 : decode cX1_stackOf 70 = .ok (.iload_n 1, 1) := dk_27 (dk_at dksX1_stackOf_2 22 rfl rfl)
theorem dX1_stackOf_71 : decode cX1_stackOf 71 = .ok (.invokevirtual 205, 3) := dk_182 0 205 (dk_at dksX1_stackOf_3 0 rfl rfl)
theorem dX1_stackOf_74 : decode cX1_stackOf 74 = .ok (.ireturn, 1) := dk_172 (dk_at dksX1_stackOf_3 3 rfl rfl)
theorem dX1_stackOf_75 : decode cX1_stackOf 75 = .ok (.aload_n 0, 1) := dk_42 (dk_at dksX1_stackOf_3 4 rfl rfl)
theorem dX1_stackOf_76 : decode cX1_stackOf 76 = .ok (.getfield 10, 3) := dk_180 0 10 (dk_at dksX1_stackOf_3 5 rfl rfl)
theorem dX1_stackOf_79 : decode cX1_stackOf 79 = .ok (.iload_n 1, 1) := dk_27 (dk_at dksX1_stackOf_3 8 rfl rfl)
theorem dX1_stackOf_80 : decode cX1_stackOf 80 = .ok (.iconst 0, 1) := dk_3 (dk_at dksX1_stackOf_3 9 rfl rfl)
theorem dX1_stackOf_81 : decode cX1_stackOf 81 = .ok (.invokevirtual 207, 3) := dk_182 0 207 (dk_at dksX1_stackOf_3 10 rfl rfl)
theorem dX1_stackOf_84 : decode cX1_stackOf 84 = .ok (.ireturn, 1) := dk_172 (dk_at dksX1_stackOf_3 13 rfl rfl)
theorem dX1_stackOf_85 : decode cX1_stackOf 85 = .ok (.aload_n 0, 1) := dk_42 (dk_at dksX1_stackOf_3 14 rfl rfl)
theorem dX1_stackOf_86 : decode cX1_stackOf 86 = .ok (.getfield 10, 3) := dk_180 0 10 (dk_at dksX1_stackOf_3 15 rfl rfl)
theorem dX1_stackOf_89 : decode cX1_stackOf 89 = .ok (.iload_n 1, 1) := dk_27 (dk_at dksX1_stackOf_3 18 rfl rfl)
theorem dX1_stackOf_90 : decode cX1_stackOf 90 = .ok (.invokevirtual 210, 3) := dk_182 0 210 (dk_at dksX1_stackOf_3 19 rfl rfl)
theorem dX1_stackOf_93 : decode cX1_stackOf 93 = .ok (.ireturn, 1) := dk_172 (dk_at dksX1_stackOf_3 22 rfl rfl)
theorem dX1_stackOf_94 : decode cX1_stackOf 94 = .ok (.aload_n 0, 1) := dk_42 (dk_at dksX1_stackOf_3 23 rfl rfl)
theorem dX1_stackOf_95 : decode cX1_stackOf 95 = .ok (.getfield 10, 3) := dk_180 0 10 (dk_at dksX1_stackOf_4 0 rfl rfl)
theorem dX1_stackOf_98 : decode cX1_stackOf 98 = .ok (.aload_n 0, 1) := dk_42 (dk_at dksX1_stackOf_4 3 rfl rfl)
theorem dX1_stackOf_99 : decode cX1_stackOf 99 = .ok (.getfield 10, 3) := dk_180 0 10 (dk_at dksX1_stackOf_4 4 rfl rfl)
theorem dX1_stackOf_102 : decode cX1_stackOf 102 = .ok (.iload_n 1, 1) := dk_27 (dk_at dksX1_stackOf_4 7 rfl rfl)
theorem dX1_stackOf_103 : decode cX1_stackOf 103 = .ok (.invokevirtual 213, 3) := dk_182 0 213 (dk_at dksX1_stackOf_4 8 rfl rfl)
theorem dX1_stackOf_106 : decode cX1_stackOf 106 = .ok (.invokevirtual 216, 3) := dk_182 0 216 (dk_at dksX1_stackOf_4 11 rfl rfl)
theorem dX1_stackOf_109 : decode cX1_stackOf 109 = .ok (.ireturn, 1) := dk_172 (dk_at dksX1_stackOf_4 14 rfl rfl)
theorem dX1_stackOf_110 : decode cX1_stackOf 110 = .ok (.aload_n 0, 1) := dk_42 (dk_at dksX1_stackOf_4 15 rfl rfl)
theorem dX1_stackOf_111 : decode cX1_stackOf 111 = .ok (.getfield 10, 3) := dk_180 0 10 (dk_at dksX1_stackOf_4 16 rfl rfl)
theorem dX1_stackOf_114 : decode cX1_stackOf 114 = .ok (.iload_n 1, 1) := dk_27 (dk_at dksX1_stackOf_4 19 rfl rfl)
theorem dX1_stackOf_115 : decode cX1_stackOf 115 = .ok (.invokevirtual 220, 3) := dk_182 0 220 (dk_at dksX1_stackOf_4 20 rfl rfl)
theorem dX1_stackOf_118 : decode cX1_stackOf 118 = .ok (.ireturn, 1) := dk_172 (dk_at dksX1_stackOf_4 23 rfl rfl)
theorem dX1_stackOf_119 : decode cX1_stackOf 119 = .ok (.aload_n 0, 1) := dk_42 (dk_at dksX1_stackOf_5 0 rfl rfl)
theorem dX1_stackOf_120 : decode cX1_stackOf 120 = .ok (.getfield 10, 3) := dk_180 0 10 (dk_at dksX1_stackOf_5 1 rfl rfl)
theorem dX1_stackOf_123 : decode cX1_stackOf 123 = .ok (.iload_n 1, 1) := dk_27 (dk_at dksX1_stackOf_5 4 rfl rfl)
theorem dX1_stackOf_124 : decode cX1_stackOf 124 = .ok (.iconst 0, 1) := dk_3 (dk_at dksX1_stackOf_5 5 rfl rfl)
theorem dX1_stackOf_125 : decode cX1_stackOf 125 = .ok (.invokevirtual 207, 3) := dk_182 0 207 (dk_at dksX1_stackOf_5 6 rfl rfl)
theorem dX1_stackOf_128 : decode cX1_stackOf 128 = .ok (.sipush 1000, 3) := dk_17 3 232 (dk_at dksX1_stackOf_5 9 rfl rfl)
theorem dX1_stackOf_131 : decode cX1_stackOf 131 = .ok (.aload_n 0, 1) := dk_42 (dk_at dksX1_stackOf_5 12 rfl rfl)
theorem dX1_stackOf_132 : decode cX1_stackOf 132 = .ok (.getfield 10, 3) := dk_180 0 10 (dk_at dksX1_stackOf_5 13 rfl rfl)
theorem dX1_stackOf_135 : decode cX1_stackOf 135 = .ok (.iload_n 1, 1) := dk_27 (dk_at dksX1_stackOf_5 16 rfl rfl)
theorem dX1_stackOf_136 : decode cX1_stackOf 136 = .ok (.invokevirtual 205, 3) := dk_182 0 205 (dk_at dksX1_stackOf_5 17 rfl rfl)
theorem dX1_stackOf_139 : decode cX1_stackOf 139 = .ok (.imul, 1) := dk_104 (dk_at dksX1_stackOf_5 20 rfl rfl)
theorem dX1_stackOf_140 : decode cX1_stackOf 140 = .ok (.isub, 1) := dk_100 (dk_at dksX1_stackOf_5 21 rfl rfl)
theorem dX1_stackOf_141 : decode cX1_stackOf 141 = .ok (.invokestatic 223, 3) := dk_184 0 223 (dk_at dksX1_stackOf_6 0 rfl rfl)
theorem dX1_stackOf_144 : decode cX1_stackOf 144 = .ok (.ireturn, 1) := dk_172 (dk_at dksX1_stackOf_6 3 rfl rfl)
theorem dX1_stackOf_145 : decode cX1_stackOf 145 = .ok (.new 50, 3) := dk_187 0 50 (dk_at dksX1_stackOf_6 4 rfl rfl)
theorem dX1_stackOf_148 : decode cX1_stackOf 148 = .ok (.dup, 1) := dk_89 (dk_at dksX1_stackOf_6 7 rfl rfl)
theorem dX1_stackOf_149 : decode cX1_stackOf 149 = .ok (.invokespecial 52, 3) := dk_183 0 52 (dk_at dksX1_stackOf_6 8 rfl rfl)
theorem dX1_stackOf_152 : decode cX1_stackOf 152 = .ok (.athrow, 1) := dk_191 (dk_at dksX1_stackOf_6 11 rfl rfl)
abbrev cX1_ranked : ByteArray := prog_1_method_29_code
def yX1_ranked : MethodName := ⟨RX1, "ranked", "(II)I"⟩
def dkwX1_ranked_1 : List UInt8 := [180, 0, 10, 27, 28, 182, 0, 228, 172]
abbrev dktX1_ranked_1 : List UInt8 := dkwX1_ranked_1 ++ []
def dkwX1_ranked_0 : List UInt8 := [27, 3, 5, 184, 0, 66, 153, 0, 11, 28, 155, 0, 7, 4, 167, 0, 4, 3, 184, 0, 81, 42]
abbrev dktX1_ranked_0 : List UInt8 := dkwX1_ranked_0 ++ dktX1_ranked_1
theorem dksX1_ranked_0 : cX1_ranked.data.toList.drop 0 = dktX1_ranked_0 := by decide +kernel
theorem dksX1_ranked_1 : cX1_ranked.data.toList.drop 22 = dktX1_ranked_1 := dk_seg dksX1_ranked_0 22 rfl rfl
theorem dX1_ranked_0 : decode cX1_ranked 0 = .ok (.iload_n 1, 1) := dk_27 (dk_at dksX1_ranked_0 0 rfl rfl)
theorem dX1_ranked_1 : decode cX1_ranked 1 = .ok (.iconst 0, 1) := dk_3 (dk_at dksX1_ranked_0 1 rfl rfl)
theorem dX1_ranked_2 : decode cX1_ranked 2 = .ok (.iconst 2, 1) := dk_5 (dk_at dksX1_ranked_0 2 rfl rfl)
theorem dX1_ranked_3 : decode cX1_ranked 3 = .ok (.invokestatic 66, 3) := dk_184 0 66 (dk_at dksX1_ranked_0 3 rfl rfl)
theorem dX1_ranked_6 : decode cX1_ranked 6 = .ok (.ifCond .eq 11, 3) := dk_153 0 11 (dk_at dksX1_ranked_0 6 rfl rfl)
theorem dX1_ranked_9 : decode cX1_ranked 9 = .ok (.iload_n 2, 1) := dk_28 (dk_at dksX1_ranked_0 9 rfl rfl)
theorem dX1_ranked_10 : decode cX1_ranked 10 = .ok (.ifCond .lt 7, 3) := dk_155 0 7 (dk_at dksX1_ranked_0 10 rfl rfl)
theorem dX1_ranked_13 : decode cX1_ranked 13 = .ok (.iconst 1, 1) := dk_4 (dk_at dksX1_ranked_0 13 rfl rfl)
theorem dX1_ranked_14 : decode cX1_ranked 14 = .ok (.goto 4, 3) := dk_167 0 4 (dk_at dksX1_ranked_0 14 rfl rfl)
theorem dX1_ranked_17 : decode cX1_ranked 17 = .ok (.iconst 0, 1) := dk_3 (dk_at dksX1_ranked_0 17 rfl rfl)
theorem dX1_ranked_18 : decode cX1_ranked 18 = .ok (.invokestatic 81, 3) := dk_184 0 81 (dk_at dksX1_ranked_0 18 rfl rfl)
theorem dX1_ranked_21 : decode cX1_ranked 21 = .ok (.aload_n 0, 1) := dk_42 (dk_at dksX1_ranked_0 21 rfl rfl)
theorem dX1_ranked_22 : decode cX1_ranked 22 = .ok (.getfield 10, 3) := dk_180 0 10 (dk_at dksX1_ranked_1 0 rfl rfl)
theorem dX1_ranked_25 : decode cX1_ranked 25 = .ok (.iload_n 1, 1) := dk_27 (dk_at dksX1_ranked_1 3 rfl rfl)
theorem dX1_ranked_26 : decode cX1_ranked 26 = .ok (.iload_n 2, 1) := dk_28 (dk_at dksX1_ranked_1 4 rfl rfl)
theorem dX1_ranked_27 : decode cX1_ranked 27 = .ok (.invokevirtual 228, 3) := dk_182 0 228 (dk_at dksX1_ranked_1 5 rfl rfl)
theorem dX1_ranked_30 : decode cX1_ranked 30 = .ok (.ireturn, 1) := dk_172 (dk_at dksX1_ranked_1 8 rfl rfl)
abbrev cX1_lengths : ByteArray := prog_1_method_30_code
def yX1_lengths : MethodName := ⟨RX1, "lengths", "(I)I"⟩
def dkwX1_lengths_3 : List UInt8 := [27, 160, 0, 6, 21, 5, 172, 132, 3, 1, 167, 255, 220, 2, 172]
abbrev dktX1_lengths_3 : List UInt8 := dkwX1_lengths_3 ++ []
def dkwX1_lengths_2 : List UInt8 := [185, 0, 248, 1, 0, 153, 0, 32, 25, 4, 185, 0, 253, 1, 0, 192, 1, 0, 182, 1, 2, 54, 5, 29]
abbrev dktX1_lengths_2 : List UInt8 := dkwX1_lengths_2 ++ dktX1_lengths_3
def dkwX1_lengths_1 : List UInt8 := [160, 0, 8, 44, 182, 0, 235, 172, 3, 62, 44, 182, 0, 238, 185, 0, 242, 1, 0, 58, 4, 25, 4]
abbrev dktX1_lengths_1 : List UInt8 := dkwX1_lengths_1 ++ dktX1_lengths_2
def dkwX1_lengths_0 : List UInt8 := [27, 2, 161, 0, 7, 4, 167, 0, 4, 3, 184, 0, 81, 42, 180, 0, 10, 182, 0, 231, 77, 27, 2]
abbrev dktX1_lengths_0 : List UInt8 := dkwX1_lengths_0 ++ dktX1_lengths_1
theorem dksX1_lengths_0 : cX1_lengths.data.toList.drop 0 = dktX1_lengths_0 := by decide +kernel
theorem dksX1_lengths_1 : cX1_lengths.data.toList.drop 23 = dktX1_lengths_1 := dk_seg dksX1_lengths_0 23 rfl rfl
theorem dksX1_lengths_2 : cX1_lengths.data.toList.drop 46 = dktX1_lengths_2 := dk_seg dksX1_lengths_1 23 rfl rfl
theorem dksX1_lengths_3 : cX1_lengths.data.toList.drop 70 = dktX1_lengths_3 := dk_seg dksX1_lengths_2 24 rfl rfl
theorem dX1_lengths_0 : decode cX1_lengths 0 = .ok (.iload_n 1, 1) := dk_27 (dk_at dksX1_lengths_0 0 rfl rfl)
theorem dX1_lengths_1 : decode cX1_lengths 1 = .ok (.iconst (-1), 1) := dk_2 (dk_at dksX1_lengths_0 1 rfl rfl)
theorem dX1_lengths_2 : decode cX1_lengths 2 = .ok (.if_icmp .lt 7, 3) := dk_161 0 7 (dk_at dksX1_lengths_0 2 rfl rfl)
theorem dX1_lengths_5 : decode cX1_lengths 5 = .ok (.iconst 1, 1) := dk_4 (dk_at dksX1_lengths_0 5 rfl rfl)
theorem dX1_lengths_6 : decode cX1_lengths 6 = .ok (.goto 4, 3) := dk_167 0 4 (dk_at dksX1_lengths_0 6 rfl rfl)
theorem dX1_lengths_9 : decode cX1_lengths 9 = .ok (.iconst 0, 1) := dk_3 (dk_at dksX1_lengths_0 9 rfl rfl)
theorem dX1_lengths_10 : decode cX1_lengths 10 = .ok (.invokestatic 81, 3) := dk_184 0 81 (dk_at dksX1_lengths_0 10 rfl rfl)
theorem dX1_lengths_13 : decode cX1_lengths 13 = .ok (.aload_n 0, 1) := dk_42 (dk_at dksX1_lengths_0 13 rfl rfl)
theorem dX1_lengths_14 : decode cX1_lengths 14 = .ok (.getfield 10, 3) := dk_180 0 10 (dk_at dksX1_lengths_0 14 rfl rfl)
theorem dX1_lengths_17 : decode cX1_lengths 17 = .ok (.invokevirtual 231, 3) := dk_182 0 231 (dk_at dksX1_lengths_0 17 rfl rfl)
theorem dX1_lengths_20 : decode cX1_lengths 20 = .ok (.astore_n 2, 1) := dk_77 (dk_at dksX1_lengths_0 20 rfl rfl)
theorem dX1_lengths_21 : decode cX1_lengths 21 = .ok (.iload_n 1, 1) := dk_27 (dk_at dksX1_lengths_0 21 rfl rfl)
theorem dX1_lengths_22 : decode cX1_lengths 22 = .ok (.iconst (-1), 1) := dk_2 (dk_at dksX1_lengths_0 22 rfl rfl)
theorem dX1_lengths_23 : decode cX1_lengths 23 = .ok (.if_icmp .ne 8, 3) := dk_160 0 8 (dk_at dksX1_lengths_1 0 rfl rfl)
theorem dX1_lengths_26 : decode cX1_lengths 26 = .ok (.aload_n 2, 1) := dk_44 (dk_at dksX1_lengths_1 3 rfl rfl)
theorem dX1_lengths_27 : decode cX1_lengths 27 = .ok (.invokevirtual 235, 3) := dk_182 0 235 (dk_at dksX1_lengths_1 4 rfl rfl)
theorem dX1_lengths_30 : decode cX1_lengths 30 = .ok (.ireturn, 1) := dk_172 (dk_at dksX1_lengths_1 7 rfl rfl)
theorem dX1_lengths_31 : decode cX1_lengths 31 = .ok (.iconst 0, 1) := dk_3 (dk_at dksX1_lengths_1 8 rfl rfl)
theorem dX1_lengths_32 : decode cX1_lengths 32 = .ok (.istore_n 3, 1) := dk_62 (dk_at dksX1_lengths_1 9 rfl rfl)
theorem dX1_lengths_33 : decode cX1_lengths 33 = .ok (.aload_n 2, 1) := dk_44 (dk_at dksX1_lengths_1 10 rfl rfl)
theorem dX1_lengths_34 : decode cX1_lengths 34 = .ok (.invokevirtual 238, 3) := dk_182 0 238 (dk_at dksX1_lengths_1 11 rfl rfl)
theorem dX1_lengths_37 : decode cX1_lengths 37 = .ok (.invokeinterface 242 1, 5) := by decide +kernel
theorem dX1_lengths_42 : decode cX1_lengths 42 = .ok (.astore 4, 2) := dk_58 4 (dk_at dksX1_lengths_1 19 rfl rfl)
theorem dX1_lengths_44 : decode cX1_lengths 44 = .ok (.aload 4, 2) := dk_25 4 (dk_at dksX1_lengths_1 21 rfl rfl)
theorem dX1_lengths_46 : decode cX1_lengths 46 = .ok (.invokeinterface 248 1, 5) := by decide +kernel
theorem dX1_lengths_51 : decode cX1_lengths 51 = .ok (.ifCond .eq 32, 3) := dk_153 0 32 (dk_at dksX1_lengths_2 5 rfl rfl)
theorem dX1_lengths_54 : decode cX1_lengths 54 = .ok (.aload 4, 2) := dk_25 4 (dk_at dksX1_lengths_2 8 rfl rfl)
theorem dX1_lengths_56 : decode cX1_lengths 56 = .ok (.invokeinterface 253 1, 5) := by decide +kernel
theorem dX1_lengths_61 : decode cX1_lengths 61 = .ok (.checkcast 256, 3) := dk_192 1 0 (dk_at dksX1_lengths_2 15 rfl rfl)
theorem dX1_lengths_64 : decode cX1_lengths 64 = .ok (.invokevirtual 258, 3) := dk_182 1 2 (dk_at dksX1_lengths_2 18 rfl rfl)
theorem dX1_lengths_67 : decode cX1_lengths 67 = .ok (.istore 5, 2) := dk_54 5 (dk_at dksX1_lengths_2 21 rfl rfl)
theorem dX1_lengths_69 : decode cX1_lengths 69 = .ok (.iload_n 3, 1) := dk_29 (dk_at dksX1_lengths_2 23 rfl rfl)
theorem dX1_lengths_70 : decode cX1_lengths 70 = .ok (.iload_n 1, 1) := dk_27 (dk_at dksX1_lengths_3 0 rfl rfl)
theorem dX1_lengths_71 : decode cX1_lengths 71 = .ok (.if_icmp .ne 6, 3) := dk_160 0 6 (dk_at dksX1_lengths_3 1 rfl rfl)
theorem dX1_lengths_74 : decode cX1_lengths 74 = .ok (.iload 5, 2) := dk_21 5 (dk_at dksX1_lengths_3 4 rfl rfl)
theorem dX1_lengths_76 : decode cX1_lengths 76 = .ok (.ireturn, 1) := dk_172 (dk_at dksX1_lengths_3 6 rfl rfl)
theorem dX1_lengths_77 : decode cX1_lengths 77 = .ok (.iinc 3 1, 3) := dk_132 3 1 (dk_at dksX1_lengths_3 7 rfl rfl)
theorem dX1_lengths_80 : decode cX1_lengths 80 = .ok (.goto (-36), 3) := dk_167 255 220 (dk_at dksX1_lengths_3 10 rfl rfl)
theorem dX1_lengths_83 : decode cX1_lengths 83 = .ok (.iconst (-1), 1) := dk_2 (dk_at dksX1_lengths_3 13 rfl rfl)
theorem dX1_lengths_84 : decode cX1_lengths 84 = .ok (.ireturn, 1) := dk_172 (dk_at dksX1_lengths_3 14 rfl rfl)
abbrev cX1_count : ByteArray := prog_1_method_31_code
def yX1_count : MethodName := ⟨RX1, "count", "(I)I"⟩
def dkwX1_count_9 : List UInt8 := [182, 0, 34, 172, 42, 180, 0, 30, 182, 0, 146, 172, 187, 0, 50, 89, 183, 0, 52, 191]
abbrev dktX1_count_9 : List UInt8 := dkwX1_count_9 ++ []
def dkwX1_count_8 : List UInt8 := [160, 0, 9, 4, 29, 120, 167, 0, 4, 3, 128, 61, 132, 3, 1, 167, 255, 208, 28, 172, 42, 180, 0, 19]
abbrev dktX1_count_8 : List UInt8 := dkwX1_count_8 ++ dktX1_count_9
def dkwX1_count_7 : List UInt8 := [162, 0, 40, 28, 42, 180, 0, 10, 180, 0, 59, 29, 182, 0, 74, 192, 0, 78, 182, 0, 108, 6]
abbrev dktX1_count_7 : List UInt8 := dkwX1_count_7 ++ dktX1_count_8
def dkwX1_count_6 : List UInt8 := [180, 0, 10, 180, 1, 16, 172, 3, 61, 3, 62, 29, 42, 180, 0, 10, 180, 0, 59, 182, 0, 63]
abbrev dktX1_count_6 : List UInt8 := dkwX1_count_6 ++ dktX1_count_7
def dkwX1_count_5 : List UInt8 := [185, 0, 253, 1, 0, 192, 0, 78, 58, 4, 28, 25, 4, 180, 0, 193, 96, 61, 167, 255, 228, 28, 172, 42]
abbrev dktX1_count_5 : List UInt8 := dkwX1_count_5 ++ dktX1_count_6
def dkwX1_count_4 : List UInt8 := [180, 0, 10, 180, 0, 59, 182, 1, 15, 78, 45, 185, 0, 248, 1, 0, 153, 0, 25, 45]
abbrev dktX1_count_4 : List UInt8 := dkwX1_count_4 ++ dktX1_count_5
def dkwX1_count_3 : List UInt8 := [180, 1, 8, 172, 42, 180, 0, 10, 180, 1, 11, 172, 42, 180, 0, 10, 180, 1, 12, 172, 3, 61, 42]
abbrev dktX1_count_3 : List UInt8 := dkwX1_count_3 ++ dktX1_count_4
def dkwX1_count_2 : List UInt8 := [42, 180, 0, 10, 180, 0, 59, 182, 0, 63, 172, 42, 180, 0, 10, 182, 1, 5, 172, 42, 180, 0, 10]
abbrev dktX1_count_2 : List UInt8 := dkwX1_count_2 ++ dktX1_count_3
def dkwX1_count_1 : List UInt8 := [170, 0, 0, 0, 0, 0, 225, 0, 0, 0, 0, 0, 0, 0, 9, 0, 0, 0, 55, 0, 0, 0, 66, 0, 0, 0, 74, 0, 0, 0, 82, 0, 0, 0, 90, 0, 0, 0, 98, 0, 0, 0, 144, 0, 0, 0, 152, 0, 0, 0, 209, 0, 0, 0, 217]
abbrev dktX1_count_1 : List UInt8 := dkwX1_count_1 ++ dktX1_count_2
def dkwX1_count_0 : List UInt8 := [27]
abbrev dktX1_count_0 : List UInt8 := dkwX1_count_0 ++ dktX1_count_1
theorem dksX1_count_0 : cX1_count.data.toList.drop 0 = dktX1_count_0 := by decide +kernel
theorem dksX1_count_1 : cX1_count.data.toList.drop 1 = dktX1_count_1 := dk_seg dksX1_count_0 1 rfl rfl
theorem dksX1_count_2 : cX1_count.data.toList.drop 56 = dktX1_count_2 := dk_seg dksX1_count_1 55 rfl rfl
theorem dksX1_count_3 : cX1_count.data.toList.drop 79 = dktX1_count_3 := dk_seg dksX1_count_2 23 rfl rfl
theorem dksX1_count_4 : cX1_count.data.toList.drop 102 = dktX1_count_4 := dk_seg dksX1_count_3 23 rfl rfl
theorem dksX1_count_5 : cX1_count.data.toList.drop 122 = dktX1_count_5 := dk_seg dksX1_count_4 20 rfl rfl
theorem dksX1_count_6 : cX1_count.data.toList.drop 146 = dktX1_count_6 := dk_seg dksX1_count_5 24 rfl rfl
theorem dksX1_count_7 : cX1_count.data.toList.drop 168 = dktX1_count_7 := dk_seg dksX1_count_6 22 rfl rfl
theorem dksX1_count_8 : cX1_count.data.toList.drop 190 = dktX1_count_8 := dk_seg dksX1_count_7 22 rfl rfl
theorem dksX1_count_9 : cX1_count.data.toList.drop 214 = dktX1_count_9 := dk_seg dksX1_count_8 24 rfl rfl
theorem dX1_count_0 : decode cX1_count 0 = .ok (.iload_n 1, 1) := dk_27 (dk_at dksX1_count_0 0 rfl rfl)
theorem dX1_count_1 : decode cX1_count 1 = .ok (.tableswitch 225 0 9 #[55, 66, 74, 82, 90, 98, 144, 152, 209, 217], 55) := by decide +kernel
theorem dX1_count_56 : decode cX1_count 56 = .ok (.aload_n 0, 1) := dk_42 (dk_at dksX1_count_2 0 rfl rfl)
theorem dX1_count_57 : decode cX1_count 57 = .ok (.getfield 10, 3) := dk_180 0 10 (dk_at dksX1_count_2 1 rfl rfl)
theorem dX1_count_60 : decode cX1_count 60 = .ok (.getfield 59, 3) := dk_180 0 59 (dk_at dksX1_count_2 4 rfl rfl)
theorem dX1_count_63 : decode cX1_count 63 = .ok (.invokevirtual 63, 3) := dk_182 0 63 (dk_at dksX1_count_2 7 rfl rfl)
theorem dX1_count_66 : decode cX1_count 66 = .ok (.ireturn, 1) := dk_172 (dk_at dksX1_count_2 10 rfl rfl)
theorem dX1_count_67 : decode cX1_count 67 = .ok (.aload_n 0, 1) := dk_42 (dk_at dksX1_count_2 11 rfl rfl)
theorem dX1_count_68 : decode cX1_count 68 = .ok (.getfield 10, 3) := dk_180 0 10 (dk_at dksX1_count_2 12 rfl rfl)
theorem dX1_count_71 : decode cX1_count 71 = .ok (.invokevirtual 261, 3) := dk_182 1 5 (dk_at dksX1_count_2 15 rfl rfl)
theorem dX1_count_74 : decode cX1_count 74 = .ok (.ireturn, 1) := dk_172 (dk_at dksX1_count_2 18 rfl rfl)
theorem dX1_count_75 : decode cX1_count 75 = .ok (.aload_n 0, 1) := dk_42 (dk_at dksX1_count_2 19 rfl rfl)
theorem dX1_count_76 : decode cX1_count 76 = .ok (.getfield 10, 3) := dk_180 0 10 (dk_at dksX1_count_2 20 rfl rfl)
theorem dX1_count_79 : decode cX1_count 79 = .ok (.getfield 264, 3) := dk_180 1 8 (dk_at dksX1_count_3 0 rfl rfl)
theorem dX1_count_82 : decode cX1_count 82 = .ok (.ireturn, 1) := dk_172 (dk_at dksX1_count_3 3 rfl rfl)
theorem dX1_count_83 : decode cX1_count 83 = .ok (.aload_n 0, 1) := dk_42 (dk_at dksX1_count_3 4 rfl rfl)
theorem dX1_count_84 : decode cX1_count 84 = .ok (.getfield 10, 3) := dk_180 0 10 (dk_at dksX1_count_3 5 rfl rfl)
theorem dX1_count_87 : decode cX1_count 87 = .ok (.getfield 267, 3) := dk_180 1 11 (dk_at dksX1_count_3 8 rfl rfl)
theorem dX1_count_90 : decode cX1_count 90 = .ok (.ireturn, 1) := dk_172 (dk_at dksX1_count_3 11 rfl rfl)
theorem dX1_count_91 : decode cX1_count 91 = .ok (.aload_n 0, 1) := dk_42 (dk_at dksX1_count_3 12 rfl rfl)
theorem dX1_count_92 : decode cX1_count 92 = .ok (.getfield 10, 3) := dk_180 0 10 (dk_at dksX1_count_3 13 rfl rfl)
theorem dX1_count_95 : decode cX1_count 95 = .ok (.getfield 268, 3) := dk_180 1 12 (dk_at dksX1_count_3 16 rfl rfl)
theorem dX1_count_98 : decode cX1_count 98 = .ok (.ireturn, 1) := dk_172 (dk_at dksX1_count_3 19 rfl rfl)
theorem dX1_count_99 : decode cX1_count 99 = .ok (.iconst 0, 1) := dk_3 (dk_at dksX1_count_3 20 rfl rfl)
theorem dX1_count_100 : decode cX1_count 100 = .ok (.istore_n 2, 1) := dk_61 (dk_at dksX1_count_3 21 rfl rfl)
theorem dX1_count_101 : decode cX1_count 101 = .ok (.aload_n 0, 1) := dk_42 (dk_at dksX1_count_3 22 rfl rfl)
theorem dX1_count_102 : decode cX1_count 102 = .ok (.getfield 10, 3) := dk_180 0 10 (dk_at dksX1_count_4 0 rfl rfl)
theorem dX1_count_105 : decode cX1_count 105 = .ok (.getfield 59, 3) := dk_180 0 59 (dk_at dksX1_count_4 3 rfl rfl)
theorem dX1_count_108 : decode cX1_count 108 = .ok (.invokevirtual 271, 3) := dk_182 1 15 (dk_at dksX1_count_4 6 rfl rfl)
theorem dX1_count_111 : decode cX1_count 111 = .ok (.astore_n 3, 1) := dk_78 (dk_at dksX1_count_4 9 rfl rfl)
theorem dX1_count_112 : decode cX1_count 112 = .ok (.aload_n 3, 1) := dk_45 (dk_at dksX1_count_4 10 rfl rfl)
theorem dX1_count_113 : decode cX1_count 113 = .ok (.invokeinterface 248 1, 5) := by decide +kernel
theorem dX1_count_118 : decode cX1_count 118 = .ok (.ifCond .eq 25, 3) := dk_153 0 25 (dk_at dksX1_count_4 16 rfl rfl)
theorem dX1_count_121 : decode cX1_count 121 = .ok (.aload_n 3, 1) := dk_45 (dk_at dksX1_count_4 19 rfl rfl)
theorem dX1_count_122 : decode cX1_count 122 = .ok (.invokeinterface 253 1, 5) := by decide +kernel
theorem dX1_count_127 : decode cX1_count 127 = .ok (.checkcast 78, 3) := dk_192 0 78 (dk_at dksX1_count_5 5 rfl rfl)
theorem dX1_count_130 : decode cX1_count 130 = .ok (.astore 4, 2) := dk_58 4 (dk_at dksX1_count_5 8 rfl rfl)
theorem dX1_count_132 : decode cX1_count 132 = .ok (.iload_n 2, 1) := dk_28 (dk_at dksX1_count_5 10 rfl rfl)
theorem dX1_count_133 : decode cX1_count 133 = .ok (.aload 4, 2) := dk_25 4 (dk_at dksX1_count_5 11 rfl rfl)
theorem dX1_count_135 : decode cX1_count 135 = .ok (.getfield 193, 3) := dk_180 0 193 (dk_at dksX1_count_5 13 rfl rfl)
theorem dX1_count_138 : decode cX1_count 138 = .ok (.iadd, 1) := dk_96 (dk_at dksX1_count_5 16 rfl rfl)
theorem dX1_count_139 : decode cX1_count 139 = .ok (.istore_n 2, 1) := dk_61 (dk_at dksX1_count_5 17 rfl rfl)
theorem dX1_count_140 : decode cX1_count 140 = .ok (.goto (-28), 3) := dk_167 255 228 (dk_at dksX1_count_5 18 rfl rfl)
theorem dX1_count_143 : decode cX1_count 143 = .ok (.iload_n 2, 1) := dk_28 (dk_at dksX1_count_5 21 rfl rfl)
theorem dX1_count_144 : decode cX1_count 144 = .ok (.ireturn, 1) := dk_172 (dk_at dksX1_count_5 22 rfl rfl)
theorem dX1_count_145 : decode cX1_count 145 = .ok (.aload_n 0, 1) := dk_42 (dk_at dksX1_count_5 23 rfl rfl)
theorem dX1_count_146 : decode cX1_count 146 = .ok (.getfield 10, 3) := dk_180 0 10 (dk_at dksX1_count_6 0 rfl rfl)
theorem dX1_count_149 : decode cX1_count 149 = .ok (.getfield 272, 3) := dk_180 1 16 (dk_at dksX1_count_6 3 rfl rfl)
theorem dX1_count_152 : decode cX1_count 152 = .ok (.ireturn, 1) := dk_172 (dk_at dksX1_count_6 6 rfl rfl)
theorem dX1_count_153 : decode cX1_count 153 = .ok (.iconst 0, 1) := dk_3 (dk_at dksX1_count_6 7 rfl rfl)
theorem dX1_count_154 : decode cX1_count 154 = .ok (.istore_n 2, 1) := dk_61 (dk_at dksX1_count_6 8 rfl rfl)
theorem dX1_count_155 : decode cX1_count 155 = .ok (.iconst 0, 1) := dk_3 (dk_at dksX1_count_6 9 rfl rfl)
theorem dX1_count_156 : decode cX1_count 156 = .ok (.istore_n 3, 1) := dk_62 (dk_at dksX1_count_6 10 rfl rfl)
theorem dX1_count_157 : decode cX1_count 157 = .ok (.iload_n 3, 1) := dk_29 (dk_at dksX1_count_6 11 rfl rfl)
theorem dX1_count_158 : decode cX1_count 158 = .ok (.aload_n 0, 1) := dk_42 (dk_at dksX1_count_6 12 rfl rfl)
theorem dX1_count_159 : decode cX1_count 159 = .ok (.getfield 10, 3) := dk_180 0 10 (dk_at dksX1_count_6 13 rfl rfl)
theorem dX1_count_162 : decode cX1_count 162 = .ok (.getfield 59, 3) := dk_180 0 59 (dk_at dksX1_count_6 16 rfl rfl)
theorem dX1_count_165 : decode cX1_count 165 = .ok (.invokevirtual 63, 3) := dk_182 0 63 (dk_at dksX1_count_6 19 rfl rfl)
theorem dX1_count_168 : decode cX1_count 168 = .ok (.if_icmp .ge 40, 3) := dk_162 0 40 (dk_at dksX1_count_7 0 rfl rfl)
theorem dX1_count_171 : decode cX1_count 171 = .ok (.iload_n 2, 1) := dk_28 (dk_at dksX1_count_7 3 rfl rfl)
theorem dX1_count_172 : decode cX1_count 172 = .ok (.aload_n 0, 1) := dk_42 (dk_at dksX1_count_7 4 rfl rfl)
theorem dX1_count_173 : decode cX1_count 173 = .ok (.getfield 10, 3) := dk_180 0 10 (dk_at dksX1_count_7 5 rfl rfl)
theorem dX1_count_176 : decode cX1_count 176 = .ok (.getfield 59, 3) := dk_180 0 59 (dk_at dksX1_count_7 8 rfl rfl)
theorem dX1_count_179 : decode cX1_count 179 = .ok (.iload_n 3, 1) := dk_29 (dk_at dksX1_count_7 11 rfl rfl)
theorem dX1_count_180 : decode cX1_count 180 = .ok (.invokevirtual 74, 3) := dk_182 0 74 (dk_at dksX1_count_7 12 rfl rfl)
theorem dX1_count_183 : decode cX1_count 183 = .ok (.checkcast 78, 3) := dk_192 0 78 (dk_at dksX1_count_7 15 rfl rfl)
theorem dX1_count_186 : decode cX1_count 186 = .ok (.invokevirtual 108, 3) := dk_182 0 108 (dk_at dksX1_count_7 18 rfl rfl)
theorem dX1_count_189 : decode cX1_count 189 = .ok (.iconst 3, 1) := dk_6 (dk_at dksX1_count_7 21 rfl rfl)
theorem dX1_count_190 : decode cX1_count 190 = .ok (.if_icmp .ne 9, 3) := dk_160 0 9 (dk_at dksX1_count_8 0 rfl rfl)
theorem dX1_count_193 : decode cX1_count 193 = .ok (.iconst 1, 1) := dk_4 (dk_at dksX1_count_8 3 rfl rfl)
theorem dX1_count_194 : decode cX1_count 194 = .ok (.iload_n 3, 1) := dk_29 (dk_at dksX1_count_8 4 rfl rfl)
theorem dX1_count_195 : decode cX1_count 195 = .ok (.ishl, 1) := dk_120 (dk_at dksX1_count_8 5 rfl rfl)
theorem dX1_count_196 : decode cX1_count 196 = .ok (.goto 4, 3) := dk_167 0 4 (dk_at dksX1_count_8 6 rfl rfl)
theorem dX1_count_199 : decode cX1_count 199 = .ok (.iconst 0, 1) := dk_3 (dk_at dksX1_count_8 9 rfl rfl)
theorem dX1_count_200 : decode cX1_count 200 = .ok (.ior, 1) := dk_128 (dk_at dksX1_count_8 10 rfl rfl)
theorem dX1_count_201 : decode cX1_count 201 = .ok (.istore_n 2, 1) := dk_61 (dk_at dksX1_count_8 11 rfl rfl)
theorem dX1_count_202 : decode cX1_count 202 = .ok (.iinc 3 1, 3) := dk_132 3 1 (dk_at dksX1_count_8 12 rfl rfl)
theorem dX1_count_205 : decode cX1_count 205 = .ok (.goto (-48), 3) := dk_167 255 208 (dk_at dksX1_count_8 15 rfl rfl)
theorem dX1_count_208 : decode cX1_count 208 = .ok (.iload_n 2, 1) := dk_28 (dk_at dksX1_count_8 18 rfl rfl)
theorem dX1_count_209 : decode cX1_count 209 = .ok (.ireturn, 1) := dk_172 (dk_at dksX1_count_8 19 rfl rfl)
theorem dX1_count_210 : decode cX1_count 210 = .ok (.aload_n 0, 1) := dk_42 (dk_at dksX1_count_8 20 rfl rfl)
theorem dX1_count_211 : decode cX1_count 211 = .ok (.getfield 19, 3) := dk_180 0 19 (dk_at dksX1_count_8 21 rfl rfl)
theorem dX1_count_214 : decode cX1_count 214 = .ok (.invokevirtual 34, 3) := dk_182 0 34 (dk_at dksX1_count_9 0 rfl rfl)
theorem dX1_count_217 : decode cX1_count 217 = .ok (.ireturn, 1) := dk_172 (dk_at dksX1_count_9 3 rfl rfl)
theorem dX1_count_218 : decode cX1_count 218 = .ok (.aload_n 0, 1) := dk_42 (dk_at dksX1_count_9 4 rfl rfl)
theorem dX1_count_219 : decode cX1_count 219 = .ok (.getfield 30, 3) := dk_180 0 30 (dk_at dksX1_count_9 5 rfl rfl)
theorem dX1_count_222 : decode cX1_count 222 = .ok (.invokevirtual 146, 3) := dk_182 0 146 (dk_at dksX1_count_9 8 rfl rfl)
theorem dX1_count_225 : decode cX1_count 225 = .ok (.ireturn, 1) := dk_172 (dk_at dksX1_count_9 11 rfl rfl)
theorem dX1_count_226 : decode cX1_count 226 = .ok (.new 50, 3) := dk_187 0 50 (dk_at dksX1_count_9 12 rfl rfl)
theorem dX1_count_229 : decode cX1_count 229 = .ok (.dup, 1) := dk_89 (dk_at dksX1_count_9 15 rfl rfl)
theorem dX1_count_230 : decode cX1_count 230 = .ok (.invokespecial 52, 3) := dk_183 0 52 (dk_at dksX1_count_9 16 rfl rfl)
theorem dX1_count_233 : decode cX1_count 233 = .ok (.athrow, 1) := dk_191 (dk_at dksX1_count_9 19 rfl rfl)
abbrev cX1_setting : ByteArray := prog_1_method_32_code
def yX1_setting : MethodName := ⟨RX1, "setting", "(I)I"⟩
def dkwX1_setting_0 : List UInt8 := [27, 3, 6, 184, 0, 66, 184, 0, 70, 42, 180, 0, 10, 180, 0, 123, 27, 46, 172]
abbrev dktX1_setting_0 : List UInt8 := dkwX1_setting_0 ++ []
theorem dksX1_setting_0 : cX1_setting.data.toList.drop 0 = dktX1_setting_0 := by decide +kernel
theorem dX1_setting_0 : decode cX1_setting 0 = .ok (.iload_n 1, 1) := dk_27 (dk_at dksX1_setting_0 0 rfl rfl)
theorem dX1_setting_1 : decode cX1_setting 1 = .ok (.iconst 0, 1) := dk_3 (dk_at dksX1_setting_0 1 rfl rfl)
theorem dX1_setting_2 : decode cX1_setting 2 = .ok (.iconst 3, 1) := dk_6 (dk_at dksX1_setting_0 2 rfl rfl)
theorem dX1_setting_3 : decode cX1_setting 3 = .ok (.invokestatic 66, 3) := dk_184 0 66 (dk_at dksX1_setting_0 3 rfl rfl)
theorem dX1_setting_6 : decode cX1_setting 6 = .ok (.invokestatic 70, 3) := dk_184 0 70 (dk_at dksX1_setting_0 6 rfl rfl)
theorem dX1_setting_9 : decode cX1_setting 9 = .ok (.aload_n 0, 1) := dk_42 (dk_at dksX1_setting_0 9 rfl rfl)
theorem dX1_setting_10 : decode cX1_setting 10 = .ok (.getfield 10, 3) := dk_180 0 10 (dk_at dksX1_setting_0 10 rfl rfl)
theorem dX1_setting_13 : decode cX1_setting 13 = .ok (.getfield 123, 3) := dk_180 0 123 (dk_at dksX1_setting_0 13 rfl rfl)
theorem dX1_setting_16 : decode cX1_setting 16 = .ok (.iload_n 1, 1) := dk_27 (dk_at dksX1_setting_0 16 rfl rfl)
theorem dX1_setting_17 : decode cX1_setting 17 = .ok (.iaload, 1) := dk_46 (dk_at dksX1_setting_0 17 rfl rfl)
theorem dX1_setting_18 : decode cX1_setting 18 = .ok (.ireturn, 1) := dk_172 (dk_at dksX1_setting_0 18 rfl rfl)
abbrev cX1_refusal : ByteArray := prog_1_method_33_code
def yX1_refusal : MethodName := ⟨RX1, "refusal", "(II)I"⟩
def dkwX1_refusal_0 : List UInt8 := [27, 184, 0, 127, 42, 28, 182, 0, 94, 87, 42, 180, 0, 10, 27, 28, 182, 1, 19, 172]
abbrev dktX1_refusal_0 : List UInt8 := dkwX1_refusal_0 ++ []
theorem dksX1_refusal_0 : cX1_refusal.data.toList.drop 0 = dktX1_refusal_0 := by decide +kernel
theorem dX1_refusal_0 : decode cX1_refusal 0 = .ok (.iload_n 1, 1) := dk_27 (dk_at dksX1_refusal_0 0 rfl rfl)
theorem dX1_refusal_1 : decode cX1_refusal 1 = .ok (.invokestatic 127, 3) := dk_184 0 127 (dk_at dksX1_refusal_0 1 rfl rfl)
theorem dX1_refusal_4 : decode cX1_refusal 4 = .ok (.aload_n 0, 1) := dk_42 (dk_at dksX1_refusal_0 4 rfl rfl)
theorem dX1_refusal_5 : decode cX1_refusal 5 = .ok (.iload_n 2, 1) := dk_28 (dk_at dksX1_refusal_0 5 rfl rfl)
theorem dX1_refusal_6 : decode cX1_refusal 6 = .ok (.invokevirtual 94, 3) := dk_182 0 94 (dk_at dksX1_refusal_0 6 rfl rfl)
theorem dX1_refusal_9 : decode cX1_refusal 9 = .ok (.pop, 1) := dk_87 (dk_at dksX1_refusal_0 9 rfl rfl)
theorem dX1_refusal_10 : decode cX1_refusal 10 = .ok (.aload_n 0, 1) := dk_42 (dk_at dksX1_refusal_0 10 rfl rfl)
theorem dX1_refusal_11 : decode cX1_refusal 11 = .ok (.getfield 10, 3) := dk_180 0 10 (dk_at dksX1_refusal_0 11 rfl rfl)
theorem dX1_refusal_14 : decode cX1_refusal 14 = .ok (.iload_n 1, 1) := dk_27 (dk_at dksX1_refusal_0 14 rfl rfl)
theorem dX1_refusal_15 : decode cX1_refusal 15 = .ok (.iload_n 2, 1) := dk_28 (dk_at dksX1_refusal_0 15 rfl rfl)
theorem dX1_refusal_16 : decode cX1_refusal 16 = .ok (.invokevirtual 275, 3) := dk_182 1 19 (dk_at dksX1_refusal_0 16 rfl rfl)
theorem dX1_refusal_19 : decode cX1_refusal 19 = .ok (.ireturn, 1) := dk_172 (dk_at dksX1_refusal_0 19 rfl rfl)
abbrev cX1_fewest : ByteArray := prog_1_method_34_code
def yX1_fewest : MethodName := ⟨RX1, "fewest", "(II)I"⟩
def dkwX1_fewest_2 : List UInt8 := [154, 0, 7, 2, 167, 0, 15, 28, 154, 0, 10, 29, 184, 1, 30, 167, 0, 4, 29, 172]
abbrev dktX1_fewest_2 : List UInt8 := dkwX1_fewest_2 ++ []
def dkwX1_fewest_1 : List UInt8 := [167, 0, 4, 3, 184, 0, 81, 187, 1, 22, 89, 42, 180, 0, 10, 27, 183, 1, 24, 182, 1, 27, 62, 29]
abbrev dktX1_fewest_1 : List UInt8 := dkwX1_fewest_1 ++ dktX1_fewest_2
def dkwX1_fewest_0 : List UInt8 := [27, 17, 1, 244, 18, 142, 184, 0, 66, 153, 0, 16, 28, 3, 4, 184, 0, 66, 153, 0, 7, 4]
abbrev dktX1_fewest_0 : List UInt8 := dkwX1_fewest_0 ++ dktX1_fewest_1
theorem dksX1_fewest_0 : cX1_fewest.data.toList.drop 0 = dktX1_fewest_0 := by decide +kernel
theorem dksX1_fewest_1 : cX1_fewest.data.toList.drop 22 = dktX1_fewest_1 := dk_seg dksX1_fewest_0 22 rfl rfl
theorem dksX1_fewest_2 : cX1_fewest.data.toList.drop 46 = dktX1_fewest_2 := dk_seg dksX1_fewest_1 24 rfl rfl
theorem dX1_fewest_0 : decode cX1_fewest 0 = .ok (.iload_n 1, 1) := dk_27 (dk_at dksX1_fewest_0 0 rfl rfl)
theorem dX1_fewest_1 : decode cX1_fewest 1 = .ok (.sipush 500, 3) := dk_17 1 244 (dk_at dksX1_fewest_0 1 rfl rfl)
theorem dX1_fewest_4 : decode cX1_fewest 4 = .ok (.ldc 142, 2) := dk_18 142 (dk_at dksX1_fewest_0 4 rfl rfl)
theorem dX1_fewest_6 : decode cX1_fewest 6 = .ok (.invokestatic 66, 3) := dk_184 0 66 (dk_at dksX1_fewest_0 6 rfl rfl)
theorem dX1_fewest_9 : decode cX1_fewest 9 = .ok (.ifCond .eq 16, 3) := dk_153 0 16 (dk_at dksX1_fewest_0 9 rfl rfl)
theorem dX1_fewest_12 : decode cX1_fewest 12 = .ok (.iload_n 2, 1) := dk_28 (dk_at dksX1_fewest_0 12 rfl rfl)
theorem dX1_fewest_13 : decode cX1_fewest 13 = .ok (.iconst 0, 1) := dk_3 (dk_at dksX1_fewest_0 13 rfl rfl)
theorem dX1_fewest_14 : decode cX1_fewest 14 = .ok (.iconst 1, 1) := dk_4 (dk_at dksX1_fewest_0 14 rfl rfl)
theorem dX1_fewest_15 : decode cX1_fewest 15 = .ok (.invokestatic 66, 3) := dk_184 0 66 (dk_at dksX1_fewest_0 15 rfl rfl)
theorem dX1_fewest_18 : decode cX1_fewest 18 = .ok (.ifCond .eq 7, 3) := dk_153 0 7 (dk_at dksX1_fewest_0 18 rfl rfl)
theorem dX1_fewest_21 : decode cX1_fewest 21 = .ok (.iconst 1, 1) := dk_4 (dk_at dksX1_fewest_0 21 rfl rfl)
theorem dX1_fewest_22 : decode cX1_fewest 22 = .ok (.goto 4, 3) := dk_167 0 4 (dk_at dksX1_fewest_1 0 rfl rfl)
theorem dX1_fewest_25 : decode cX1_fewest 25 = .ok (.iconst 0, 1) := dk_3 (dk_at dksX1_fewest_1 3 rfl rfl)
theorem dX1_fewest_26 : decode cX1_fewest 26 = .ok (.invokestatic 81, 3) := dk_184 0 81 (dk_at dksX1_fewest_1 4 rfl rfl)
theorem dX1_fewest_29 : decode cX1_fewest 29 = .ok (.new 278, 3) := dk_187 1 22 (dk_at dksX1_fewest_1 7 rfl rfl)
theorem dX1_fewest_32 : decode cX1_fewest 32 = .ok (.dup, 1) := dk_89 (dk_at dksX1_fewest_1 10 rfl rfl)
theorem dX1_fewest_33 : decode cX1_fewest 33 = .ok (.aload_n 0, 1) := dk_42 (dk_at dksX1_fewest_1 11 rfl rfl)
theorem dX1_fewest_34 : decode cX1_fewest 34 = .ok (.getfield 10, 3) := dk_180 0 10 (dk_at dksX1_fewest_1 12 rfl rfl)
theorem dX1_fewest_37 : decode cX1_fewest 37 = .ok (.iload_n 1, 1) := dk_27 (dk_at dksX1_fewest_1 15 rfl rfl)
theorem dX1_fewest_38 : decode cX1_fewest 38 = .ok (.invokespecial 280, 3) := dk_183 1 24 (dk_at dksX1_fewest_1 16 rfl rfl)
theorem dX1_fewest_41 : decode cX1_fewest 41 = .ok (.invokevirtual 283, 3) := dk_182 1 27 (dk_at dksX1_fewest_1 19 rfl rfl)
theorem dX1_fewest_44 : decode cX1_fewest 44 = .ok (.istore_n 3, 1) := dk_62 (dk_at dksX1_fewest_1 22 rfl rfl)
theorem dX1_fewest_45 : decode cX1_fewest 45 = .ok (.iload_n 3, 1) := dk_29 (dk_at dksX1_fewest_1 23 rfl rfl)
theorem dX1_fewest_46 : decode cX1_fewest 46 = .ok (.ifCond .ne 7, 3) := dk_154 0 7 (dk_at dksX1_fewest_2 0 rfl rfl)
theorem dX1_fewest_49 : decode cX1_fewest 49 = .ok (.iconst (-1), 1) := dk_2 (dk_at dksX1_fewest_2 3 rfl rfl)
theorem dX1_fewest_50 : decode cX1_fewest 50 = .ok (.goto 15, 3) := dk_167 0 15 (dk_at dksX1_fewest_2 4 rfl rfl)
theorem dX1_fewest_53 : decode cX1_fewest 53 = .ok (.iload_n 2, 1) := dk_28 (dk_at dksX1_fewest_2 7 rfl rfl)
theorem dX1_fewest_54 : decode cX1_fewest 54 = .ok (.ifCond .ne 10, 3) := dk_154 0 10 (dk_at dksX1_fewest_2 8 rfl rfl)
theorem dX1_fewest_57 : decode cX1_fewest 57 = .ok (.iload_n 3, 1) := dk_29 (dk_at dksX1_fewest_2 11 rfl rfl)
theorem dX1_fewest_58 : decode cX1_fewest 58 = .ok (.invokestatic 286, 3) := dk_184 1 30 (dk_at dksX1_fewest_2 12 rfl rfl)
theorem dX1_fewest_61 : decode cX1_fewest 61 = .ok (.goto 4, 3) := dk_167 0 4 (dk_at dksX1_fewest_2 15 rfl rfl)
theorem dX1_fewest_64 : decode cX1_fewest 64 = .ok (.iload_n 3, 1) := dk_29 (dk_at dksX1_fewest_2 18 rfl rfl)
theorem dX1_fewest_65 : decode cX1_fewest 65 = .ok (.ireturn, 1) := dk_172 (dk_at dksX1_fewest_2 19 rfl rfl)
abbrev cX1_oldWay : ByteArray := prog_1_method_35_code
def yX1_oldWay : MethodName := ⟨RX1, "oldWay", "(II)I"⟩
def dkwX1_oldWay_3 : List UInt8 := [167, 0, 4, 29, 172]
abbrev dktX1_oldWay_3 : List UInt8 := dkwX1_oldWay_3 ++ []
def dkwX1_oldWay_2 : List UInt8 := [4, 167, 0, 4, 3, 182, 1, 33, 62, 28, 154, 0, 15, 29, 2, 159, 0, 10, 29, 184, 1, 30]
abbrev dktX1_oldWay_2 : List UInt8 := dkwX1_oldWay_2 ++ dktX1_oldWay_3
def dkwX1_oldWay_1 : List UInt8 := [167, 0, 4, 3, 184, 0, 81, 187, 1, 22, 89, 42, 180, 0, 10, 27, 183, 1, 24, 28, 5, 160, 0, 7]
abbrev dktX1_oldWay_1 : List UInt8 := dkwX1_oldWay_1 ++ dktX1_oldWay_2
def dkwX1_oldWay_0 : List UInt8 := [27, 17, 1, 244, 18, 142, 184, 0, 66, 153, 0, 16, 28, 3, 5, 184, 0, 66, 153, 0, 7, 4]
abbrev dktX1_oldWay_0 : List UInt8 := dkwX1_oldWay_0 ++ dktX1_oldWay_1
theorem dksX1_oldWay_0 : cX1_oldWay.data.toList.drop 0 = dktX1_oldWay_0 := by decide +kernel
theorem dksX1_oldWay_1 : cX1_oldWay.data.toList.drop 22 = dktX1_oldWay_1 := dk_seg dksX1_oldWay_0 22 rfl rfl
theorem dksX1_oldWay_2 : cX1_oldWay.data.toList.drop 46 = dktX1_oldWay_2 := dk_seg dksX1_oldWay_1 24 rfl rfl
theorem dksX1_oldWay_3 : cX1_oldWay.data.toList.drop 68 = dktX1_oldWay_3 := dk_seg dksX1_oldWay_2 22 rfl rfl
theorem dX1_oldWay_0 : decode cX1_oldWay 0 = .ok (.iload_n 1, 1) := dk_27 (dk_at dksX1_oldWay_0 0 rfl rfl)
theorem dX1_oldWay_1 : decode cX1_oldWay 1 = .ok (.sipush 500, 3) := dk_17 1 244 (dk_at dksX1_oldWay_0 1 rfl rfl)
theorem dX1_oldWay_4 : decode cX1_oldWay 4 = .ok (.ldc 142, 2) := dk_18 142 (dk_at dksX1_oldWay_0 4 rfl rfl)
theorem dX1_oldWay_6 : decode cX1_oldWay 6 = .ok (.invokestatic 66, 3) := dk_184 0 66 (dk_at dksX1_oldWay_0 6 rfl rfl)
theorem dX1_oldWay_9 : decode cX1_oldWay 9 = .ok (.ifCond .eq 16, 3) := dk_153 0 16 (dk_at dksX1_oldWay_0 9 rfl rfl)
theorem dX1_oldWay_12 : decode cX1_oldWay 12 = .ok (.iload_n 2, 1) := dk_28 (dk_at dksX1_oldWay_0 12 rfl rfl)
theorem dX1_oldWay_13 : decode cX1_oldWay 13 = .ok (.iconst 0, 1) := dk_3 (dk_at dksX1_oldWay_0 13 rfl rfl)
theorem dX1_oldWay_14 : decode cX1_oldWay 14 = .ok (.iconst 2, 1) := dk_5 (dk_at dksX1_oldWay_0 14 rfl rfl)
theorem dX1_oldWay_15 : decode cX1_oldWay 15 = .ok (.invokestatic 66, 3) := dk_184 0 66 (dk_at dksX1_oldWay_0 15 rfl rfl)
theorem dX1_oldWay_18 : decode cX1_oldWay 18 = .ok (.ifCond .eq 7, 3) := dk_153 0 7 (dk_at dksX1_oldWay_0 18 rfl rfl)
theorem dX1_oldWay_21 : decode cX1_oldWay 21 = .ok (.iconst 1, 1) := dk_4 (dk_at dksX1_oldWay_0 21 rfl rfl)
theorem dX1_oldWay_22 : decode cX1_oldWay 22 = .ok (.goto 4, 3) := dk_167 0 4 (dk_at dksX1_oldWay_1 0 rfl rfl)
theorem dX1_oldWay_25 : decode cX1_oldWay 25 = .ok (.iconst 0, 1) := dk_3 (dk_at dksX1_oldWay_1 3 rfl rfl)
theorem dX1_oldWay_26 : decode cX1_oldWay 26 = .ok (.invokestatic 81, 3) := dk_184 0 81 (dk_at dksX1_oldWay_1 4 rfl rfl)
theorem dX1_oldWay_29 : decode cX1_oldWay 29 = .ok (.new 278, 3) := dk_187 1 22 (dk_at dksX1_oldWay_1 7 rfl rfl)
theorem dX1_oldWay_32 : decode cX1_oldWay 32 = .ok (.dup, 1) := dk_89 (dk_at dksX1_oldWay_1 10 rfl rfl)
theorem dX1_oldWay_33 : decode cX1_oldWay 33 = .ok (.aload_n 0, 1) := dk_42 (dk_at dksX1_oldWay_1 11 rfl rfl)
theorem dX1_oldWay_34 : decode cX1_oldWay 34 = .ok (.getfield 10, 3) := dk_180 0 10 (dk_at dksX1_oldWay_1 12 rfl rfl)
theorem dX1_oldWay_37 : decode cX1_oldWay 37 = .ok (.iload_n 1, 1) := dk_27 (dk_at dksX1_oldWay_1 15 rfl rfl)
theorem dX1_oldWay_38 : decode cX1_oldWay 38 = .ok (.invokespecial 280, 3) := dk_183 1 24 (dk_at dksX1_oldWay_1 16 rfl rfl)
theorem dX1_oldWay_41 : decode cX1_oldWay 41 = .ok (.iload_n 2, 1) := dk_28 (dk_at dksX1_oldWay_1 19 rfl rfl)
theorem dX1_oldWay_42 : decode cX1_oldWay 42 = .ok (.iconst 2, 1) := dk_5 (dk_at dksX1_oldWay_1 20 rfl rfl)
theorem dX1_oldWay_43 : decode cX1_oldWay 43 = .ok (.if_icmp .ne 7, 3) := dk_160 0 7 (dk_at dksX1_oldWay_1 21 rfl rfl)
theorem dX1_oldWay_46 : decode cX1_oldWay 46 = .ok (.iconst 1, 1) := dk_4 (dk_at dksX1_oldWay_2 0 rfl rfl)
theorem dX1_oldWay_47 : decode cX1_oldWay 47 = .ok (.goto 4, 3) := dk_167 0 4 (dk_at dksX1_oldWay_2 1 rfl rfl)
theorem dX1_oldWay_50 : decode cX1_oldWay 50 = .ok (.iconst 0, 1) := dk_3 (dk_at dksX1_oldWay_2 4 rfl rfl)
theorem dX1_oldWay_51 : decode cX1_oldWay 51 = .ok (.invokevirtual 289, 3) := dk_182 1 33 (dk_at dksX1_oldWay_2 5 rfl rfl)
theorem dX1_oldWay_54 : decode cX1_oldWay 54 = .ok (.istore_n 3, 1) := dk_62 (dk_at dksX1_oldWay_2 8 rfl rfl)
theorem dX1_oldWay_55 : decode cX1_oldWay 55 = .ok (.iload_n 2, 1) := dk_28 (dk_at dksX1_oldWay_2 9 rfl rfl)
theorem dX1_oldWay_56 : decode cX1_oldWay 56 = .ok (.ifCond .ne 15, 3) := dk_154 0 15 (dk_at dksX1_oldWay_2 10 rfl rfl)
theorem dX1_oldWay_59 : decode cX1_oldWay 59 = .ok (.iload_n 3, 1) := dk_29 (dk_at dksX1_oldWay_2 13 rfl rfl)
theorem dX1_oldWay_60 : decode cX1_oldWay 60 = .ok (.iconst (-1), 1) := dk_2 (dk_at dksX1_oldWay_2 14 rfl rfl)
theorem dX1_oldWay_61 : decode cX1_oldWay 61 = .ok (.if_icmp .eq 10, 3) := dk_159 0 10 (dk_at dksX1_oldWay_2 15 rfl rfl)
theorem dX1_oldWay_64 : decode cX1_oldWay 64 = .ok (.iload_n 3, 1) := dk_29 (dk_at dksX1_oldWay_2 18 rfl rfl)
theorem dX1_oldWay_65 : decode cX1_oldWay 65 = .ok (.invokestatic 286, 3) := dk_184 1 30 (dk_at dksX1_oldWay_2 19 rfl rfl)
theorem dX1_oldWay_68 : decode cX1_oldWay 68 = .ok (.goto 4, 3) := dk_167 0 4 (dk_at dksX1_oldWay_3 0 rfl rfl)
theorem dX1_oldWay_71 : decode cX1_oldWay 71 = .ok (.iload_n 3, 1) := dk_29 (dk_at dksX1_oldWay_3 3 rfl rfl)
theorem dX1_oldWay_72 : decode cX1_oldWay 72 = .ok (.ireturn, 1) := dk_172 (dk_at dksX1_oldWay_3 4 rfl rfl)
abbrev cX1_nearest : ByteArray := prog_1_method_36_code
def yX1_nearest : MethodName := ⟨RX1, "nearest", "(I)I"⟩
def dkwX1_nearest_1 : List UInt8 := [182, 1, 37, 172]
abbrev dktX1_nearest_1 : List UInt8 := dkwX1_nearest_1 ++ []
def dkwX1_nearest_0 : List UInt8 := [27, 17, 1, 244, 18, 142, 184, 0, 66, 184, 0, 81, 187, 1, 22, 89, 42, 180, 0, 10, 27, 183, 1, 24]
abbrev dktX1_nearest_0 : List UInt8 := dkwX1_nearest_0 ++ dktX1_nearest_1
theorem dksX1_nearest_0 : cX1_nearest.data.toList.drop 0 = dktX1_nearest_0 := by decide +kernel
theorem dksX1_nearest_1 : cX1_nearest.data.toList.drop 24 = dktX1_nearest_1 := dk_seg dksX1_nearest_0 24 rfl rfl
theorem dX1_nearest_0 : decode cX1_nearest 0 = .ok (.iload_n 1, 1) := dk_27 (dk_at dksX1_nearest_0 0 rfl rfl)
theorem dX1_nearest_1 : decode cX1_nearest 1 = .ok (.sipush 500, 3) := dk_17 1 244 (dk_at dksX1_nearest_0 1 rfl rfl)
theorem dX1_nearest_4 : decode cX1_nearest 4 = .ok (.ldc 142, 2) := dk_18 142 (dk_at dksX1_nearest_0 4 rfl rfl)
theorem dX1_nearest_6 : decode cX1_nearest 6 = .ok (.invokestatic 66, 3) := dk_184 0 66 (dk_at dksX1_nearest_0 6 rfl rfl)
theorem dX1_nearest_9 : decode cX1_nearest 9 = .ok (.invokestatic 81, 3) := dk_184 0 81 (dk_at dksX1_nearest_0 9 rfl rfl)
theorem dX1_nearest_12 : decode cX1_nearest 12 = .ok (.new 278, 3) := dk_187 1 22 (dk_at dksX1_nearest_0 12 rfl rfl)
theorem dX1_nearest_15 : decode cX1_nearest 15 = .ok (.dup, 1) := dk_89 (dk_at dksX1_nearest_0 15 rfl rfl)
theorem dX1_nearest_16 : decode cX1_nearest 16 = .ok (.aload_n 0, 1) := dk_42 (dk_at dksX1_nearest_0 16 rfl rfl)
theorem dX1_nearest_17 : decode cX1_nearest 17 = .ok (.getfield 10, 3) := dk_180 0 10 (dk_at dksX1_nearest_0 17 rfl rfl)
theorem dX1_nearest_20 : decode cX1_nearest 20 = .ok (.iload_n 1, 1) := dk_27 (dk_at dksX1_nearest_0 20 rfl rfl)
theorem dX1_nearest_21 : decode cX1_nearest 21 = .ok (.invokespecial 280, 3) := dk_183 1 24 (dk_at dksX1_nearest_0 21 rfl rfl)
theorem dX1_nearest_24 : decode cX1_nearest 24 = .ok (.invokevirtual 293, 3) := dk_182 1 37 (dk_at dksX1_nearest_1 0 rfl rfl)
theorem dX1_nearest_27 : decode cX1_nearest 27 = .ok (.ireturn, 1) := dk_172 (dk_at dksX1_nearest_1 3 rfl rfl)
abbrev cX1_coolIn : ByteArray := prog_1_method_37_code
def yX1_coolIn : MethodName := ⟨RX1, "coolIn", "(I)I"⟩
def dkwX1_coolIn_1 : List UInt8 := [28, 184, 1, 40, 61, 132, 3, 1, 167, 255, 235, 29, 172]
abbrev dktX1_coolIn_1 : List UInt8 := dkwX1_coolIn_1 ++ []
def dkwX1_coolIn_0 : List UInt8 := [42, 27, 182, 0, 94, 180, 0, 115, 61, 3, 62, 28, 42, 180, 0, 10, 180, 0, 123, 4, 46, 164, 0, 14]
abbrev dktX1_coolIn_0 : List UInt8 := dkwX1_coolIn_0 ++ dktX1_coolIn_1
theorem dksX1_coolIn_0 : cX1_coolIn.data.toList.drop 0 = dktX1_coolIn_0 := by decide +kernel
theorem dksX1_coolIn_1 : cX1_coolIn.data.toList.drop 24 = dktX1_coolIn_1 := dk_seg dksX1_coolIn_0 24 rfl rfl
theorem dX1_coolIn_0 : decode cX1_coolIn 0 = .ok (.aload_n 0, 1) := dk_42 (dk_at dksX1_coolIn_0 0 rfl rfl)
theorem dX1_coolIn_1 : decode cX1_coolIn 1 = .ok (.iload_n 1, 1) := dk_27 (dk_at dksX1_coolIn_0 1 rfl rfl)
theorem dX1_coolIn_2 : decode cX1_coolIn 2 = .ok (.invokevirtual 94, 3) := dk_182 0 94 (dk_at dksX1_coolIn_0 2 rfl rfl)
theorem dX1_coolIn_5 : decode cX1_coolIn 5 = .ok (.getfield 115, 3) := dk_180 0 115 (dk_at dksX1_coolIn_0 5 rfl rfl)
theorem dX1_coolIn_8 : decode cX1_coolIn 8 = .ok (.istore_n 2, 1) := dk_61 (dk_at dksX1_coolIn_0 8 rfl rfl)
theorem dX1_coolIn_9 : decode cX1_coolIn 9 = .ok (.iconst 0, 1) := dk_3 (dk_at dksX1_coolIn_0 9 rfl rfl)
theorem dX1_coolIn_10 : decode cX1_coolIn 10 = .ok (.istore_n 3, 1) := dk_62 (dk_at dksX1_coolIn_0 10 rfl rfl)
theorem dX1_coolIn_11 : decode cX1_coolIn 11 = .ok (.iload_n 2, 1) := dk_28 (dk_at dksX1_coolIn_0 11 rfl rfl)
theorem dX1_coolIn_12 : decode cX1_coolIn 12 = .ok (.aload_n 0, 1) := dk_42 (dk_at dksX1_coolIn_0 12 rfl rfl)
theorem dX1_coolIn_13 : decode cX1_coolIn 13 = .ok (.getfield 10, 3) := dk_180 0 10 (dk_at dksX1_coolIn_0 13 rfl rfl)
theorem dX1_coolIn_16 : decode cX1_coolIn 16 = .ok (.getfield 123, 3) := dk_180 0 123 (dk_at dksX1_coolIn_0 16 rfl rfl)
theorem dX1_coolIn_19 : decode cX1_coolIn 19 = .ok (.iconst 1, 1) := dk_4 (dk_at dksX1_coolIn_0 19 rfl rfl)
theorem dX1_coolIn_20 : decode cX1_coolIn 20 = .ok (.iaload, 1) := dk_46 (dk_at dksX1_coolIn_0 20 rfl rfl)
theorem dX1_coolIn_21 : decode cX1_coolIn 21 = .ok (.if_icmp .le 14, 3) := dk_164 0 14 (dk_at dksX1_coolIn_0 21 rfl rfl)
theorem dX1_coolIn_24 : decode cX1_coolIn 24 = .ok (.iload_n 2, 1) := dk_28 (dk_at dksX1_coolIn_1 0 rfl rfl)
theorem dX1_coolIn_25 : decode cX1_coolIn 25 = .ok (.invokestatic 296, 3) := dk_184 1 40 (dk_at dksX1_coolIn_1 1 rfl rfl)
theorem dX1_coolIn_28 : decode cX1_coolIn 28 = .ok (.istore_n 2, 1) := dk_61 (dk_at dksX1_coolIn_1 4 rfl rfl)
theorem dX1_coolIn_29 : decode cX1_coolIn 29 = .ok (.iinc 3 1, 3) := dk_132 3 1 (dk_at dksX1_coolIn_1 5 rfl rfl)
theorem dX1_coolIn_32 : decode cX1_coolIn 32 = .ok (.goto (-21), 3) := dk_167 255 235 (dk_at dksX1_coolIn_1 8 rfl rfl)
theorem dX1_coolIn_35 : decode cX1_coolIn 35 = .ok (.iload_n 3, 1) := dk_29 (dk_at dksX1_coolIn_1 11 rfl rfl)
theorem dX1_coolIn_36 : decode cX1_coolIn 36 = .ok (.ireturn, 1) := dk_172 (dk_at dksX1_coolIn_1 12 rfl rfl)
abbrev cX1_lengthIn : ByteArray := prog_1_method_38_code
def yX1_lengthIn : MethodName := ⟨RX1, "lengthIn", "(II)I"⟩
def dkwX1_lengthIn_1 : List UInt8 := [172]
abbrev dktX1_lengthIn_1 : List UInt8 := dkwX1_lengthIn_1 ++ []
def dkwX1_lengthIn_0 : List UInt8 := [27, 184, 0, 127, 28, 3, 17, 2, 88, 184, 0, 66, 184, 0, 81, 42, 180, 0, 10, 27, 28, 182, 0, 207]
abbrev dktX1_lengthIn_0 : List UInt8 := dkwX1_lengthIn_0 ++ dktX1_lengthIn_1
theorem dksX1_lengthIn_0 : cX1_lengthIn.data.toList.drop 0 = dktX1_lengthIn_0 := by decide +kernel
theorem dksX1_lengthIn_1 : cX1_lengthIn.data.toList.drop 24 = dktX1_lengthIn_1 := dk_seg dksX1_lengthIn_0 24 rfl rfl
theorem dX1_lengthIn_0 : decode cX1_lengthIn 0 = .ok (.iload_n 1, 1) := dk_27 (dk_at dksX1_lengthIn_0 0 rfl rfl)
theorem dX1_lengthIn_1 : decode cX1_lengthIn 1 = .ok (.invokestatic 127, 3) := dk_184 0 127 (dk_at dksX1_lengthIn_0 1 rfl rfl)
theorem dX1_lengthIn_4 : decode cX1_lengthIn 4 = .ok (.iload_n 2, 1) := dk_28 (dk_at dksX1_lengthIn_0 4 rfl rfl)
theorem dX1_lengthIn_5 : decode cX1_lengthIn 5 = .ok (.iconst 0, 1) := dk_3 (dk_at dksX1_lengthIn_0 5 rfl rfl)
theorem dX1_lengthIn_6 : decode cX1_lengthIn 6 = .ok (.sipush 600, 3) := dk_17 2 88 (dk_at dksX1_lengthIn_0 6 rfl rfl)
theorem dX1_lengthIn_9 : decode cX1_lengthIn 9 = .ok (.invokestatic 66, 3) := dk_184 0 66 (dk_at dksX1_lengthIn_0 9 rfl rfl)
theorem dX1_lengthIn_12 : decode cX1_lengthIn 12 = .ok (.invokestatic 81, 3) := dk_184 0 81 (dk_at dksX1_lengthIn_0 12 rfl rfl)
theorem dX1_lengthIn_15 : decode cX1_lengthIn 15 = .ok (.aload_n 0, 1) := dk_42 (dk_at dksX1_lengthIn_0 15 rfl rfl)
theorem dX1_lengthIn_16 : decode cX1_lengthIn 16 = .ok (.getfield 10, 3) := dk_180 0 10 (dk_at dksX1_lengthIn_0 16 rfl rfl)
theorem dX1_lengthIn_19 : decode cX1_lengthIn 19 = .ok (.iload_n 1, 1) := dk_27 (dk_at dksX1_lengthIn_0 19 rfl rfl)
theorem dX1_lengthIn_20 : decode cX1_lengthIn 20 = .ok (.iload_n 2, 1) := dk_28 (dk_at dksX1_lengthIn_0 20 rfl rfl)
theorem dX1_lengthIn_21 : decode cX1_lengthIn 21 = .ok (.invokevirtual 207, 3) := dk_182 0 207 (dk_at dksX1_lengthIn_0 21 rfl rfl)
theorem dX1_lengthIn_24 : decode cX1_lengthIn 24 = .ok (.ireturn, 1) := dk_172 (dk_at dksX1_lengthIn_1 0 rfl rfl)
theorem q76 : (Jvm.Cond.initialized "GaugeBlocks") ∈ lw_all := lw_g (lw_at lw_m1 1 rfl) rfl
theorem q126 : (Jvm.Cond.instantiable "GaugeBlocks" (4 : Nat)) ∈ lw_all := lw_g (lw_at lw_m1 51 rfl) rfl
theorem q128 : (Jvm.Cond.instanceMethod ({ cls := "GaugeBlocks", name := "<init>", desc := "()V" } : Jvm.MethodName)) ∈ lw_all := lw_g (lw_at lw_m1 53 rfl) rfl
theorem q129 : (Jvm.Cond.code ({ cls := "GaugeBlocks", name := "<init>", desc := "()V" } : Jvm.MethodName) prog_1_method_3_code (1 : Nat) (Option.none : Option Jvm.ClassFile.FieldType)) ∈ lw_all := lw_g (lw_at lw_m1 54 rfl) rfl
theorem q130 : (Jvm.Cond.methodLink "GaugeBlocks" (1 : Nat) ({ cls := "java/lang/Object", name := "<init>", desc := "()V" } : Jvm.MethodName)) ∈ lw_all := lw_g (lw_at lw_m1 55 rfl) rfl
theorem q133 : (Jvm.Cond.classLink "GaugeBlocks" (7 : Nat) "GaugeBlocks$State") ∈ lw_all := lw_g (lw_at lw_m1 58 rfl) rfl
theorem q135 : (Jvm.Cond.methodLink "GaugeBlocks" (9 : Nat) ({ cls := "GaugeBlocks$State", name := "<init>", desc := "()V" } : Jvm.MethodName)) ∈ lw_all := lw_g (lw_at lw_m1 60 rfl) rfl
theorem q200 : (Jvm.Cond.selects "GaugeBlocks" ({ cls := "java/lang/Object", name := "getClass", desc := "()Ljava/lang/Class;" } : Jvm.MethodName) ({ cls := "java/lang/Object", name := "getClass", desc := "()Ljava/lang/Class;" } : Jvm.MethodName)) ∈ lw_all := lw_g (lw_at lw_m1 125 rfl) rfl
theorem q244 : (Jvm.Cond.fieldLink "GaugeBlocks" (59 : Nat) "GaugeBlocks$State" "blocks" "Ljava/util/ArrayList;") ∈ lw_all := lw_g (lw_at lw_m1 169 rfl) rfl
theorem q246 : (Jvm.Cond.fieldLink "GaugeBlocks" (133 : Nat) "GaugeBlocks$State" "stacks" "Ljava/util/ArrayList;") ∈ lw_all := lw_g (lw_at lw_m1 171 rfl) rfl
theorem q248 : (Jvm.Cond.fieldLink "GaugeBlocks" (123 : Nat) "GaugeBlocks$State" "settings" "[I") ∈ lw_all := lw_g (lw_at lw_m1 173 rfl) rfl
theorem q250 : (Jvm.Cond.fieldLink "GaugeBlocks" (264 : Nat) "GaugeBlocks$State" "minutes" "I") ∈ lw_all := lw_g (lw_at lw_m1 175 rfl) rfl
theorem q252 : (Jvm.Cond.fieldLink "GaugeBlocks" (267 : Nat) "GaugeBlocks$State" "wrung" "I") ∈ lw_all := lw_g (lw_at lw_m1 177 rfl) rfl
theorem q254 : (Jvm.Cond.fieldLink "GaugeBlocks" (268 : Nat) "GaugeBlocks$State" "takenOff" "I") ∈ lw_all := lw_g (lw_at lw_m1 179 rfl) rfl
theorem q256 : (Jvm.Cond.fieldLink "GaugeBlocks" (272 : Nat) "GaugeBlocks$State" "refused" "I") ∈ lw_all := lw_g (lw_at lw_m1 181 rfl) rfl
theorem q273 : (Jvm.Cond.classLink "GaugeBlocks" (16 : Nat) "java/util/ArrayDeque") ∈ lw_all := lw_g (lw_at lw_m1 198 rfl) rfl
theorem q275 : (Jvm.Cond.methodLink "GaugeBlocks" (18 : Nat) ({ cls := "java/util/ArrayDeque", name := "<init>", desc := "()V" } : Jvm.MethodName)) ∈ lw_all := lw_g (lw_at lw_m1 200 rfl) rfl
theorem q291 : (Jvm.Cond.classLink "GaugeBlocks" (27 : Nat) "java/lang/StringBuilder") ∈ lw_all := lw_g (lw_at lw_m1 216 rfl) rfl
theorem q293 : (Jvm.Cond.methodLink "GaugeBlocks" (29 : Nat) ({ cls := "java/lang/StringBuilder", name := "<init>", desc := "()V" } : Jvm.MethodName)) ∈ lw_all := lw_g (lw_at lw_m1 218 rfl) rfl
theorem q324 : (Jvm.Cond.fieldLink "GaugeBlocks" (10 : Nat) "GaugeBlocks" "now" "LGaugeBlocks$State;") ∈ lw_all := lw_g (lw_at lw_m2 9 rfl) rfl
theorem q325 : (Jvm.Cond.fieldLink "GaugeBlocks" (19 : Nat) "GaugeBlocks" "saved" "Ljava/util/ArrayDeque;") ∈ lw_all := lw_g (lw_at lw_m2 10 rfl) rfl
theorem q326 : (Jvm.Cond.fieldLink "GaugeBlocks" (23 : Nat) "GaugeBlocks" "slots" "[LGaugeBlocks$State;") ∈ lw_all := lw_g (lw_at lw_m2 11 rfl) rfl
theorem q328 : (Jvm.Cond.fieldLink "GaugeBlocks" (30 : Nat) "GaugeBlocks" "buffer" "Ljava/lang/StringBuilder;") ∈ lw_all := lw_g (lw_at lw_m2 13 rfl) rfl
theorem q329 : (Jvm.Cond.lays "GaugeBlocks" "GaugeBlocks" "now" "LGaugeBlocks$State;") ∈ lw_all := lw_g (lw_at lw_m2 14 rfl) rfl
theorem q330 : (Jvm.Cond.soleField "GaugeBlocks" "now") ∈ lw_all := lw_g (lw_at lw_m2 15 rfl) rfl
theorem q331 : (Jvm.Cond.laysFinal "GaugeBlocks" "GaugeBlocks" "saved" "Ljava/util/ArrayDeque;") ∈ lw_all := lw_g (lw_at lw_m2 16 rfl) rfl
theorem q332 : (Jvm.Cond.soleField "GaugeBlocks" "saved") ∈ lw_all := lw_g (lw_at lw_m2 17 rfl) rfl
theorem q333 : (Jvm.Cond.laysFinal "GaugeBlocks" "GaugeBlocks" "slots" "[LGaugeBlocks$State;") ∈ lw_all := lw_g (lw_at lw_m2 18 rfl) rfl
theorem q334 : (Jvm.Cond.soleField "GaugeBlocks" "slots") ∈ lw_all := lw_g (lw_at lw_m2 19 rfl) rfl
theorem q335 : (Jvm.Cond.laysFinal "GaugeBlocks" "GaugeBlocks" "buffer" "Ljava/lang/StringBuilder;") ∈ lw_all := lw_g (lw_at lw_m2 20 rfl) rfl
theorem q336 : (Jvm.Cond.soleField "GaugeBlocks" "buffer") ∈ lw_all := lw_g (lw_at lw_m2 21 rfl) rfl
theorem q337 : (Jvm.Cond.superclass "GaugeBlocks" "java/lang/Object") ∈ lw_all := lw_g (lw_at lw_m2 22 rfl) rfl
theorem q339 : (Jvm.Cond.instanceMethod ({ cls := "GaugeBlocks", name := "clearBuffer", desc := "()I" } : Jvm.MethodName)) ∈ lw_all := lw_g (lw_at lw_m2 24 rfl) rfl
theorem q340 : (Jvm.Cond.selects "GaugeBlocks" ({ cls := "GaugeBlocks", name := "clearBuffer", desc := "()I" } : Jvm.MethodName) ({ cls := "GaugeBlocks", name := "clearBuffer", desc := "()I" } : Jvm.MethodName)) ∈ lw_all := lw_g (lw_at lw_m2 25 rfl) rfl
theorem q341 : (Jvm.Cond.code ({ cls := "GaugeBlocks", name := "clearBuffer", desc := "()I" } : Jvm.MethodName) prog_1_method_20_code (2 : Nat) (Option.some Jvm.ClassFile.FieldType.int)) ∈ lw_all := lw_g (lw_at lw_m2 26 rfl) rfl
theorem q342 : (Jvm.Cond.methodLink "GaugeBlocks" (146 : Nat) ({ cls := "java/lang/StringBuilder", name := "length", desc := "()I" } : Jvm.MethodName)) ∈ lw_all := lw_g (lw_at lw_m2 27 rfl) rfl
theorem q349 : (Jvm.Cond.methodLink "GaugeBlocks" (153 : Nat) ({ cls := "java/lang/StringBuilder", name := "setLength", desc := "(I)V" } : Jvm.MethodName)) ∈ lw_all := lw_g (lw_at lw_m2 34 rfl) rfl
theorem q673 : (Jvm.Cond.instanceMethod ({ cls := "GaugeBlocks", name := "firstError", desc := "()I" } : Jvm.MethodName)) ∈ lw_all := lw_g (lw_at lw_m3 118 rfl) rfl
theorem q674 : (Jvm.Cond.selects "GaugeBlocks" ({ cls := "GaugeBlocks", name := "firstError", desc := "()I" } : Jvm.MethodName) ({ cls := "GaugeBlocks", name := "firstError", desc := "()I" } : Jvm.MethodName)) ∈ lw_all := lw_g (lw_at lw_m3 119 rfl) rfl
theorem q675 : (Jvm.Cond.codeWith ({ cls := "GaugeBlocks", name := "firstError", desc := "()I" } : Jvm.MethodName) prog_1_method_21_code (2 : Nat) (Option.some Jvm.ClassFile.FieldType.int) [((0 : Nat), (19 : Nat), (20 : Nat), (165 : Nat))]) ∈ lw_all := lw_g (lw_at lw_m3 120 rfl) rfl
theorem q676 : (Jvm.Cond.classLink "GaugeBlocks" (165 : Nat) "GaugeBlocks$SyntaxFault") ∈ lw_all := lw_g (lw_at lw_m3 121 rfl) rfl
theorem q677 : (Jvm.Cond.classLink "GaugeBlocks" (156 : Nat) "GaugeBlocks$Reader") ∈ lw_all := lw_g (lw_at lw_m3 122 rfl) rfl
theorem q679 : (Jvm.Cond.methodLinkNest "GaugeBlocks" (158 : Nat) ({ cls := "GaugeBlocks$Reader", name := "<init>", desc := "(LGaugeBlocks;)V" } : Jvm.MethodName) "GaugeBlocks") ∈ lw_tbl := lw_at lw_m3 124 rfl
theorem q690 : (Jvm.Cond.methodLink "GaugeBlocks" (161 : Nat) ({ cls := "GaugeBlocks$Reader", name := "commands", desc := "()Ljava/util/ArrayList;" } : Jvm.MethodName)) ∈ lw_all := lw_g (lw_at lw_m3 135 rfl) rfl
theorem q741 : (Jvm.Cond.fieldLink "GaugeBlocks" (167 : Nat) "GaugeBlocks$SyntaxFault" "place" "I") ∈ lw_all := lw_g (lw_at lw_m3 186 rfl) rfl
theorem q754 : (Jvm.Cond.static ({ cls := "GaugeBlocks", name := "isIn", desc := "(III)Z" } : Jvm.MethodName)) ∈ lw_all := lw_g (lw_at lw_m3 199 rfl) rfl
theorem q755 : (Jvm.Cond.code ({ cls := "GaugeBlocks", name := "isIn", desc := "(III)Z" } : Jvm.MethodName) prog_1_method_1_code (3 : Nat) (Option.some Jvm.ClassFile.FieldType.boolean)) ∈ lw_all := lw_g (lw_at lw_m3 200 rfl) rfl
theorem q765 : (Jvm.Cond.fieldLink "GaugeBlocks" (179 : Nat) "GaugeBlocks$Command" "letter" "C") ∈ lw_all := lw_g (lw_at lw_m3 210 rfl) rfl
theorem q767 : (Jvm.Cond.fieldLink "GaugeBlocks" (176 : Nat) "GaugeBlocks$Command" "numbers" "[I") ∈ lw_all := lw_g (lw_at lw_m3 212 rfl) rfl
theorem q779 : (Jvm.Cond.instanceMethod ({ cls := "GaugeBlocks", name := "meanError", desc := "()D" } : Jvm.MethodName)) ∈ lw_all := lw_g (lw_at lw_m3 224 rfl) rfl
theorem q780 : (Jvm.Cond.selects "GaugeBlocks" ({ cls := "GaugeBlocks", name := "meanError", desc := "()D" } : Jvm.MethodName) ({ cls := "GaugeBlocks", name := "meanError", desc := "()D" } : Jvm.MethodName)) ∈ lw_all := lw_g (lw_at lw_m3 225 rfl) rfl
theorem q781 : (Jvm.Cond.code ({ cls := "GaugeBlocks", name := "meanError", desc := "()D" } : Jvm.MethodName) prog_1_method_39_code (4 : Nat) (Option.some Jvm.ClassFile.FieldType.double)) ∈ lw_all := lw_g (lw_at lw_m3 226 rfl) rfl
theorem q782 : (Jvm.Cond.methodLink "GaugeBlocks" (271 : Nat) ({ cls := "java/util/ArrayList", name := "iterator", desc := "()Ljava/util/Iterator;" } : Jvm.MethodName)) ∈ lw_all := lw_g (lw_at lw_m3 227 rfl) rfl
theorem q805 : (Jvm.Cond.interfaceEntry "GaugeBlocks" (248 : Nat)) ∈ lw_tbl := lw_at lw_m4 10 rfl
theorem q806 : (Jvm.Cond.methodLink "GaugeBlocks" (248 : Nat) ({ cls := "java/util/Iterator", name := "hasNext", desc := "()Z" } : Jvm.MethodName)) ∈ lw_all := lw_g (lw_at lw_m4 11 rfl) rfl
theorem q821 : (Jvm.Cond.interfaceEntry "GaugeBlocks" (253 : Nat)) ∈ lw_tbl := lw_at lw_m4 26 rfl
theorem q822 : (Jvm.Cond.methodLink "GaugeBlocks" (253 : Nat) ({ cls := "java/util/Iterator", name := "next", desc := "()Ljava/lang/Object;" } : Jvm.MethodName)) ∈ lw_all := lw_g (lw_at lw_m4 27 rfl) rfl
theorem q848 : (Jvm.Cond.classLink "GaugeBlocks" (78 : Nat) "GaugeBlocks$Block") ∈ lw_all := lw_g (lw_at lw_m4 53 rfl) rfl
theorem q849 : (Jvm.Cond.methodLink "GaugeBlocks" (190 : Nat) ({ cls := "GaugeBlocks$Block", name := "error", desc := "()I" } : Jvm.MethodName)) ∈ lw_all := lw_g (lw_at lw_m4 54 rfl) rfl
theorem q853 : (Jvm.Cond.methodLink "GaugeBlocks" (223 : Nat) ({ cls := "java/lang/Math", name := "abs", desc := "(I)I" } : Jvm.MethodName)) ∈ lw_all := lw_g (lw_at lw_m4 58 rfl) rfl
theorem q856 : (Jvm.Cond.methodLink "GaugeBlocks" (136 : Nat) ({ cls := "java/util/ArrayList", name := "isEmpty", desc := "()Z" } : Jvm.MethodName)) ∈ lw_all := lw_g (lw_at lw_m4 61 rfl) rfl
theorem q860 : (Jvm.Cond.methodLink "GaugeBlocks" (63 : Nat) ({ cls := "java/util/ArrayList", name := "size", desc := "()I" } : Jvm.MethodName)) ∈ lw_all := lw_g (lw_at lw_m4 65 rfl) rfl
theorem q870 : (Jvm.Cond.instanceMethod ({ cls := "GaugeBlocks", name := "block", desc := "(II)I" } : Jvm.MethodName)) ∈ lw_all := lw_g (lw_at lw_m4 75 rfl) rfl
theorem q871 : (Jvm.Cond.selects "GaugeBlocks" ({ cls := "GaugeBlocks", name := "block", desc := "(II)I" } : Jvm.MethodName) ({ cls := "GaugeBlocks", name := "block", desc := "(II)I" } : Jvm.MethodName)) ∈ lw_all := lw_g (lw_at lw_m4 76 rfl) rfl
theorem q872 : (Jvm.Cond.code ({ cls := "GaugeBlocks", name := "block", desc := "(II)I" } : Jvm.MethodName) prog_1_method_10_code (3 : Nat) (Option.some Jvm.ClassFile.FieldType.int)) ∈ lw_all := lw_g (lw_at lw_m4 77 rfl) rfl
theorem q873 : (Jvm.Cond.constant "GaugeBlocks" (80 : Nat) (100000 : Int32)) ∈ lw_all := lw_g (lw_at lw_m4 78 rfl) rfl
theorem q874 : (Jvm.Cond.methodLink "GaugeBlocks" (66 : Nat) ({ cls := "GaugeBlocks", name := "isIn", desc := "(III)Z" } : Jvm.MethodName)) ∈ lw_all := lw_g (lw_at lw_m4 79 rfl) rfl
theorem q875 : (Jvm.Cond.methodLink "GaugeBlocks" (81 : Nat) ({ cls := "GaugeBlocks", name := "require", desc := "(Z)V" } : Jvm.MethodName)) ∈ lw_all := lw_g (lw_at lw_m4 80 rfl) rfl
theorem q876 : (Jvm.Cond.static ({ cls := "GaugeBlocks", name := "require", desc := "(Z)V" } : Jvm.MethodName)) ∈ lw_all := lw_g (lw_at lw_m4 81 rfl) rfl
theorem q877 : (Jvm.Cond.code ({ cls := "GaugeBlocks", name := "require", desc := "(Z)V" } : Jvm.MethodName) prog_1_method_5_code (1 : Nat) (Option.none : Option Jvm.ClassFile.FieldType)) ∈ lw_all := lw_g (lw_at lw_m4 82 rfl) rfl
theorem q878 : (Jvm.Cond.classLink "GaugeBlocks" (50 : Nat) "java/lang/IllegalArgumentException") ∈ lw_all := lw_g (lw_at lw_m4 83 rfl) rfl
theorem q879 : (Jvm.Cond.methodLink "GaugeBlocks" (52 : Nat) ({ cls := "java/lang/IllegalArgumentException", name := "<init>", desc := "()V" } : Jvm.MethodName)) ∈ lw_all := lw_g (lw_at lw_m4 84 rfl) rfl
theorem q886 : (Jvm.Cond.methodLink "GaugeBlocks" (84 : Nat) ({ cls := "GaugeBlocks", name := "allow", desc := "(Z)V" } : Jvm.MethodName)) ∈ lw_all := lw_g (lw_at lw_m4 91 rfl) rfl
theorem q887 : (Jvm.Cond.static ({ cls := "GaugeBlocks", name := "allow", desc := "(Z)V" } : Jvm.MethodName)) ∈ lw_all := lw_g (lw_at lw_m4 92 rfl) rfl
theorem q888 : (Jvm.Cond.code ({ cls := "GaugeBlocks", name := "allow", desc := "(Z)V" } : Jvm.MethodName) prog_1_method_6_code (1 : Nat) (Option.none : Option Jvm.ClassFile.FieldType)) ∈ lw_all := lw_g (lw_at lw_m4 93 rfl) rfl
theorem q889 : (Jvm.Cond.classLink "GaugeBlocks" (53 : Nat) "java/lang/IllegalStateException") ∈ lw_all := lw_g (lw_at lw_m4 94 rfl) rfl
theorem q898 : (Jvm.Cond.methodLink "GaugeBlocks" (55 : Nat) ({ cls := "java/lang/IllegalStateException", name := "<init>", desc := "()V" } : Jvm.MethodName)) ∈ lw_all := lw_g (lw_at lw_m4 103 rfl) rfl
theorem q904 : (Jvm.Cond.methodLink "GaugeBlocks" (87 : Nat) ({ cls := "GaugeBlocks", name := "save", desc := "()V" } : Jvm.MethodName)) ∈ lw_all := lw_g (lw_at lw_m4 109 rfl) rfl
theorem q905 : (Jvm.Cond.privateMethod ({ cls := "GaugeBlocks", name := "save", desc := "()V" } : Jvm.MethodName)) ∈ lw_tbl := lw_at lw_m4 110 rfl
theorem q906 : (Jvm.Cond.instanceMethod ({ cls := "GaugeBlocks", name := "save", desc := "()V" } : Jvm.MethodName)) ∈ lw_all := lw_g (lw_at lw_m4 111 rfl) rfl
theorem q907 : (Jvm.Cond.code ({ cls := "GaugeBlocks", name := "save", desc := "()V" } : Jvm.MethodName) prog_1_method_4_code (1 : Nat) (Option.none : Option Jvm.ClassFile.FieldType)) ∈ lw_all := lw_g (lw_at lw_m4 112 rfl) rfl
theorem q908 : (Jvm.Cond.methodLink "GaugeBlocks" (34 : Nat) ({ cls := "java/util/ArrayDeque", name := "size", desc := "()I" } : Jvm.MethodName)) ∈ lw_all := lw_g (lw_at lw_m4 113 rfl) rfl
theorem q915 : (Jvm.Cond.methodLink "GaugeBlocks" (38 : Nat) ({ cls := "java/util/ArrayDeque", name := "removeFirst", desc := "()Ljava/lang/Object;" } : Jvm.MethodName)) ∈ lw_all := lw_g (lw_at lw_m4 120 rfl) rfl
theorem q929 : (Jvm.Cond.methodLink "GaugeBlocks" (42 : Nat) ({ cls := "GaugeBlocks$State", name := "copy", desc := "()LGaugeBlocks$State;" } : Jvm.MethodName)) ∈ lw_all := lw_g (lw_at lw_m4 134 rfl) rfl
theorem q963 : (Jvm.Cond.fieldLink "GaugeBlocks" (187 : Nat) "GaugeBlocks$Block" "nominal" "I") ∈ lw_all := lw_g (lw_at lw_m4 168 rfl) rfl
theorem q967 : (Jvm.Cond.fieldLink "GaugeBlocks" (193 : Nat) "GaugeBlocks$Block" "wear" "I") ∈ lw_all := lw_g (lw_at lw_m4 172 rfl) rfl
theorem q971 : (Jvm.Cond.fieldLink "GaugeBlocks" (115 : Nat) "GaugeBlocks$Block" "warmth" "I") ∈ lw_all := lw_g (lw_at lw_m4 176 rfl) rfl
theorem q974 : (Jvm.Cond.fieldLink "GaugeBlocks" (202 : Nat) "GaugeBlocks$Block" "wrung" "I") ∈ lw_all := lw_g (lw_at lw_m4 179 rfl) rfl
theorem q977 : (Jvm.Cond.fieldLink "GaugeBlocks" (199 : Nat) "GaugeBlocks$Block" "stack" "I") ∈ lw_all := lw_g (lw_at lw_m4 182 rfl) rfl
theorem q995 : (Jvm.Cond.methodLink "GaugeBlocks" (46 : Nat) ({ cls := "java/util/ArrayDeque", name := "addLast", desc := "(Ljava/lang/Object;)V" } : Jvm.MethodName)) ∈ lw_all := lw_g (lw_at lw_m4 200 rfl) rfl
theorem q1017 : (Jvm.Cond.methodLink "GaugeBlocks" (90 : Nat) ({ cls := "GaugeBlocks$State", name := "add", desc := "(II)I" } : Jvm.MethodName)) ∈ lw_all := lw_g (lw_at lw_m4 222 rfl) rfl
theorem q1029 : (Jvm.Cond.instanceMethod ({ cls := "GaugeBlocks", name := "discard", desc := "(I)I" } : Jvm.MethodName)) ∈ lw_all := lw_g (lw_at lw_m4 234 rfl) rfl
theorem q1030 : (Jvm.Cond.selects "GaugeBlocks" ({ cls := "GaugeBlocks", name := "discard", desc := "(I)I" } : Jvm.MethodName) ({ cls := "GaugeBlocks", name := "discard", desc := "(I)I" } : Jvm.MethodName)) ∈ lw_all := lw_g (lw_at lw_m4 235 rfl) rfl
theorem q1031 : (Jvm.Cond.code ({ cls := "GaugeBlocks", name := "discard", desc := "(I)I" } : Jvm.MethodName) prog_1_method_11_code (2 : Nat) (Option.some Jvm.ClassFile.FieldType.int)) ∈ lw_all := lw_g (lw_at lw_m4 236 rfl) rfl
theorem q1032 : (Jvm.Cond.methodLink "GaugeBlocks" (94 : Nat) ({ cls := "GaugeBlocks", name := "blockAt", desc := "(I)LGaugeBlocks$Block;" } : Jvm.MethodName)) ∈ lw_all := lw_g (lw_at lw_m4 237 rfl) rfl
theorem q1033 : (Jvm.Cond.privateMethod ({ cls := "GaugeBlocks", name := "blockAt", desc := "(I)LGaugeBlocks$Block;" } : Jvm.MethodName)) ∈ lw_tbl := lw_at lw_m4 238 rfl
theorem q1034 : (Jvm.Cond.instanceMethod ({ cls := "GaugeBlocks", name := "blockAt", desc := "(I)LGaugeBlocks$Block;" } : Jvm.MethodName)) ∈ lw_all := lw_g (lw_at lw_m4 239 rfl) rfl
theorem q1035 : (Jvm.Cond.code ({ cls := "GaugeBlocks", name := "blockAt", desc := "(I)LGaugeBlocks$Block;" } : Jvm.MethodName) prog_1_method_8_code (2 : Nat) (Option.some (Jvm.ClassFile.FieldType.object "GaugeBlocks$Block"))) ∈ lw_all := lw_g (lw_at lw_m5 0 rfl) rfl
theorem q1036 : (Jvm.Cond.methodLink "GaugeBlocks" (70 : Nat) ({ cls := "GaugeBlocks", name := "exists", desc := "(Z)V" } : Jvm.MethodName)) ∈ lw_all := lw_g (lw_at lw_m5 1 rfl) rfl
theorem q1037 : (Jvm.Cond.static ({ cls := "GaugeBlocks", name := "exists", desc := "(Z)V" } : Jvm.MethodName)) ∈ lw_all := lw_g (lw_at lw_m5 2 rfl) rfl
theorem q1038 : (Jvm.Cond.code ({ cls := "GaugeBlocks", name := "exists", desc := "(Z)V" } : Jvm.MethodName) prog_1_method_7_code (1 : Nat) (Option.none : Option Jvm.ClassFile.FieldType)) ∈ lw_all := lw_g (lw_at lw_m5 3 rfl) rfl
theorem q1039 : (Jvm.Cond.classLink "GaugeBlocks" (56 : Nat) "java/lang/IndexOutOfBoundsException") ∈ lw_all := lw_g (lw_at lw_m5 4 rfl) rfl
theorem q1048 : (Jvm.Cond.methodLink "GaugeBlocks" (58 : Nat) ({ cls := "java/lang/IndexOutOfBoundsException", name := "<init>", desc := "()V" } : Jvm.MethodName)) ∈ lw_all := lw_g (lw_at lw_m5 13 rfl) rfl
theorem q1054 : (Jvm.Cond.methodLink "GaugeBlocks" (74 : Nat) ({ cls := "java/util/ArrayList", name := "get", desc := "(I)Ljava/lang/Object;" } : Jvm.MethodName)) ∈ lw_all := lw_g (lw_at lw_m5 19 rfl) rfl
theorem q1055 : (Jvm.Cond.methodLink "GaugeBlocks" (98 : Nat) ({ cls := "GaugeBlocks$Block", name := "isFree", desc := "()Z" } : Jvm.MethodName)) ∈ lw_all := lw_g (lw_at lw_m5 20 rfl) rfl
theorem q1059 : (Jvm.Cond.methodLink "GaugeBlocks" (102 : Nat) ({ cls := "java/util/ArrayList", name := "remove", desc := "(I)Ljava/lang/Object;" } : Jvm.MethodName)) ∈ lw_all := lw_g (lw_at lw_m5 24 rfl) rfl
theorem q1072 : (Jvm.Cond.instanceMethod ({ cls := "GaugeBlocks", name := "calibrate", desc := "(I)I" } : Jvm.MethodName)) ∈ lw_all := lw_g (lw_at lw_m5 37 rfl) rfl
theorem q1073 : (Jvm.Cond.selects "GaugeBlocks" ({ cls := "GaugeBlocks", name := "calibrate", desc := "(I)I" } : Jvm.MethodName) ({ cls := "GaugeBlocks", name := "calibrate", desc := "(I)I" } : Jvm.MethodName)) ∈ lw_all := lw_g (lw_at lw_m5 38 rfl) rfl
theorem q1074 : (Jvm.Cond.code ({ cls := "GaugeBlocks", name := "calibrate", desc := "(I)I" } : Jvm.MethodName) prog_1_method_12_code (3 : Nat) (Option.some Jvm.ClassFile.FieldType.int)) ∈ lw_all := lw_g (lw_at lw_m5 39 rfl) rfl
theorem q1075 : (Jvm.Cond.methodLink "GaugeBlocks" (105 : Nat) ({ cls := "GaugeBlocks$Block", name := "calibrate", desc := "()V" } : Jvm.MethodName)) ∈ lw_all := lw_g (lw_at lw_m5 40 rfl) rfl
theorem q1081 : (Jvm.Cond.methodLink "GaugeBlocks" (108 : Nat) ({ cls := "GaugeBlocks$Block", name := "grade", desc := "()I" } : Jvm.MethodName)) ∈ lw_all := lw_g (lw_at lw_m5 46 rfl) rfl
theorem q1090 : (Jvm.Cond.instanceMethod ({ cls := "GaugeBlocks", name := "hold", desc := "(II)I" } : Jvm.MethodName)) ∈ lw_all := lw_g (lw_at lw_m5 55 rfl) rfl
theorem q1091 : (Jvm.Cond.selects "GaugeBlocks" ({ cls := "GaugeBlocks", name := "hold", desc := "(II)I" } : Jvm.MethodName) ({ cls := "GaugeBlocks", name := "hold", desc := "(II)I" } : Jvm.MethodName)) ∈ lw_all := lw_g (lw_at lw_m5 56 rfl) rfl
theorem q1092 : (Jvm.Cond.code ({ cls := "GaugeBlocks", name := "hold", desc := "(II)I" } : Jvm.MethodName) prog_1_method_13_code (4 : Nat) (Option.some Jvm.ClassFile.FieldType.int)) ∈ lw_all := lw_g (lw_at lw_m5 57 rfl) rfl
theorem q1093 : (Jvm.Cond.methodLink "GaugeBlocks" (111 : Nat) ({ cls := "GaugeBlocks$Block", name := "warm", desc := "(I)V" } : Jvm.MethodName)) ∈ lw_all := lw_g (lw_at lw_m5 58 rfl) rfl
theorem q1102 : (Jvm.Cond.instanceMethod ({ cls := "GaugeBlocks", name := "rest", desc := "(I)I" } : Jvm.MethodName)) ∈ lw_all := lw_g (lw_at lw_m5 67 rfl) rfl
theorem q1103 : (Jvm.Cond.selects "GaugeBlocks" ({ cls := "GaugeBlocks", name := "rest", desc := "(I)I" } : Jvm.MethodName) ({ cls := "GaugeBlocks", name := "rest", desc := "(I)I" } : Jvm.MethodName)) ∈ lw_all := lw_g (lw_at lw_m5 68 rfl) rfl
theorem q1104 : (Jvm.Cond.code ({ cls := "GaugeBlocks", name := "rest", desc := "(I)I" } : Jvm.MethodName) prog_1_method_14_code (2 : Nat) (Option.some Jvm.ClassFile.FieldType.int)) ∈ lw_all := lw_g (lw_at lw_m5 69 rfl) rfl
theorem q1105 : (Jvm.Cond.methodLink "GaugeBlocks" (119 : Nat) ({ cls := "GaugeBlocks$State", name := "rest", desc := "(I)I" } : Jvm.MethodName)) ∈ lw_all := lw_g (lw_at lw_m5 70 rfl) rfl
theorem q1110 : (Jvm.Cond.static ({ cls := "GaugeBlocks", name := "cooled", desc := "(I)I" } : Jvm.MethodName)) ∈ lw_all := lw_g (lw_at lw_m5 75 rfl) rfl
theorem q1111 : (Jvm.Cond.code ({ cls := "GaugeBlocks", name := "cooled", desc := "(I)I" } : Jvm.MethodName) prog_1_method_2_code (1 : Nat) (Option.some Jvm.ClassFile.FieldType.int)) ∈ lw_all := lw_g (lw_at lw_m5 76 rfl) rfl
theorem q1121 : (Jvm.Cond.instanceMethod ({ cls := "GaugeBlocks", name := "set", desc := "(II)I" } : Jvm.MethodName)) ∈ lw_all := lw_g (lw_at lw_m5 86 rfl) rfl
theorem q1122 : (Jvm.Cond.selects "GaugeBlocks" ({ cls := "GaugeBlocks", name := "set", desc := "(II)I" } : Jvm.MethodName) ({ cls := "GaugeBlocks", name := "set", desc := "(II)I" } : Jvm.MethodName)) ∈ lw_all := lw_g (lw_at lw_m5 87 rfl) rfl
theorem q1123 : (Jvm.Cond.code ({ cls := "GaugeBlocks", name := "set", desc := "(II)I" } : Jvm.MethodName) prog_1_method_15_code (4 : Nat) (Option.some Jvm.ClassFile.FieldType.int)) ∈ lw_all := lw_g (lw_at lw_m5 88 rfl) rfl
theorem q1128 : (Jvm.Cond.instanceMethod ({ cls := "GaugeBlocks", name := "wring", desc := "(II)I" } : Jvm.MethodName)) ∈ lw_all := lw_g (lw_at lw_m5 93 rfl) rfl
theorem q1129 : (Jvm.Cond.selects "GaugeBlocks" ({ cls := "GaugeBlocks", name := "wring", desc := "(II)I" } : Jvm.MethodName) ({ cls := "GaugeBlocks", name := "wring", desc := "(II)I" } : Jvm.MethodName)) ∈ lw_all := lw_g (lw_at lw_m5 94 rfl) rfl
theorem q1130 : (Jvm.Cond.code ({ cls := "GaugeBlocks", name := "wring", desc := "(II)I" } : Jvm.MethodName) prog_1_method_16_code (3 : Nat) (Option.some Jvm.ClassFile.FieldType.int)) ∈ lw_all := lw_g (lw_at lw_m5 95 rfl) rfl
theorem q1131 : (Jvm.Cond.methodLink "GaugeBlocks" (127 : Nat) ({ cls := "GaugeBlocks", name := "checkStack", desc := "(I)V" } : Jvm.MethodName)) ∈ lw_all := lw_g (lw_at lw_m5 96 rfl) rfl
theorem q1132 : (Jvm.Cond.static ({ cls := "GaugeBlocks", name := "checkStack", desc := "(I)V" } : Jvm.MethodName)) ∈ lw_all := lw_g (lw_at lw_m5 97 rfl) rfl
theorem q1133 : (Jvm.Cond.code ({ cls := "GaugeBlocks", name := "checkStack", desc := "(I)V" } : Jvm.MethodName) prog_1_method_9_code (1 : Nat) (Option.none : Option Jvm.ClassFile.FieldType)) ∈ lw_all := lw_g (lw_at lw_m5 98 rfl) rfl
theorem q1134 : (Jvm.Cond.methodLink "GaugeBlocks" (130 : Nat) ({ cls := "GaugeBlocks$State", name := "wring", desc := "(II)I" } : Jvm.MethodName)) ∈ lw_all := lw_g (lw_at lw_m5 99 rfl) rfl
theorem q1158 : (Jvm.Cond.instanceMethod ({ cls := "GaugeBlocks", name := "takeOff", desc := "(I)I" } : Jvm.MethodName)) ∈ lw_all := lw_g (lw_at lw_m5 123 rfl) rfl
theorem q1159 : (Jvm.Cond.selects "GaugeBlocks" ({ cls := "GaugeBlocks", name := "takeOff", desc := "(I)I" } : Jvm.MethodName) ({ cls := "GaugeBlocks", name := "takeOff", desc := "(I)I" } : Jvm.MethodName)) ∈ lw_all := lw_g (lw_at lw_m5 124 rfl) rfl
theorem q1160 : (Jvm.Cond.code ({ cls := "GaugeBlocks", name := "takeOff", desc := "(I)I" } : Jvm.MethodName) prog_1_method_17_code (2 : Nat) (Option.some Jvm.ClassFile.FieldType.int)) ∈ lw_all := lw_g (lw_at lw_m5 125 rfl) rfl
theorem q1161 : (Jvm.Cond.classLink "GaugeBlocks" (64 : Nat) "java/util/ArrayList") ∈ lw_all := lw_g (lw_at lw_m5 126 rfl) rfl
theorem q1162 : (Jvm.Cond.methodLink "GaugeBlocks" (139 : Nat) ({ cls := "GaugeBlocks$State", name := "takeOff", desc := "(I)I" } : Jvm.MethodName)) ∈ lw_all := lw_g (lw_at lw_m5 127 rfl) rfl
theorem q1171 : (Jvm.Cond.instanceMethod ({ cls := "GaugeBlocks", name := "make", desc := "(II)I" } : Jvm.MethodName)) ∈ lw_all := lw_g (lw_at lw_m5 136 rfl) rfl
theorem q1172 : (Jvm.Cond.selects "GaugeBlocks" ({ cls := "GaugeBlocks", name := "make", desc := "(II)I" } : Jvm.MethodName) ({ cls := "GaugeBlocks", name := "make", desc := "(II)I" } : Jvm.MethodName)) ∈ lw_all := lw_g (lw_at lw_m5 137 rfl) rfl
theorem q1173 : (Jvm.Cond.code ({ cls := "GaugeBlocks", name := "make", desc := "(II)I" } : Jvm.MethodName) prog_1_method_18_code (3 : Nat) (Option.some Jvm.ClassFile.FieldType.int)) ∈ lw_all := lw_g (lw_at lw_m5 138 rfl) rfl
theorem q1174 : (Jvm.Cond.constant "GaugeBlocks" (142 : Nat) (600000 : Int32)) ∈ lw_all := lw_g (lw_at lw_m5 139 rfl) rfl
theorem q1175 : (Jvm.Cond.methodLink "GaugeBlocks" (143 : Nat) ({ cls := "GaugeBlocks$State", name := "make", desc := "(II)I" } : Jvm.MethodName)) ∈ lw_all := lw_g (lw_at lw_m5 140 rfl) rfl
theorem q1221 : (Jvm.Cond.instanceMethod ({ cls := "GaugeBlocks", name := "append", desc := "(I)I" } : Jvm.MethodName)) ∈ lw_all := lw_g (lw_at lw_m5 186 rfl) rfl
theorem q1222 : (Jvm.Cond.selects "GaugeBlocks" ({ cls := "GaugeBlocks", name := "append", desc := "(I)I" } : Jvm.MethodName) ({ cls := "GaugeBlocks", name := "append", desc := "(I)I" } : Jvm.MethodName)) ∈ lw_all := lw_g (lw_at lw_m5 187 rfl) rfl
theorem q1223 : (Jvm.Cond.code ({ cls := "GaugeBlocks", name := "append", desc := "(I)I" } : Jvm.MethodName) prog_1_method_19_code (2 : Nat) (Option.some Jvm.ClassFile.FieldType.int)) ∈ lw_all := lw_g (lw_at lw_m5 188 rfl) rfl
theorem q1224 : (Jvm.Cond.methodLink "GaugeBlocks" (149 : Nat) ({ cls := "java/lang/StringBuilder", name := "append", desc := "(C)Ljava/lang/StringBuilder;" } : Jvm.MethodName)) ∈ lw_all := lw_g (lw_at lw_m5 189 rfl) rfl
theorem q1245 : (Jvm.Cond.instanceMethod ({ cls := "GaugeBlocks", name := "execute", desc := "()I" } : Jvm.MethodName)) ∈ lw_all := lw_g (lw_at lw_m5 210 rfl) rfl
theorem q1246 : (Jvm.Cond.selects "GaugeBlocks" ({ cls := "GaugeBlocks", name := "execute", desc := "()I" } : Jvm.MethodName) ({ cls := "GaugeBlocks", name := "execute", desc := "()I" } : Jvm.MethodName)) ∈ lw_all := lw_g (lw_at lw_m5 211 rfl) rfl
theorem q1247 : (Jvm.Cond.codeWith ({ cls := "GaugeBlocks", name := "execute", desc := "()I" } : Jvm.MethodName) prog_1_method_22_code (3 : Nat) (Option.some Jvm.ClassFile.FieldType.int) [((0 : Nat), (12 : Nat), (15 : Nat), (165 : Nat))]) ∈ lw_all := lw_g (lw_at lw_m5 212 rfl) rfl
theorem q1248 : (Jvm.Cond.classLink "GaugeBlocks" (170 : Nat) "GaugeBlocks$Command") ∈ lw_all := lw_g (lw_at lw_m5 213 rfl) rfl
theorem q1249 : (Jvm.Cond.methodLink "GaugeBlocks" (172 : Nat) ({ cls := "GaugeBlocks", name := "run", desc := "(LGaugeBlocks$Command;)Z" } : Jvm.MethodName)) ∈ lw_all := lw_g (lw_at lw_m5 214 rfl) rfl
theorem q1250 : (Jvm.Cond.privateMethod ({ cls := "GaugeBlocks", name := "run", desc := "(LGaugeBlocks$Command;)Z" } : Jvm.MethodName)) ∈ lw_tbl := lw_at lw_m5 215 rfl
theorem q1251 : (Jvm.Cond.instanceMethod ({ cls := "GaugeBlocks", name := "run", desc := "(LGaugeBlocks$Command;)Z" } : Jvm.MethodName)) ∈ lw_all := lw_g (lw_at lw_m5 216 rfl) rfl
theorem q1252 : (Jvm.Cond.code ({ cls := "GaugeBlocks", name := "run", desc := "(LGaugeBlocks$Command;)Z" } : Jvm.MethodName) prog_1_method_23_code (3 : Nat) (Option.some Jvm.ClassFile.FieldType.boolean)) ∈ lw_all := lw_g (lw_at lw_m5 217 rfl) rfl
theorem q1257 : (Jvm.Cond.instanceMethod ({ cls := "GaugeBlocks", name := "undo", desc := "()I" } : Jvm.MethodName)) ∈ lw_all := lw_g (lw_at lw_m5 222 rfl) rfl
theorem q1258 : (Jvm.Cond.selects "GaugeBlocks" ({ cls := "GaugeBlocks", name := "undo", desc := "()I" } : Jvm.MethodName) ({ cls := "GaugeBlocks", name := "undo", desc := "()I" } : Jvm.MethodName)) ∈ lw_all := lw_g (lw_at lw_m5 223 rfl) rfl
theorem q1259 : (Jvm.Cond.code ({ cls := "GaugeBlocks", name := "undo", desc := "()I" } : Jvm.MethodName) prog_1_method_24_code (1 : Nat) (Option.some Jvm.ClassFile.FieldType.int)) ∈ lw_all := lw_g (lw_at lw_m5 224 rfl) rfl
theorem q1260 : (Jvm.Cond.methodLink "GaugeBlocks" (183 : Nat) ({ cls := "java/util/ArrayDeque", name := "isEmpty", desc := "()Z" } : Jvm.MethodName)) ∈ lw_all := lw_g (lw_at lw_m5 225 rfl) rfl
theorem q1264 : (Jvm.Cond.methodLink "GaugeBlocks" (184 : Nat) ({ cls := "java/util/ArrayDeque", name := "removeLast", desc := "()Ljava/lang/Object;" } : Jvm.MethodName)) ∈ lw_all := lw_g (lw_at lw_m5 229 rfl) rfl
theorem q1279 : (Jvm.Cond.instanceMethod ({ cls := "GaugeBlocks", name := "keep", desc := "(I)I" } : Jvm.MethodName)) ∈ lw_all := lw_g (lw_at lw_m6 4 rfl) rfl
theorem q1280 : (Jvm.Cond.selects "GaugeBlocks" ({ cls := "GaugeBlocks", name := "keep", desc := "(I)I" } : Jvm.MethodName) ({ cls := "GaugeBlocks", name := "keep", desc := "(I)I" } : Jvm.MethodName)) ∈ lw_all := lw_g (lw_at lw_m6 5 rfl) rfl
theorem q1281 : (Jvm.Cond.code ({ cls := "GaugeBlocks", name := "keep", desc := "(I)I" } : Jvm.MethodName) prog_1_method_25_code (2 : Nat) (Option.some Jvm.ClassFile.FieldType.int)) ∈ lw_all := lw_g (lw_at lw_m6 6 rfl) rfl
theorem q1286 : (Jvm.Cond.instanceMethod ({ cls := "GaugeBlocks", name := "goBack", desc := "(I)I" } : Jvm.MethodName)) ∈ lw_all := lw_g (lw_at lw_m6 11 rfl) rfl
theorem q1287 : (Jvm.Cond.selects "GaugeBlocks" ({ cls := "GaugeBlocks", name := "goBack", desc := "(I)I" } : Jvm.MethodName) ({ cls := "GaugeBlocks", name := "goBack", desc := "(I)I" } : Jvm.MethodName)) ∈ lw_all := lw_g (lw_at lw_m6 12 rfl) rfl
theorem q1288 : (Jvm.Cond.code ({ cls := "GaugeBlocks", name := "goBack", desc := "(I)I" } : Jvm.MethodName) prog_1_method_26_code (2 : Nat) (Option.some Jvm.ClassFile.FieldType.int)) ∈ lw_all := lw_g (lw_at lw_m6 13 rfl) rfl
theorem q1293 : (Jvm.Cond.instanceMethod ({ cls := "GaugeBlocks", name := "blockOf", desc := "(II)I" } : Jvm.MethodName)) ∈ lw_all := lw_g (lw_at lw_m6 18 rfl) rfl
theorem q1294 : (Jvm.Cond.selects "GaugeBlocks" ({ cls := "GaugeBlocks", name := "blockOf", desc := "(II)I" } : Jvm.MethodName) ({ cls := "GaugeBlocks", name := "blockOf", desc := "(II)I" } : Jvm.MethodName)) ∈ lw_all := lw_g (lw_at lw_m6 19 rfl) rfl
theorem q1295 : (Jvm.Cond.code ({ cls := "GaugeBlocks", name := "blockOf", desc := "(II)I" } : Jvm.MethodName) prog_1_method_27_code (6 : Nat) (Option.some Jvm.ClassFile.FieldType.int)) ∈ lw_all := lw_g (lw_at lw_m6 20 rfl) rfl
theorem q1296 : (Jvm.Cond.methodLink "GaugeBlocks" (196 : Nat) ({ cls := "GaugeBlocks$Block", name := "lengthAt", desc := "(I)I" } : Jvm.MethodName)) ∈ lw_all := lw_g (lw_at lw_m6 21 rfl) rfl
theorem q1304 : (Jvm.Cond.instanceMethod ({ cls := "GaugeBlocks", name := "stackOf", desc := "(II)I" } : Jvm.MethodName)) ∈ lw_all := lw_g (lw_at lw_m6 29 rfl) rfl
theorem q1305 : (Jvm.Cond.selects "GaugeBlocks" ({ cls := "GaugeBlocks", name := "stackOf", desc := "(II)I" } : Jvm.MethodName) ({ cls := "GaugeBlocks", name := "stackOf", desc := "(II)I" } : Jvm.MethodName)) ∈ lw_all := lw_g (lw_at lw_m6 30 rfl) rfl
theorem q1306 : (Jvm.Cond.code ({ cls := "GaugeBlocks", name := "stackOf", desc := "(II)I" } : Jvm.MethodName) prog_1_method_28_code (3 : Nat) (Option.some Jvm.ClassFile.FieldType.int)) ∈ lw_all := lw_g (lw_at lw_m6 31 rfl) rfl
theorem q1307 : (Jvm.Cond.methodLink "GaugeBlocks" (205 : Nat) ({ cls := "GaugeBlocks$State", name := "nominal", desc := "(I)I" } : Jvm.MethodName)) ∈ lw_all := lw_g (lw_at lw_m6 32 rfl) rfl
theorem q1311 : (Jvm.Cond.methodLink "GaugeBlocks" (207 : Nat) ({ cls := "GaugeBlocks$State", name := "lengthIn", desc := "(II)I" } : Jvm.MethodName)) ∈ lw_all := lw_g (lw_at lw_m6 36 rfl) rfl
theorem q1316 : (Jvm.Cond.methodLink "GaugeBlocks" (210 : Nat) ({ cls := "GaugeBlocks$State", name := "blocksIn", desc := "(I)I" } : Jvm.MethodName)) ∈ lw_all := lw_g (lw_at lw_m6 41 rfl) rfl
theorem q1320 : (Jvm.Cond.methodLink "GaugeBlocks" (213 : Nat) ({ cls := "GaugeBlocks$State", name := "top", desc := "(I)LGaugeBlocks$Block;" } : Jvm.MethodName)) ∈ lw_all := lw_g (lw_at lw_m6 45 rfl) rfl
theorem q1321 : (Jvm.Cond.methodLink "GaugeBlocks" (216 : Nat) ({ cls := "GaugeBlocks$State", name := "numberOf", desc := "(LGaugeBlocks$Block;)I" } : Jvm.MethodName)) ∈ lw_all := lw_g (lw_at lw_m6 46 rfl) rfl
theorem q1322 : (Jvm.Cond.methodLink "GaugeBlocks" (220 : Nat) ({ cls := "GaugeBlocks$State", name := "gradeOf", desc := "(I)I" } : Jvm.MethodName)) ∈ lw_all := lw_g (lw_at lw_m6 47 rfl) rfl
theorem q1330 : (Jvm.Cond.instanceMethod ({ cls := "GaugeBlocks", name := "ranked", desc := "(II)I" } : Jvm.MethodName)) ∈ lw_all := lw_g (lw_at lw_m6 55 rfl) rfl
theorem q1331 : (Jvm.Cond.selects "GaugeBlocks" ({ cls := "GaugeBlocks", name := "ranked", desc := "(II)I" } : Jvm.MethodName) ({ cls := "GaugeBlocks", name := "ranked", desc := "(II)I" } : Jvm.MethodName)) ∈ lw_all := lw_g (lw_at lw_m6 56 rfl) rfl
theorem q1332 : (Jvm.Cond.code ({ cls := "GaugeBlocks", name := "ranked", desc := "(II)I" } : Jvm.MethodName) prog_1_method_29_code (3 : Nat) (Option.some Jvm.ClassFile.FieldType.int)) ∈ lw_all := lw_g (lw_at lw_m6 57 rfl) rfl
theorem q1333 : (Jvm.Cond.methodLink "GaugeBlocks" (228 : Nat) ({ cls := "GaugeBlocks$State", name := "ranked", desc := "(II)I" } : Jvm.MethodName)) ∈ lw_all := lw_g (lw_at lw_m6 58 rfl) rfl
theorem q1675 : (Jvm.Cond.instanceMethod ({ cls := "GaugeBlocks", name := "lengths", desc := "(I)I" } : Jvm.MethodName)) ∈ lw_all := lw_g (lw_at lw_m7 160 rfl) rfl
theorem q1676 : (Jvm.Cond.selects "GaugeBlocks" ({ cls := "GaugeBlocks", name := "lengths", desc := "(I)I" } : Jvm.MethodName) ({ cls := "GaugeBlocks", name := "lengths", desc := "(I)I" } : Jvm.MethodName)) ∈ lw_all := lw_g (lw_at lw_m7 161 rfl) rfl
theorem q1677 : (Jvm.Cond.code ({ cls := "GaugeBlocks", name := "lengths", desc := "(I)I" } : Jvm.MethodName) prog_1_method_30_code (6 : Nat) (Option.some Jvm.ClassFile.FieldType.int)) ∈ lw_all := lw_g (lw_at lw_m7 162 rfl) rfl
theorem q1678 : (Jvm.Cond.methodLink "GaugeBlocks" (231 : Nat) ({ cls := "GaugeBlocks$State", name := "byLength", desc := "()Ljava/util/TreeMap;" } : Jvm.MethodName)) ∈ lw_all := lw_g (lw_at lw_m7 163 rfl) rfl
theorem q1841 : (Jvm.Cond.methodLink "GaugeBlocks" (235 : Nat) ({ cls := "java/util/TreeMap", name := "size", desc := "()I" } : Jvm.MethodName)) ∈ lw_all := lw_g (lw_at lw_m8 86 rfl) rfl
theorem q1842 : (Jvm.Cond.methodLink "GaugeBlocks" (238 : Nat) ({ cls := "java/util/TreeMap", name := "keySet", desc := "()Ljava/util/Set;" } : Jvm.MethodName)) ∈ lw_all := lw_g (lw_at lw_m8 87 rfl) rfl
theorem q1863 : (Jvm.Cond.interfaceEntry "GaugeBlocks" (242 : Nat)) ∈ lw_tbl := lw_at lw_m8 108 rfl
theorem q1864 : (Jvm.Cond.methodLink "GaugeBlocks" (242 : Nat) ({ cls := "java/util/Set", name := "iterator", desc := "()Ljava/util/Iterator;" } : Jvm.MethodName)) ∈ lw_all := lw_g (lw_at lw_m8 109 rfl) rfl
theorem q1908 : (Jvm.Cond.classLink "GaugeBlocks" (256 : Nat) "java/lang/Integer") ∈ lw_all := lw_g (lw_at lw_m8 153 rfl) rfl
theorem q1909 : (Jvm.Cond.methodLink "GaugeBlocks" (258 : Nat) ({ cls := "java/lang/Integer", name := "intValue", desc := "()I" } : Jvm.MethodName)) ∈ lw_all := lw_g (lw_at lw_m8 154 rfl) rfl
theorem q1914 : (Jvm.Cond.instanceMethod ({ cls := "GaugeBlocks", name := "count", desc := "(I)I" } : Jvm.MethodName)) ∈ lw_all := lw_g (lw_at lw_m8 159 rfl) rfl
theorem q1915 : (Jvm.Cond.selects "GaugeBlocks" ({ cls := "GaugeBlocks", name := "count", desc := "(I)I" } : Jvm.MethodName) ({ cls := "GaugeBlocks", name := "count", desc := "(I)I" } : Jvm.MethodName)) ∈ lw_all := lw_g (lw_at lw_m8 160 rfl) rfl
theorem q1916 : (Jvm.Cond.code ({ cls := "GaugeBlocks", name := "count", desc := "(I)I" } : Jvm.MethodName) prog_1_method_31_code (5 : Nat) (Option.some Jvm.ClassFile.FieldType.int)) ∈ lw_all := lw_g (lw_at lw_m8 161 rfl) rfl
theorem q1917 : (Jvm.Cond.methodLink "GaugeBlocks" (261 : Nat) ({ cls := "GaugeBlocks$State", name := "free", desc := "()I" } : Jvm.MethodName)) ∈ lw_all := lw_g (lw_at lw_m8 162 rfl) rfl
theorem q1922 : (Jvm.Cond.instanceMethod ({ cls := "GaugeBlocks", name := "setting", desc := "(I)I" } : Jvm.MethodName)) ∈ lw_all := lw_g (lw_at lw_m8 167 rfl) rfl
theorem q1923 : (Jvm.Cond.selects "GaugeBlocks" ({ cls := "GaugeBlocks", name := "setting", desc := "(I)I" } : Jvm.MethodName) ({ cls := "GaugeBlocks", name := "setting", desc := "(I)I" } : Jvm.MethodName)) ∈ lw_all := lw_g (lw_at lw_m8 168 rfl) rfl
theorem q1924 : (Jvm.Cond.code ({ cls := "GaugeBlocks", name := "setting", desc := "(I)I" } : Jvm.MethodName) prog_1_method_32_code (2 : Nat) (Option.some Jvm.ClassFile.FieldType.int)) ∈ lw_all := lw_g (lw_at lw_m8 169 rfl) rfl
theorem q1929 : (Jvm.Cond.instanceMethod ({ cls := "GaugeBlocks", name := "refusal", desc := "(II)I" } : Jvm.MethodName)) ∈ lw_all := lw_g (lw_at lw_m8 174 rfl) rfl
theorem q1930 : (Jvm.Cond.selects "GaugeBlocks" ({ cls := "GaugeBlocks", name := "refusal", desc := "(II)I" } : Jvm.MethodName) ({ cls := "GaugeBlocks", name := "refusal", desc := "(II)I" } : Jvm.MethodName)) ∈ lw_all := lw_g (lw_at lw_m8 175 rfl) rfl
theorem q1931 : (Jvm.Cond.code ({ cls := "GaugeBlocks", name := "refusal", desc := "(II)I" } : Jvm.MethodName) prog_1_method_33_code (3 : Nat) (Option.some Jvm.ClassFile.FieldType.int)) ∈ lw_all := lw_g (lw_at lw_m8 176 rfl) rfl
theorem q1932 : (Jvm.Cond.methodLink "GaugeBlocks" (275 : Nat) ({ cls := "GaugeBlocks$State", name := "refusal", desc := "(II)I" } : Jvm.MethodName)) ∈ lw_all := lw_g (lw_at lw_m8 177 rfl) rfl
theorem q1937 : (Jvm.Cond.instanceMethod ({ cls := "GaugeBlocks", name := "fewest", desc := "(II)I" } : Jvm.MethodName)) ∈ lw_all := lw_g (lw_at lw_m8 182 rfl) rfl
theorem q1938 : (Jvm.Cond.selects "GaugeBlocks" ({ cls := "GaugeBlocks", name := "fewest", desc := "(II)I" } : Jvm.MethodName) ({ cls := "GaugeBlocks", name := "fewest", desc := "(II)I" } : Jvm.MethodName)) ∈ lw_all := lw_g (lw_at lw_m8 183 rfl) rfl
theorem q1939 : (Jvm.Cond.code ({ cls := "GaugeBlocks", name := "fewest", desc := "(II)I" } : Jvm.MethodName) prog_1_method_34_code (4 : Nat) (Option.some Jvm.ClassFile.FieldType.int)) ∈ lw_all := lw_g (lw_at lw_m8 184 rfl) rfl
theorem q1940 : (Jvm.Cond.classLink "GaugeBlocks" (278 : Nat) "GaugeBlocks$Finder") ∈ lw_all := lw_g (lw_at lw_m8 185 rfl) rfl
theorem q1941 : (Jvm.Cond.methodLink "GaugeBlocks" (280 : Nat) ({ cls := "GaugeBlocks$Finder", name := "<init>", desc := "(LGaugeBlocks$State;I)V" } : Jvm.MethodName)) ∈ lw_all := lw_g (lw_at lw_m8 186 rfl) rfl
theorem q1942 : (Jvm.Cond.methodLink "GaugeBlocks" (283 : Nat) ({ cls := "GaugeBlocks$Finder", name := "fewest", desc := "()I" } : Jvm.MethodName)) ∈ lw_all := lw_g (lw_at lw_m8 187 rfl) rfl
theorem q1943 : (Jvm.Cond.methodLink "GaugeBlocks" (286 : Nat) ({ cls := "java/lang/Integer", name := "bitCount", desc := "(I)I" } : Jvm.MethodName)) ∈ lw_all := lw_g (lw_at lw_m8 188 rfl) rfl
theorem q1953 : (Jvm.Cond.instanceMethod ({ cls := "GaugeBlocks", name := "oldWay", desc := "(II)I" } : Jvm.MethodName)) ∈ lw_all := lw_g (lw_at lw_m8 198 rfl) rfl
theorem q1954 : (Jvm.Cond.selects "GaugeBlocks" ({ cls := "GaugeBlocks", name := "oldWay", desc := "(II)I" } : Jvm.MethodName) ({ cls := "GaugeBlocks", name := "oldWay", desc := "(II)I" } : Jvm.MethodName)) ∈ lw_all := lw_g (lw_at lw_m8 199 rfl) rfl
theorem q1955 : (Jvm.Cond.code ({ cls := "GaugeBlocks", name := "oldWay", desc := "(II)I" } : Jvm.MethodName) prog_1_method_35_code (4 : Nat) (Option.some Jvm.ClassFile.FieldType.int)) ∈ lw_all := lw_g (lw_at lw_m8 200 rfl) rfl
theorem q1956 : (Jvm.Cond.methodLink "GaugeBlocks" (289 : Nat) ({ cls := "GaugeBlocks$Finder", name := "oldWay", desc := "(Z)I" } : Jvm.MethodName)) ∈ lw_all := lw_g (lw_at lw_m8 201 rfl) rfl
theorem q1969 : (Jvm.Cond.instanceMethod ({ cls := "GaugeBlocks", name := "nearest", desc := "(I)I" } : Jvm.MethodName)) ∈ lw_all := lw_g (lw_at lw_m8 214 rfl) rfl
theorem q1970 : (Jvm.Cond.selects "GaugeBlocks" ({ cls := "GaugeBlocks", name := "nearest", desc := "(I)I" } : Jvm.MethodName) ({ cls := "GaugeBlocks", name := "nearest", desc := "(I)I" } : Jvm.MethodName)) ∈ lw_all := lw_g (lw_at lw_m8 215 rfl) rfl
theorem q1971 : (Jvm.Cond.code ({ cls := "GaugeBlocks", name := "nearest", desc := "(I)I" } : Jvm.MethodName) prog_1_method_36_code (2 : Nat) (Option.some Jvm.ClassFile.FieldType.int)) ∈ lw_all := lw_g (lw_at lw_m8 216 rfl) rfl
theorem q1972 : (Jvm.Cond.methodLink "GaugeBlocks" (293 : Nat) ({ cls := "GaugeBlocks$Finder", name := "nearest", desc := "()I" } : Jvm.MethodName)) ∈ lw_all := lw_g (lw_at lw_m8 217 rfl) rfl
theorem q1981 : (Jvm.Cond.instanceMethod ({ cls := "GaugeBlocks", name := "coolIn", desc := "(I)I" } : Jvm.MethodName)) ∈ lw_all := lw_g (lw_at lw_m8 226 rfl) rfl
theorem q1982 : (Jvm.Cond.selects "GaugeBlocks" ({ cls := "GaugeBlocks", name := "coolIn", desc := "(I)I" } : Jvm.MethodName) ({ cls := "GaugeBlocks", name := "coolIn", desc := "(I)I" } : Jvm.MethodName)) ∈ lw_all := lw_g (lw_at lw_m8 227 rfl) rfl
theorem q1983 : (Jvm.Cond.code ({ cls := "GaugeBlocks", name := "coolIn", desc := "(I)I" } : Jvm.MethodName) prog_1_method_37_code (4 : Nat) (Option.some Jvm.ClassFile.FieldType.int)) ∈ lw_all := lw_g (lw_at lw_m8 228 rfl) rfl
theorem q1984 : (Jvm.Cond.methodLink "GaugeBlocks" (296 : Nat) ({ cls := "GaugeBlocks", name := "cooled", desc := "(I)I" } : Jvm.MethodName)) ∈ lw_all := lw_g (lw_at lw_m8 229 rfl) rfl
theorem q1989 : (Jvm.Cond.instanceMethod ({ cls := "GaugeBlocks", name := "lengthIn", desc := "(II)I" } : Jvm.MethodName)) ∈ lw_all := lw_g (lw_at lw_m8 234 rfl) rfl
theorem q1990 : (Jvm.Cond.selects "GaugeBlocks" ({ cls := "GaugeBlocks", name := "lengthIn", desc := "(II)I" } : Jvm.MethodName) ({ cls := "GaugeBlocks", name := "lengthIn", desc := "(II)I" } : Jvm.MethodName)) ∈ lw_all := lw_g (lw_at lw_m8 235 rfl) rfl
theorem q1991 : (Jvm.Cond.code ({ cls := "GaugeBlocks", name := "lengthIn", desc := "(II)I" } : Jvm.MethodName) prog_1_method_38_code (3 : Nat) (Option.some Jvm.ClassFile.FieldType.int)) ∈ lw_all := lw_g (lw_at lw_m8 236 rfl) rfl
theorem q2412 : (Jvm.Cond.castable "GaugeBlocks" "java/lang/Object") ∈ lw_tbl := lw_at lw_m10 177 rfl
theorem in_X1 : ∀ w ∈ wsX10, w ∈ lw_all := lw_in wsX10 [329, 331, 333, 335] (by decide +kernel) (by decide +kernel)

/-! GaugeBlocks$State -/
set_option maxRecDepth 100000
def RX2 : String := "GaugeBlocks$State"
def TX2 : u_T := fun k => match k with
  | 0 => ("GaugeBlocks$State", "blocks", "Ljava/util/ArrayList;", true)
  | 1 => ("GaugeBlocks$State", "stacks", "Ljava/util/ArrayList;", true)
  | 2 => ("GaugeBlocks$State", "settings", "[I", true)
  | 3 => ("GaugeBlocks$State", "minutes", "I", false)
  | 4 => ("GaugeBlocks$State", "wrung", "I", false)
  | 5 => ("GaugeBlocks$State", "takenOff", "I", false)
  | _ => ("GaugeBlocks$State", "refused", "I", false)
def tyX2 : Nat → FieldType := fun k => match k with
  | 0 => .object "java/util/ArrayList"
  | 1 => .object "java/util/ArrayList"
  | 2 => .array .int
  | 3 => .int
  | 4 => .int
  | 5 => .int
  | _ => .int
abbrev wsX20 : List Cond := u_ws RX2 TX2 7
theorem nmX2 : ∀ a, a < 7 → ∀ b, b < 7 → a ≠ b → (TX2 a).2.1 ≠ (TX2 b).2.1 := by decide +kernel
theorem tyX2_ok : ∀ k, k < 7 → parseFieldDescriptor (TX2 k).2.2.1 = some (tyX2 k) := by decide +kernel
abbrev cX2_init : ByteArray := prog_8_method_1_code
def yX2_init : MethodName := ⟨RX2, "<init>", "()V"⟩
def dkwX2_init_3 : List UInt8 := [182, 0, 25, 87, 132, 1, 1, 167, 255, 233, 177]
abbrev dktX2_init_3 : List UInt8 := dkwX2_init_3 ++ []
def dkwX2_init_2 : List UInt8 := [16, 40, 79, 181, 0, 21, 3, 60, 27, 6, 162, 0, 24, 42, 180, 0, 18, 187, 0, 9, 89, 183, 0, 11]
abbrev dktX2_init_2 : List UInt8 := dkwX2_init_2 ++ dktX2_init_3
def dkwX2_init_1 : List UInt8 := [181, 0, 18, 42, 7, 188, 10, 89, 3, 16, 10, 79, 89, 4, 17, 1, 44, 79, 89, 5, 6, 79, 89, 6]
abbrev dktX2_init_1 : List UInt8 := dkwX2_init_1 ++ dktX2_init_2
def dkwX2_init_0 : List UInt8 := [42, 183, 0, 3, 42, 187, 0, 9, 89, 183, 0, 11, 181, 0, 12, 42, 187, 0, 9, 89, 183, 0, 11]
abbrev dktX2_init_0 : List UInt8 := dkwX2_init_0 ++ dktX2_init_1
theorem dksX2_init_0 : cX2_init.data.toList.drop 0 = dktX2_init_0 := by decide +kernel
theorem dksX2_init_1 : cX2_init.data.toList.drop 23 = dktX2_init_1 := dk_seg dksX2_init_0 23 rfl rfl
theorem dksX2_init_2 : cX2_init.data.toList.drop 47 = dktX2_init_2 := dk_seg dksX2_init_1 24 rfl rfl
theorem dksX2_init_3 : cX2_init.data.toList.drop 71 = dktX2_init_3 := dk_seg dksX2_init_2 24 rfl rfl
theorem dX2_init_0 : decode cX2_init 0 = .ok (.aload_n 0, 1) := dk_42 (dk_at dksX2_init_0 0 rfl rfl)
theorem dX2_init_1 : decode cX2_init 1 = .ok (.invokespecial 3, 3) := dk_183 0 3 (dk_at dksX2_init_0 1 rfl rfl)
theorem dX2_init_4 : decode cX2_init 4 = .ok (.aload_n 0, 1) := dk_42 (dk_at dksX2_init_0 4 rfl rfl)
theorem dX2_init_5 : decode cX2_init 5 = .ok (.new 9, 3) := dk_187 0 9 (dk_at dksX2_init_0 5 rfl rfl)
theorem dX2_init_8 : decode cX2_init 8 = .ok (.dup, 1) := dk_89 (dk_at dksX2_init_0 8 rfl rfl)
theorem dX2_init_9 : decode cX2_init 9 = .ok (.invokespecial 11, 3) := dk_183 0 11 (dk_at dksX2_init_0 9 rfl rfl)
theorem dX2_init_12 : decode cX2_init 12 = .ok (.putfield 12, 3) := dk_181 0 12 (dk_at dksX2_init_0 12 rfl rfl)
theorem dX2_init_15 : decode cX2_init 15 = .ok (.aload_n 0, 1) := dk_42 (dk_at dksX2_init_0 15 rfl rfl)
theorem dX2_init_16 : decode cX2_init 16 = .ok (.new 9, 3) := dk_187 0 9 (dk_at dksX2_init_0 16 rfl rfl)
theorem dX2_init_19 : decode cX2_init 19 = .ok (.dup, 1) := dk_89 (dk_at dksX2_init_0 19 rfl rfl)
theorem dX2_init_20 : decode cX2_init 20 = .ok (.invokespecial 11, 3) := dk_183 0 11 (dk_at dksX2_init_0 20 rfl rfl)
theorem dX2_init_23 : decode cX2_init 23 = .ok (.putfield 18, 3) := dk_181 0 18 (dk_at dksX2_init_1 0 rfl rfl)
theorem dX2_init_26 : decode cX2_init 26 = .ok (.aload_n 0, 1) := dk_42 (dk_at dksX2_init_1 3 rfl rfl)
theorem dX2_init_27 : decode cX2_init 27 = .ok (.iconst 4, 1) := dk_7 (dk_at dksX2_init_1 4 rfl rfl)
theorem dX2_init_28 : decode cX2_init 28 = .ok (.newarray .int, 2) := dk_188_10 (dk_at dksX2_init_1 5 rfl rfl)
theorem dX2_init_30 : decode cX2_init 30 = .ok (.dup, 1) := dk_89 (dk_at dksX2_init_1 7 rfl rfl)
theorem dX2_init_31 : decode cX2_init 31 = .ok (.iconst 0, 1) := dk_3 (dk_at dksX2_init_1 8 rfl rfl)
theorem dX2_init_32 : decode cX2_init 32 = .ok (.bipush 10, 2) := dk_16 10 (dk_at dksX2_init_1 9 rfl rfl)
theorem dX2_init_34 : decode cX2_init 34 = .ok (.iastore, 1) := dk_79 (dk_at dksX2_init_1 11 rfl rfl)
theorem dX2_init_35 : decode cX2_init 35 = .ok (.dup, 1) := dk_89 (dk_at dksX2_init_1 12 rfl rfl)
theorem dX2_init_36 : decode cX2_init 36 = .ok (.iconst 1, 1) := dk_4 (dk_at dksX2_init_1 13 rfl rfl)
theorem dX2_init_37 : decode cX2_init 37 = .ok (.sipush 300, 3) := dk_17 1 44 (dk_at dksX2_init_1 14 rfl rfl)
theorem dX2_init_40 : decode cX2_init 40 = .ok (.iastore, 1) := dk_79 (dk_at dksX2_init_1 17 rfl rfl)
theorem dX2_init_41 : decode cX2_init 41 = .ok (.dup, 1) := dk_89 (dk_at dksX2_init_1 18 rfl rfl)
theorem dX2_init_42 : decode cX2_init 42 = .ok (.iconst 2, 1) := dk_5 (dk_at dksX2_init_1 19 rfl rfl)
theorem dX2_init_43 : decode cX2_init 43 = .ok (.iconst 3, 1) := dk_6 (dk_at dksX2_init_1 20 rfl rfl)
theorem dX2_init_44 : decode cX2_init 44 = .ok (.iastore, 1) := dk_79 (dk_at dksX2_init_1 21 rfl rfl)
theorem dX2_init_45 : decode cX2_init 45 = .ok (.dup, 1) := dk_89 (dk_at dksX2_init_1 22 rfl rfl)
theorem dX2_init_46 : decode cX2_init 46 = .ok (.iconst 3, 1) := dk_6 (dk_at dksX2_init_1 23 rfl rfl)
theorem dX2_init_47 : decode cX2_init 47 = .ok (.bipush 40, 2) := dk_16 40 (dk_at dksX2_init_2 0 rfl rfl)
theorem dX2_init_49 : decode cX2_init 49 = .ok (.iastore, 1) := dk_79 (dk_at dksX2_init_2 2 rfl rfl)
theorem dX2_init_50 : decode cX2_init 50 = .ok (.putfield 21, 3) := dk_181 0 21 (dk_at dksX2_init_2 3 rfl rfl)
theorem dX2_init_53 : decode cX2_init 53 = .ok (.iconst 0, 1) := dk_3 (dk_at dksX2_init_2 6 rfl rfl)
theorem dX2_init_54 : decode cX2_init 54 = .ok (.istore_n 1, 1) := dk_60 (dk_at dksX2_init_2 7 rfl rfl)
theorem dX2_init_55 : decode cX2_init 55 = .ok (.iload_n 1, 1) := dk_27 (dk_at dksX2_init_2 8 rfl rfl)
theorem dX2_init_56 : decode cX2_init 56 = .ok (.iconst 3, 1) := dk_6 (dk_at dksX2_init_2 9 rfl rfl)
theorem dX2_init_57 : decode cX2_init 57 = .ok (.if_icmp .ge 24, 3) := dk_162 0 24 (dk_at dksX2_init_2 10 rfl rfl)
theorem dX2_init_60 : decode cX2_init 60 = .ok (.aload_n 0, 1) := dk_42 (dk_at dksX2_init_2 13 rfl rfl)
theorem dX2_init_61 : decode cX2_init 61 = .ok (.getfield 18, 3) := dk_180 0 18 (dk_at dksX2_init_2 14 rfl rfl)
theorem dX2_init_64 : decode cX2_init 64 = .ok (.new 9, 3) := dk_187 0 9 (dk_at dksX2_init_2 17 rfl rfl)
theorem dX2_init_67 : decode cX2_init 67 = .ok (.dup, 1) := dk_89 (dk_at dksX2_init_2 20 rfl rfl)
theorem dX2_init_68 : decode cX2_init 68 = .ok (.invokespecial 11, 3) := dk_183 0 11 (dk_at dksX2_init_2 21 rfl rfl)
theorem dX2_init_71 : decode cX2_init 71 = .ok (.invokevirtual 25, 3) := dk_182 0 25 (dk_at dksX2_init_3 0 rfl rfl)
theorem dX2_init_74 : decode cX2_init 74 = .ok (.pop, 1) := dk_87 (dk_at dksX2_init_3 3 rfl rfl)
theorem dX2_init_75 : decode cX2_init 75 = .ok (.iinc 1 1, 3) := dk_132 1 1 (dk_at dksX2_init_3 4 rfl rfl)
theorem dX2_init_78 : decode cX2_init 78 = .ok (.goto (-23), 3) := dk_167 255 233 (dk_at dksX2_init_3 7 rfl rfl)
theorem dX2_init_81 : decode cX2_init 81 = .ok (.return_, 1) := dk_177 (dk_at dksX2_init_3 10 rfl rfl)
abbrev cX2_copy : ByteArray := prog_8_method_2_code
def yX2_copy : MethodName := ⟨RX2, "copy", "()LGaugeBlocks$State;"⟩
def dkwX2_copy_8 : List UInt8 := [180, 0, 58, 181, 0, 58, 43, 176]
abbrev dktX2_copy_8 : List UInt8 := dkwX2_copy_8 ++ []
def dkwX2_copy_7 : List UInt8 := [180, 0, 48, 181, 0, 48, 43, 42, 180, 0, 52, 181, 0, 52, 43, 42, 180, 0, 55, 181, 0, 55, 43, 42]
abbrev dktX2_copy_7 : List UInt8 := dkwX2_copy_7 ++ dktX2_copy_8
def dkwX2_copy_6 : List UInt8 := [162, 0, 21, 43, 180, 0, 21, 28, 42, 180, 0, 21, 28, 46, 79, 132, 2, 1, 167, 255, 236, 43, 42]
abbrev dktX2_copy_6 : List UInt8 := dkwX2_copy_6 ++ dktX2_copy_7
def dkwX2_copy_5 : List UInt8 := [192, 0, 38, 182, 0, 25, 87, 132, 3, 1, 167, 255, 188, 132, 2, 1, 167, 255, 175, 3, 61, 28, 7]
abbrev dktX2_copy_5 : List UInt8 := dkwX2_copy_5 ++ dktX2_copy_6
def dkwX2_copy_4 : List UInt8 := [180, 0, 18, 28, 182, 0, 34, 192, 0, 9, 29, 182, 0, 34, 192, 0, 38, 182, 0, 44, 182, 0, 34]
abbrev dktX2_copy_4 : List UInt8 := dkwX2_copy_4 ++ dktX2_copy_5
def dkwX2_copy_3 : List UInt8 := [182, 0, 30, 162, 0, 56, 43, 180, 0, 18, 28, 182, 0, 34, 192, 0, 9, 43, 180, 0, 12, 42, 42]
abbrev dktX2_copy_3 : List UInt8 := dkwX2_copy_3 ++ dktX2_copy_4
def dkwX2_copy_2 : List UInt8 := [167, 255, 220, 3, 61, 28, 6, 162, 0, 82, 3, 62, 29, 42, 180, 0, 18, 28, 182, 0, 34, 192, 0, 9]
abbrev dktX2_copy_2 : List UInt8 := dkwX2_copy_2 ++ dktX2_copy_3
def dkwX2_copy_1 : List UInt8 := [180, 0, 12, 42, 180, 0, 12, 28, 182, 0, 34, 192, 0, 38, 182, 0, 40, 182, 0, 25, 87, 132, 2, 1]
abbrev dktX2_copy_1 : List UInt8 := dkwX2_copy_1 ++ dktX2_copy_2
def dkwX2_copy_0 : List UInt8 := [187, 0, 13, 89, 183, 0, 29, 76, 3, 61, 28, 42, 180, 0, 12, 182, 0, 30, 162, 0, 31, 43]
abbrev dktX2_copy_0 : List UInt8 := dkwX2_copy_0 ++ dktX2_copy_1
theorem dksX2_copy_0 : cX2_copy.data.toList.drop 0 = dktX2_copy_0 := by decide +kernel
theorem dksX2_copy_1 : cX2_copy.data.toList.drop 22 = dktX2_copy_1 := dk_seg dksX2_copy_0 22 rfl rfl
theorem dksX2_copy_2 : cX2_copy.data.toList.drop 46 = dktX2_copy_2 := dk_seg dksX2_copy_1 24 rfl rfl
theorem dksX2_copy_3 : cX2_copy.data.toList.drop 70 = dktX2_copy_3 := dk_seg dksX2_copy_2 24 rfl rfl
theorem dksX2_copy_4 : cX2_copy.data.toList.drop 93 = dktX2_copy_4 := dk_seg dksX2_copy_3 23 rfl rfl
theorem dksX2_copy_5 : cX2_copy.data.toList.drop 116 = dktX2_copy_5 := dk_seg dksX2_copy_4 23 rfl rfl
theorem dksX2_copy_6 : cX2_copy.data.toList.drop 139 = dktX2_copy_6 := dk_seg dksX2_copy_5 23 rfl rfl
theorem dksX2_copy_7 : cX2_copy.data.toList.drop 162 = dktX2_copy_7 := dk_seg dksX2_copy_6 23 rfl rfl
theorem dksX2_copy_8 : cX2_copy.data.toList.drop 186 = dktX2_copy_8 := dk_seg dksX2_copy_7 24 rfl rfl
theorem dX2_copy_0 : decode cX2_copy 0 = .ok (.new 13, 3) := dk_187 0 13 (dk_at dksX2_copy_0 0 rfl rfl)
theorem dX2_copy_3 : decode cX2_copy 3 = .ok (.dup, 1) := dk_89 (dk_at dksX2_copy_0 3 rfl rfl)
theorem dX2_copy_4 : decode cX2_copy 4 = .ok (.invokespecial 29, 3) := dk_183 0 29 (dk_at dksX2_copy_0 4 rfl rfl)
theorem dX2_copy_7 : decode cX2_copy 7 = .ok (.astore_n 1, 1) := dk_76 (dk_at dksX2_copy_0 7 rfl rfl)
theorem dX2_copy_8 : decode cX2_copy 8 = .ok (.iconst 0, 1) := dk_3 (dk_at dksX2_copy_0 8 rfl rfl)
theorem dX2_copy_9 : decode cX2_copy 9 = .ok (.istore_n 2, 1) := dk_61 (dk_at dksX2_copy_0 9 rfl rfl)
theorem dX2_copy_10 : decode cX2_copy 10 = .ok (.iload_n 2, 1) := dk_28 (dk_at dksX2_copy_0 10 rfl rfl)
theorem dX2_copy_11 : decode cX2_copy 11 = .ok (.aload_n 0, 1) := dk_42 (dk_at dksX2_copy_0 11 rfl rfl)
theorem dX2_copy_12 : decode cX2_copy 12 = .ok (.getfield 12, 3) := dk_180 0 12 (dk_at dksX2_copy_0 12 rfl rfl)
theorem dX2_copy_15 : decode cX2_copy 15 = .ok (.invokevirtual 30, 3) := dk_182 0 30 (dk_at dksX2_copy_0 15 rfl rfl)
theorem dX2_copy_18 : decode cX2_copy 18 = .ok (.if_icmp .ge 31, 3) := dk_162 0 31 (dk_at dksX2_copy_0 18 rfl rfl)
theorem dX2_copy_21 : decode cX2_copy 21 = .ok (.aload_n 1, 1) := dk_43 (dk_at dksX2_copy_0 21 rfl rfl)
theorem dX2_copy_22 : decode cX2_copy 22 = .ok (.getfield 12, 3) := dk_180 0 12 (dk_at dksX2_copy_1 0 rfl rfl)
theorem dX2_copy_25 : decode cX2_copy 25 = .ok (.aload_n 0, 1) := dk_42 (dk_at dksX2_copy_1 3 rfl rfl)
theorem dX2_copy_26 : decode cX2_copy 26 = .ok (.getfield 12, 3) := dk_180 0 12 (dk_at dksX2_copy_1 4 rfl rfl)
theorem dX2_copy_29 : decode cX2_copy 29 = .ok (.iload_n 2, 1) := dk_28 (dk_at dksX2_copy_1 7 rfl rfl)
theorem dX2_copy_30 : decode cX2_copy 30 = .ok (.invokevirtual 34, 3) := dk_182 0 34 (dk_at dksX2_copy_1 8 rfl rfl)
theorem dX2_copy_33 : decode cX2_copy 33 = .ok (.checkcast 38, 3) := dk_192 0 38 (dk_at dksX2_copy_1 11 rfl rfl)
theorem dX2_copy_36 : decode cX2_copy 36 = .ok (.invokevirtual 40, 3) := dk_182 0 40 (dk_at dksX2_copy_1 14 rfl rfl)
theorem dX2_copy_39 : decode cX2_copy 39 = .ok (.invokevirtual 25, 3) := dk_182 0 25 (dk_at dksX2_copy_1 17 rfl rfl)
theorem dX2_copy_42 : decode cX2_copy 42 = .ok (.pop, 1) := dk_87 (dk_at dksX2_copy_1 20 rfl rfl)
theorem dX2_copy_43 : decode cX2_copy 43 = .ok (.iinc 2 1, 3) := dk_132 2 1 (dk_at dksX2_copy_1 21 rfl rfl)
theorem dX2_copy_46 : decode cX2_copy 46 = .ok (.goto (-36), 3) := dk_167 255 220 (dk_at dksX2_copy_2 0 rfl rfl)
theorem dX2_copy_49 : decode cX2_copy 49 = .ok (.iconst 0, 1) := dk_3 (dk_at dksX2_copy_2 3 rfl rfl)
theorem dX2_copy_50 : decode cX2_copy 50 = .ok (.istore_n 2, 1) := dk_61 (dk_at dksX2_copy_2 4 rfl rfl)
theorem dX2_copy_51 : decode cX2_copy 51 = .ok (.iload_n 2, 1) := dk_28 (dk_at dksX2_copy_2 5 rfl rfl)
theorem dX2_copy_52 : decode cX2_copy 52 = .ok (.iconst 3, 1) := dk_6 (dk_at dksX2_copy_2 6 rfl rfl)
theorem dX2_copy_53 : decode cX2_copy 53 = .ok (.if_icmp .ge 82, 3) := dk_162 0 82 (dk_at dksX2_copy_2 7 rfl rfl)
theorem dX2_copy_56 : decode cX2_copy 56 = .ok (.iconst 0, 1) := dk_3 (dk_at dksX2_copy_2 10 rfl rfl)
theorem dX2_copy_57 : decode cX2_copy 57 = .ok (.istore_n 3, 1) := dk_62 (dk_at dksX2_copy_2 11 rfl rfl)
theorem dX2_copy_58 : decode cX2_copy 58 = .ok (.iload_n 3, 1) := dk_29 (dk_at dksX2_copy_2 12 rfl rfl)
theorem dX2_copy_59 : decode cX2_copy 59 = .ok (.aload_n 0, 1) := dk_42 (dk_at dksX2_copy_2 13 rfl rfl)
theorem dX2_copy_60 : decode cX2_copy 60 = .ok (.getfield 18, 3) := dk_180 0 18 (dk_at dksX2_copy_2 14 rfl rfl)
theorem dX2_copy_63 : decode cX2_copy 63 = .ok (.iload_n 2, 1) := dk_28 (dk_at dksX2_copy_2 17 rfl rfl)
theorem dX2_copy_64 : decode cX2_copy 64 = .ok (.invokevirtual 34, 3) := dk_182 0 34 (dk_at dksX2_copy_2 18 rfl rfl)
theorem dX2_copy_67 : decode cX2_copy 67 = .ok (.checkcast 9, 3) := dk_192 0 9 (dk_at dksX2_copy_2 21 rfl rfl)
theorem dX2_copy_70 : decode cX2_copy 70 = .ok (.invokevirtual 30, 3) := dk_182 0 30 (dk_at dksX2_copy_3 0 rfl rfl)
theorem dX2_copy_73 : decode cX2_copy 73 = .ok (.if_icmp .ge 56, 3) := dk_162 0 56 (dk_at dksX2_copy_3 3 rfl rfl)
theorem dX2_copy_76 : decode cX2_copy 76 = .ok (.aload_n 1, 1) := dk_43 (dk_at dksX2_copy_3 6 rfl rfl)
theorem dX2_copy_77 : decode cX2_copy 77 = .ok (.getfield 18, 3) := dk_180 0 18 (dk_at dksX2_copy_3 7 rfl rfl)
theorem dX2_copy_80 : decode cX2_copy 80 = .ok (.iload_n 2, 1) := dk_28 (dk_at dksX2_copy_3 10 rfl rfl)
theorem dX2_copy_81 : decode cX2_copy 81 = .ok (.invokevirtual 34, 3) := dk_182 0 34 (dk_at dksX2_copy_3 11 rfl rfl)
theorem dX2_copy_84 : decode cX2_copy 84 = .ok (.checkcast 9, 3) := dk_192 0 9 (dk_at dksX2_copy_3 14 rfl rfl)
theorem dX2_copy_87 : decode cX2_copy 87 = .ok (.aload_n 1, 1) := dk_43 (dk_at dksX2_copy_3 17 rfl rfl)
theorem dX2_copy_88 : decode cX2_copy 88 = .ok (.getfield 12, 3) := dk_180 0 12 (dk_at dksX2_copy_3 18 rfl rfl)
theorem dX2_copy_91 : decode cX2_copy 91 = .ok (.aload_n 0, 1) := dk_42 (dk_at dksX2_copy_3 21 rfl rfl)
theorem dX2_copy_92 : decode cX2_copy 92 = .ok (.aload_n 0, 1) := dk_42 (dk_at dksX2_copy_3 22 rfl rfl)
theorem dX2_copy_93 : decode cX2_copy 93 = .ok (.getfield 18, 3) := dk_180 0 18 (dk_at dksX2_copy_4 0 rfl rfl)
theorem dX2_copy_96 : decode cX2_copy 96 = .ok (.iload_n 2, 1) := dk_28 (dk_at dksX2_copy_4 3 rfl rfl)
theorem dX2_copy_97 : decode cX2_copy 97 = .ok (.invokevirtual 34, 3) := dk_182 0 34 (dk_at dksX2_copy_4 4 rfl rfl)
theorem dX2_copy_100 : decode cX2_copy 100 = .ok (.checkcast 9, 3) := dk_192 0 9 (dk_at dksX2_copy_4 7 rfl rfl)
theorem dX2_copy_103 : decode cX2_copy 103 = .ok (.iload_n 3, 1) := dk_29 (dk_at dksX2_copy_4 10 rfl rfl)
theorem dX2_copy_104 : decode cX2_copy 104 = .ok (.invokevirtual 34, 3) := dk_182 0 34 (dk_at dksX2_copy_4 11 rfl rfl)
theorem dX2_copy_107 : decode cX2_copy 107 = .ok (.checkcast 38, 3) := dk_192 0 38 (dk_at dksX2_copy_4 14 rfl rfl)
theorem dX2_copy_110 : decode cX2_copy 110 = .ok (.invokevirtual 44, 3) := dk_182 0 44 (dk_at dksX2_copy_4 17 rfl rfl)
theorem dX2_copy_113 : decode cX2_copy 113 = .ok (.invokevirtual 34, 3) := dk_182 0 34 (dk_at dksX2_copy_4 20 rfl rfl)
theorem dX2_copy_116 : decode cX2_copy 116 = .ok (.checkcast 38, 3) := dk_192 0 38 (dk_at dksX2_copy_5 0 rfl rfl)
theorem dX2_copy_119 : decode cX2_copy 119 = .ok (.invokevirtual 25, 3) := dk_182 0 25 (dk_at dksX2_copy_5 3 rfl rfl)
theorem dX2_copy_122 : decode cX2_copy 122 = .ok (.pop, 1) := dk_87 (dk_at dksX2_copy_5 6 rfl rfl)
theorem dX2_copy_123 : decode cX2_copy 123 = .ok (.iinc 3 1, 3) := dk_132 3 1 (dk_at dksX2_copy_5 7 rfl rfl)
theorem dX2_copy_126 : decode cX2_copy 126 = .ok (.goto (-68), 3) := dk_167 255 188 (dk_at dksX2_copy_5 10 rfl rfl)
theorem dX2_copy_129 : decode cX2_copy 129 = .ok (.iinc 2 1, 3) := dk_132 2 1 (dk_at dksX2_copy_5 13 rfl rfl)
theorem dX2_copy_132 : decode cX2_copy 132 = .ok (.goto (-81), 3) := dk_167 255 175 (dk_at dksX2_copy_5 16 rfl rfl)
theorem dX2_copy_135 : decode cX2_copy 135 = .ok (.iconst 0, 1) := dk_3 (dk_at dksX2_copy_5 19 rfl rfl)
theorem dX2_copy_136 : decode cX2_copy 136 = .ok (.istore_n 2, 1) := dk_61 (dk_at dksX2_copy_5 20 rfl rfl)
theorem dX2_copy_137 : decode cX2_copy 137 = .ok (.iload_n 2, 1) := dk_28 (dk_at dksX2_copy_5 21 rfl rfl)
theorem dX2_copy_138 : decode cX2_copy 138 = .ok (.iconst 4, 1) := dk_7 (dk_at dksX2_copy_5 22 rfl rfl)
theorem dX2_copy_139 : decode cX2_copy 139 = .ok (.if_icmp .ge 21, 3) := dk_162 0 21 (dk_at dksX2_copy_6 0 rfl rfl)
theorem dX2_copy_142 : decode cX2_copy 142 = .ok (.aload_n 1, 1) := dk_43 (dk_at dksX2_copy_6 3 rfl rfl)
theorem dX2_copy_143 : decode cX2_copy 143 = .ok (.getfield 21, 3) := dk_180 0 21 (dk_at dksX2_copy_6 4 rfl rfl)
theorem dX2_copy_146 : decode cX2_copy 146 = .ok (.iload_n 2, 1) := dk_28 (dk_at dksX2_copy_6 7 rfl rfl)
theorem dX2_copy_147 : decode cX2_copy 147 = .ok (.aload_n 0, 1) := dk_42 (dk_at dksX2_copy_6 8 rfl rfl)
theorem dX2_copy_148 : decode cX2_copy 148 = .ok (.getfield 21, 3) := dk_180 0 21 (dk_at dksX2_copy_6 9 rfl rfl)
theorem dX2_copy_151 : decode cX2_copy 151 = .ok (.iload_n 2, 1) := dk_28 (dk_at dksX2_copy_6 12 rfl rfl)
theorem dX2_copy_152 : decode cX2_copy 152 = .ok (.iaload, 1) := dk_46 (dk_at dksX2_copy_6 13 rfl rfl)
theorem dX2_copy_153 : decode cX2_copy 153 = .ok (.iastore, 1) := dk_79 (dk_at dksX2_copy_6 14 rfl rfl)
theorem dX2_copy_154 : decode cX2_copy 154 = .ok (.iinc 2 1, 3) := dk_132 2 1 (dk_at dksX2_copy_6 15 rfl rfl)
theorem dX2_copy_157 : decode cX2_copy 157 = .ok (.goto (-20), 3) := dk_167 255 236 (dk_at dksX2_copy_6 18 rfl rfl)
theorem dX2_copy_160 : decode cX2_copy 160 = .ok (.aload_n 1, 1) := dk_43 (dk_at dksX2_copy_6 21 rfl rfl)
theorem dX2_copy_161 : decode cX2_copy 161 = .ok (.aload_n 0, 1) := dk_42 (dk_at dksX2_copy_6 22 rfl rfl)
theorem dX2_copy_162 : decode cX2_copy 162 = .ok (.getfield 48, 3) := dk_180 0 48 (dk_at dksX2_copy_7 0 rfl rfl)
theorem dX2_copy_165 : decode cX2_copy 165 = .ok (.putfield 48, 3) := dk_181 0 48 (dk_at dksX2_copy_7 3 rfl rfl)
theorem dX2_copy_168 : decode cX2_copy 168 = .ok (.aload_n 1, 1) := dk_43 (dk_at dksX2_copy_7 6 rfl rfl)
theorem dX2_copy_169 : decode cX2_copy 169 = .ok (.aload_n 0, 1) := dk_42 (dk_at dksX2_copy_7 7 rfl rfl)
theorem dX2_copy_170 : decode cX2_copy 170 = .ok (.getfield 52, 3) := dk_180 0 52 (dk_at dksX2_copy_7 8 rfl rfl)
theorem dX2_copy_173 : decode cX2_copy 173 = .ok (.putfield 52, 3) := dk_181 0 52 (dk_at dksX2_copy_7 11 rfl rfl)
theorem dX2_copy_176 : decode cX2_copy 176 = .ok (.aload_n 1, 1) := dk_43 (dk_at dksX2_copy_7 14 rfl rfl)
theorem dX2_copy_177 : decode cX2_copy 177 = .ok (.aload_n 0, 1) := dk_42 (dk_at dksX2_copy_7 15 rfl rfl)
theorem dX2_copy_178 : decode cX2_copy 178 = .ok (.getfield 55, 3) := dk_180 0 55 (dk_at dksX2_copy_7 16 rfl rfl)
theorem dX2_copy_181 : decode cX2_copy 181 = .ok (.putfield 55, 3) := dk_181 0 55 (dk_at dksX2_copy_7 19 rfl rfl)
theorem dX2_copy_184 : decode cX2_copy 184 = .ok (.aload_n 1, 1) := dk_43 (dk_at dksX2_copy_7 22 rfl rfl)
theorem dX2_copy_185 : decode cX2_copy 185 = .ok (.aload_n 0, 1) := dk_42 (dk_at dksX2_copy_7 23 rfl rfl)
theorem dX2_copy_186 : decode cX2_copy 186 = .ok (.getfield 58, 3) := dk_180 0 58 (dk_at dksX2_copy_8 0 rfl rfl)
theorem dX2_copy_189 : decode cX2_copy 189 = .ok (.putfield 58, 3) := dk_181 0 58 (dk_at dksX2_copy_8 3 rfl rfl)
theorem dX2_copy_192 : decode cX2_copy 192 = .ok (.aload_n 1, 1) := dk_43 (dk_at dksX2_copy_8 6 rfl rfl)
theorem dX2_copy_193 : decode cX2_copy 193 = .ok (.areturn, 1) := dk_176 (dk_at dksX2_copy_8 7 rfl rfl)
abbrev cX2_numberOf : ByteArray := prog_8_method_3_code
def yX2_numberOf : MethodName := ⟨RX2, "numberOf", "(LGaugeBlocks$Block;)I"⟩
def dkwX2_numberOf_1 : List UInt8 := [166, 0, 5, 28, 172, 132, 2, 1, 167, 255, 228, 2, 172]
abbrev dktX2_numberOf_1 : List UInt8 := dkwX2_numberOf_1 ++ []
def dkwX2_numberOf_0 : List UInt8 := [3, 61, 28, 42, 180, 0, 12, 182, 0, 30, 162, 0, 23, 42, 180, 0, 12, 28, 182, 0, 34, 43]
abbrev dktX2_numberOf_0 : List UInt8 := dkwX2_numberOf_0 ++ dktX2_numberOf_1
theorem dksX2_numberOf_0 : cX2_numberOf.data.toList.drop 0 = dktX2_numberOf_0 := by decide +kernel
theorem dksX2_numberOf_1 : cX2_numberOf.data.toList.drop 22 = dktX2_numberOf_1 := dk_seg dksX2_numberOf_0 22 rfl rfl
theorem dX2_numberOf_0 : decode cX2_numberOf 0 = .ok (.iconst 0, 1) := dk_3 (dk_at dksX2_numberOf_0 0 rfl rfl)
theorem dX2_numberOf_1 : decode cX2_numberOf 1 = .ok (.istore_n 2, 1) := dk_61 (dk_at dksX2_numberOf_0 1 rfl rfl)
theorem dX2_numberOf_2 : decode cX2_numberOf 2 = .ok (.iload_n 2, 1) := dk_28 (dk_at dksX2_numberOf_0 2 rfl rfl)
theorem dX2_numberOf_3 : decode cX2_numberOf 3 = .ok (.aload_n 0, 1) := dk_42 (dk_at dksX2_numberOf_0 3 rfl rfl)
theorem dX2_numberOf_4 : decode cX2_numberOf 4 = .ok (.getfield 12, 3) := dk_180 0 12 (dk_at dksX2_numberOf_0 4 rfl rfl)
theorem dX2_numberOf_7 : decode cX2_numberOf 7 = .ok (.invokevirtual 30, 3) := dk_182 0 30 (dk_at dksX2_numberOf_0 7 rfl rfl)
theorem dX2_numberOf_10 : decode cX2_numberOf 10 = .ok (.if_icmp .ge 23, 3) := dk_162 0 23 (dk_at dksX2_numberOf_0 10 rfl rfl)
theorem dX2_numberOf_13 : decode cX2_numberOf 13 = .ok (.aload_n 0, 1) := dk_42 (dk_at dksX2_numberOf_0 13 rfl rfl)
theorem dX2_numberOf_14 : decode cX2_numberOf 14 = .ok (.getfield 12, 3) := dk_180 0 12 (dk_at dksX2_numberOf_0 14 rfl rfl)
theorem dX2_numberOf_17 : decode cX2_numberOf 17 = .ok (.iload_n 2, 1) := dk_28 (dk_at dksX2_numberOf_0 17 rfl rfl)
theorem dX2_numberOf_18 : decode cX2_numberOf 18 = .ok (.invokevirtual 34, 3) := dk_182 0 34 (dk_at dksX2_numberOf_0 18 rfl rfl)
theorem dX2_numberOf_21 : decode cX2_numberOf 21 = .ok (.aload_n 1, 1) := dk_43 (dk_at dksX2_numberOf_0 21 rfl rfl)
theorem dX2_numberOf_22 : decode cX2_numberOf 22 = .ok (.if_acmp .ne 5, 3) := dk_166 0 5 (dk_at dksX2_numberOf_1 0 rfl rfl)
theorem dX2_numberOf_25 : decode cX2_numberOf 25 = .ok (.iload_n 2, 1) := dk_28 (dk_at dksX2_numberOf_1 3 rfl rfl)
theorem dX2_numberOf_26 : decode cX2_numberOf 26 = .ok (.ireturn, 1) := dk_172 (dk_at dksX2_numberOf_1 4 rfl rfl)
theorem dX2_numberOf_27 : decode cX2_numberOf 27 = .ok (.iinc 2 1, 3) := dk_132 2 1 (dk_at dksX2_numberOf_1 5 rfl rfl)
theorem dX2_numberOf_30 : decode cX2_numberOf 30 = .ok (.goto (-28), 3) := dk_167 255 228 (dk_at dksX2_numberOf_1 8 rfl rfl)
theorem dX2_numberOf_33 : decode cX2_numberOf 33 = .ok (.iconst (-1), 1) := dk_2 (dk_at dksX2_numberOf_1 11 rfl rfl)
theorem dX2_numberOf_34 : decode cX2_numberOf 34 = .ok (.ireturn, 1) := dk_172 (dk_at dksX2_numberOf_1 12 rfl rfl)
abbrev cX2_add : ByteArray := prog_8_method_4_code
def yX2_add : MethodName := ⟨RX2, "add", "(II)I"⟩
def dkwX2_add_1 : List UInt8 := [4, 100, 172]
abbrev dktX2_add_1 : List UInt8 := dkwX2_add_1 ++ []
def dkwX2_add_0 : List UInt8 := [42, 180, 0, 12, 187, 0, 38, 89, 27, 28, 183, 0, 61, 182, 0, 25, 87, 42, 180, 0, 12, 182, 0, 30]
abbrev dktX2_add_0 : List UInt8 := dkwX2_add_0 ++ dktX2_add_1
theorem dksX2_add_0 : cX2_add.data.toList.drop 0 = dktX2_add_0 := by decide +kernel
theorem dksX2_add_1 : cX2_add.data.toList.drop 24 = dktX2_add_1 := dk_seg dksX2_add_0 24 rfl rfl
theorem dX2_add_0 : decode cX2_add 0 = .ok (.aload_n 0, 1) := dk_42 (dk_at dksX2_add_0 0 rfl rfl)
theorem dX2_add_1 : decode cX2_add 1 = .ok (.getfield 12, 3) := dk_180 0 12 (dk_at dksX2_add_0 1 rfl rfl)
theorem dX2_add_4 : decode cX2_add 4 = .ok (.new 38, 3) := dk_187 0 38 (dk_at dksX2_add_0 4 rfl rfl)
theorem dX2_add_7 : decode cX2_add 7 = .ok (.dup, 1) := dk_89 (dk_at dksX2_add_0 7 rfl rfl)
theorem dX2_add_8 : decode cX2_add 8 = .ok (.iload_n 1, 1) := dk_27 (dk_at dksX2_add_0 8 rfl rfl)
theorem dX2_add_9 : decode cX2_add 9 = .ok (.iload_n 2, 1) := dk_28 (dk_at dksX2_add_0 9 rfl rfl)
theorem dX2_add_10 : decode cX2_add 10 = .ok (.invokespecial 61, 3) := dk_183 0 61 (dk_at dksX2_add_0 10 rfl rfl)
theorem dX2_add_13 : decode cX2_add 13 = .ok (.invokevirtual 25, 3) := dk_182 0 25 (dk_at dksX2_add_0 13 rfl rfl)
theorem dX2_add_16 : decode cX2_add 16 = .ok (.pop, 1) := dk_87 (dk_at dksX2_add_0 16 rfl rfl)
theorem dX2_add_17 : decode cX2_add 17 = .ok (.aload_n 0, 1) := dk_42 (dk_at dksX2_add_0 17 rfl rfl)
theorem dX2_add_18 : decode cX2_add 18 = .ok (.getfield 12, 3) := dk_180 0 12 (dk_at dksX2_add_0 18 rfl rfl)
theorem dX2_add_21 : decode cX2_add 21 = .ok (.invokevirtual 30, 3) := dk_182 0 30 (dk_at dksX2_add_0 21 rfl rfl)
theorem dX2_add_24 : decode cX2_add 24 = .ok (.iconst 1, 1) := dk_4 (dk_at dksX2_add_1 0 rfl rfl)
theorem dX2_add_25 : decode cX2_add 25 = .ok (.isub, 1) := dk_100 (dk_at dksX2_add_1 1 rfl rfl)
theorem dX2_add_26 : decode cX2_add 26 = .ok (.ireturn, 1) := dk_172 (dk_at dksX2_add_1 2 rfl rfl)
abbrev cX2_rest : ByteArray := prog_8_method_13_code
def yX2_rest : MethodName := ⟨RX2, "rest", "(I)I"⟩
def dkwX2_rest_3 : List UInt8 := [182, 0, 123, 172]
abbrev dktX2_rest_3 : List UInt8 := dkwX2_rest_3 ++ []
def dkwX2_rest_2 : List UInt8 := [132, 3, 1, 167, 255, 216, 132, 2, 1, 167, 255, 203, 42, 89, 180, 0, 48, 27, 96, 181, 0, 48, 42]
abbrev dktX2_rest_2 : List UInt8 := dkwX2_rest_2 ++ dktX2_rest_3
def dkwX2_rest_1 : List UInt8 := [29, 182, 0, 34, 192, 0, 38, 58, 4, 25, 4, 25, 4, 180, 0, 71, 184, 0, 119, 181, 0, 71]
abbrev dktX2_rest_1 : List UInt8 := dkwX2_rest_1 ++ dktX2_rest_2
def dkwX2_rest_0 : List UInt8 := [3, 61, 28, 27, 162, 0, 54, 3, 62, 29, 42, 180, 0, 12, 182, 0, 30, 162, 0, 35, 42, 180, 0, 12]
abbrev dktX2_rest_0 : List UInt8 := dkwX2_rest_0 ++ dktX2_rest_1
theorem dksX2_rest_0 : cX2_rest.data.toList.drop 0 = dktX2_rest_0 := by decide +kernel
theorem dksX2_rest_1 : cX2_rest.data.toList.drop 24 = dktX2_rest_1 := dk_seg dksX2_rest_0 24 rfl rfl
theorem dksX2_rest_2 : cX2_rest.data.toList.drop 46 = dktX2_rest_2 := dk_seg dksX2_rest_1 22 rfl rfl
theorem dksX2_rest_3 : cX2_rest.data.toList.drop 69 = dktX2_rest_3 := dk_seg dksX2_rest_2 23 rfl rfl
theorem dX2_rest_0 : decode cX2_rest 0 = .ok (.iconst 0, 1) := dk_3 (dk_at dksX2_rest_0 0 rfl rfl)
theorem dX2_rest_1 : decode cX2_rest 1 = .ok (.istore_n 2, 1) := dk_61 (dk_at dksX2_rest_0 1 rfl rfl)
theorem dX2_rest_2 : decode cX2_rest 2 = .ok (.iload_n 2, 1) := dk_28 (dk_at dksX2_rest_0 2 rfl rfl)
theorem dX2_rest_3 : decode cX2_rest 3 = .ok (.iload_n 1, 1) := dk_27 (dk_at dksX2_rest_0 3 rfl rfl)
theorem dX2_rest_4 : decode cX2_rest 4 = .ok (.if_icmp .ge 54, 3) := dk_162 0 54 (dk_at dksX2_rest_0 4 rfl rfl)
theorem dX2_rest_7 : decode cX2_rest 7 = .ok (.iconst 0, 1) := dk_3 (dk_at dksX2_rest_0 7 rfl rfl)
theorem dX2_rest_8 : decode cX2_rest 8 = .ok (.istore_n 3, 1) := dk_62 (dk_at dksX2_rest_0 8 rfl rfl)
theorem dX2_rest_9 : decode cX2_rest 9 = .ok (.iload_n 3, 1) := dk_29 (dk_at dksX2_rest_0 9 rfl rfl)
theorem dX2_rest_10 : decode cX2_rest 10 = .ok (.aload_n 0, 1) := dk_42 (dk_at dksX2_rest_0 10 rfl rfl)
theorem dX2_rest_11 : decode cX2_rest 11 = .ok (.getfield 12, 3) := dk_180 0 12 (dk_at dksX2_rest_0 11 rfl rfl)
theorem dX2_rest_14 : decode cX2_rest 14 = .ok (.invokevirtual 30, 3) := dk_182 0 30 (dk_at dksX2_rest_0 14 rfl rfl)
theorem dX2_rest_17 : decode cX2_rest 17 = .ok (.if_icmp .ge 35, 3) := dk_162 0 35 (dk_at dksX2_rest_0 17 rfl rfl)
theorem dX2_rest_20 : decode cX2_rest 20 = .ok (.aload_n 0, 1) := dk_42 (dk_at dksX2_rest_0 20 rfl rfl)
theorem dX2_rest_21 : decode cX2_rest 21 = .ok (.getfield 12, 3) := dk_180 0 12 (dk_at dksX2_rest_0 21 rfl rfl)
theorem dX2_rest_24 : decode cX2_rest 24 = .ok (.iload_n 3, 1) := dk_29 (dk_at dksX2_rest_1 0 rfl rfl)
theorem dX2_rest_25 : decode cX2_rest 25 = .ok (.invokevirtual 34, 3) := dk_182 0 34 (dk_at dksX2_rest_1 1 rfl rfl)
theorem dX2_rest_28 : decode cX2_rest 28 = .ok (.checkcast 38, 3) := dk_192 0 38 (dk_at dksX2_rest_1 4 rfl rfl)
theorem dX2_rest_31 : decode cX2_rest 31 = .ok (.astore 4, 2) := dk_58 4 (dk_at dksX2_rest_1 7 rfl rfl)
theorem dX2_rest_33 : decode cX2_rest 33 = .ok (.aload 4, 2) := dk_25 4 (dk_at dksX2_rest_1 9 rfl rfl)
theorem dX2_rest_35 : decode cX2_rest 35 = .ok (.aload 4, 2) := dk_25 4 (dk_at dksX2_rest_1 11 rfl rfl)
theorem dX2_rest_37 : decode cX2_rest 37 = .ok (.getfield 71, 3) := dk_180 0 71 (dk_at dksX2_rest_1 13 rfl rfl)
theorem dX2_rest_40 : decode cX2_rest 40 = .ok (.invokestatic 119, 3) := dk_184 0 119 (dk_at dksX2_rest_1 16 rfl rfl)
theorem dX2_rest_43 : decode cX2_rest 43 = .ok (.putfield 71, 3) := dk_181 0 71 (dk_at dksX2_rest_1 19 rfl rfl)
theorem dX2_rest_46 : decode cX2_rest 46 = .ok (.iinc 3 1, 3) := dk_132 3 1 (dk_at dksX2_rest_2 0 rfl rfl)
theorem dX2_rest_49 : decode cX2_rest 49 = .ok (.goto (-40), 3) := dk_167 255 216 (dk_at dksX2_rest_2 3 rfl rfl)
theorem dX2_rest_52 : decode cX2_rest 52 = .ok (.iinc 2 1, 3) := dk_132 2 1 (dk_at dksX2_rest_2 6 rfl rfl)
theorem dX2_rest_55 : decode cX2_rest 55 = .ok (.goto (-53), 3) := dk_167 255 203 (dk_at dksX2_rest_2 9 rfl rfl)
theorem dX2_rest_58 : decode cX2_rest 58 = .ok (.aload_n 0, 1) := dk_42 (dk_at dksX2_rest_2 12 rfl rfl)
theorem dX2_rest_59 : decode cX2_rest 59 = .ok (.dup, 1) := dk_89 (dk_at dksX2_rest_2 13 rfl rfl)
theorem dX2_rest_60 : decode cX2_rest 60 = .ok (.getfield 48, 3) := dk_180 0 48 (dk_at dksX2_rest_2 14 rfl rfl)
theorem dX2_rest_63 : decode cX2_rest 63 = .ok (.iload_n 1, 1) := dk_27 (dk_at dksX2_rest_2 17 rfl rfl)
theorem dX2_rest_64 : decode cX2_rest 64 = .ok (.iadd, 1) := dk_96 (dk_at dksX2_rest_2 18 rfl rfl)
theorem dX2_rest_65 : decode cX2_rest 65 = .ok (.putfield 48, 3) := dk_181 0 48 (dk_at dksX2_rest_2 19 rfl rfl)
theorem dX2_rest_68 : decode cX2_rest 68 = .ok (.aload_n 0, 1) := dk_42 (dk_at dksX2_rest_2 22 rfl rfl)
theorem dX2_rest_69 : decode cX2_rest 69 = .ok (.invokevirtual 123, 3) := dk_182 0 123 (dk_at dksX2_rest_3 0 rfl rfl)
theorem dX2_rest_72 : decode cX2_rest 72 = .ok (.ireturn, 1) := dk_172 (dk_at dksX2_rest_3 3 rfl rfl)
abbrev cX2_warmest : ByteArray := prog_8_method_12_code
def yX2_warmest : MethodName := ⟨RX2, "warmest", "()I"⟩
def dkwX2_warmest_1 : List UInt8 := [192, 0, 38, 180, 0, 71, 184, 0, 114, 60, 132, 2, 1, 167, 255, 223, 27, 172]
abbrev dktX2_warmest_1 : List UInt8 := dkwX2_warmest_1 ++ []
def dkwX2_warmest_0 : List UInt8 := [3, 60, 3, 61, 28, 42, 180, 0, 12, 182, 0, 30, 162, 0, 28, 27, 42, 180, 0, 12, 28, 182, 0, 34]
abbrev dktX2_warmest_0 : List UInt8 := dkwX2_warmest_0 ++ dktX2_warmest_1
theorem dksX2_warmest_0 : cX2_warmest.data.toList.drop 0 = dktX2_warmest_0 := by decide +kernel
theorem dksX2_warmest_1 : cX2_warmest.data.toList.drop 24 = dktX2_warmest_1 := dk_seg dksX2_warmest_0 24 rfl rfl
theorem dX2_warmest_0 : decode cX2_warmest 0 = .ok (.iconst 0, 1) := dk_3 (dk_at dksX2_warmest_0 0 rfl rfl)
theorem dX2_warmest_1 : decode cX2_warmest 1 = .ok (.istore_n 1, 1) := dk_60 (dk_at dksX2_warmest_0 1 rfl rfl)
theorem dX2_warmest_2 : decode cX2_warmest 2 = .ok (.iconst 0, 1) := dk_3 (dk_at dksX2_warmest_0 2 rfl rfl)
theorem dX2_warmest_3 : decode cX2_warmest 3 = .ok (.istore_n 2, 1) := dk_61 (dk_at dksX2_warmest_0 3 rfl rfl)
theorem dX2_warmest_4 : decode cX2_warmest 4 = .ok (.iload_n 2, 1) := dk_28 (dk_at dksX2_warmest_0 4 rfl rfl)
theorem dX2_warmest_5 : decode cX2_warmest 5 = .ok (.aload_n 0, 1) := dk_42 (dk_at dksX2_warmest_0 5 rfl rfl)
theorem dX2_warmest_6 : decode cX2_warmest 6 = .ok (.getfield 12, 3) := dk_180 0 12 (dk_at dksX2_warmest_0 6 rfl rfl)
theorem dX2_warmest_9 : decode cX2_warmest 9 = .ok (.invokevirtual 30, 3) := dk_182 0 30 (dk_at dksX2_warmest_0 9 rfl rfl)
theorem dX2_warmest_12 : decode cX2_warmest 12 = .ok (.if_icmp .ge 28, 3) := dk_162 0 28 (dk_at dksX2_warmest_0 12 rfl rfl)
theorem dX2_warmest_15 : decode cX2_warmest 15 = .ok (.iload_n 1, 1) := dk_27 (dk_at dksX2_warmest_0 15 rfl rfl)
theorem dX2_warmest_16 : decode cX2_warmest 16 = .ok (.aload_n 0, 1) := dk_42 (dk_at dksX2_warmest_0 16 rfl rfl)
theorem dX2_warmest_17 : decode cX2_warmest 17 = .ok (.getfield 12, 3) := dk_180 0 12 (dk_at dksX2_warmest_0 17 rfl rfl)
theorem dX2_warmest_20 : decode cX2_warmest 20 = .ok (.iload_n 2, 1) := dk_28 (dk_at dksX2_warmest_0 20 rfl rfl)
theorem dX2_warmest_21 : decode cX2_warmest 21 = .ok (.invokevirtual 34, 3) := dk_182 0 34 (dk_at dksX2_warmest_0 21 rfl rfl)
theorem dX2_warmest_24 : decode cX2_warmest 24 = .ok (.checkcast 38, 3) := dk_192 0 38 (dk_at dksX2_warmest_1 0 rfl rfl)
theorem dX2_warmest_27 : decode cX2_warmest 27 = .ok (.getfield 71, 3) := dk_180 0 71 (dk_at dksX2_warmest_1 3 rfl rfl)
theorem dX2_warmest_30 : decode cX2_warmest 30 = .ok (.invokestatic 114, 3) := dk_184 0 114 (dk_at dksX2_warmest_1 6 rfl rfl)
theorem dX2_warmest_33 : decode cX2_warmest 33 = .ok (.istore_n 1, 1) := dk_60 (dk_at dksX2_warmest_1 9 rfl rfl)
theorem dX2_warmest_34 : decode cX2_warmest 34 = .ok (.iinc 2 1, 3) := dk_132 2 1 (dk_at dksX2_warmest_1 10 rfl rfl)
theorem dX2_warmest_37 : decode cX2_warmest 37 = .ok (.goto (-33), 3) := dk_167 255 223 (dk_at dksX2_warmest_1 13 rfl rfl)
theorem dX2_warmest_40 : decode cX2_warmest 40 = .ok (.iload_n 1, 1) := dk_27 (dk_at dksX2_warmest_1 16 rfl rfl)
theorem dX2_warmest_41 : decode cX2_warmest 41 = .ok (.ireturn, 1) := dk_172 (dk_at dksX2_warmest_1 17 rfl rfl)
abbrev cX2_wring : ByteArray := prog_8_method_9_code
def yX2_wring : MethodName := ⟨RX2, "wring", "(II)I"⟩
def dkwX2_wring_3 : List UInt8 := [89, 180, 0, 99, 4, 96, 181, 0, 99, 42, 89, 180, 0, 52, 4, 96, 181, 0, 52, 3, 172]
abbrev dktX2_wring_3 : List UInt8 := dkwX2_wring_3 ++ []
def dkwX2_wring_2 : List UInt8 := [180, 0, 18, 27, 182, 0, 34, 192, 0, 9, 25, 4, 182, 0, 25, 87, 25, 4, 27, 181, 0, 96, 25, 4]
abbrev dktX2_wring_2 : List UInt8 := dkwX2_wring_2 ++ dktX2_wring_3
def dkwX2_wring_1 : List UInt8 := [180, 0, 12, 28, 182, 0, 34, 192, 0, 38, 58, 4, 42, 25, 4, 42, 27, 182, 0, 88, 182, 0, 92, 42]
abbrev dktX2_wring_1 : List UInt8 := dkwX2_wring_1 ++ dktX2_wring_2
def dkwX2_wring_0 : List UInt8 := [42, 27, 28, 182, 0, 84, 62, 29, 158, 0, 15, 42, 89, 180, 0, 58, 4, 96, 181, 0, 58, 29, 172, 42]
abbrev dktX2_wring_0 : List UInt8 := dkwX2_wring_0 ++ dktX2_wring_1
theorem dksX2_wring_0 : cX2_wring.data.toList.drop 0 = dktX2_wring_0 := by decide +kernel
theorem dksX2_wring_1 : cX2_wring.data.toList.drop 24 = dktX2_wring_1 := dk_seg dksX2_wring_0 24 rfl rfl
theorem dksX2_wring_2 : cX2_wring.data.toList.drop 48 = dktX2_wring_2 := dk_seg dksX2_wring_1 24 rfl rfl
theorem dksX2_wring_3 : cX2_wring.data.toList.drop 72 = dktX2_wring_3 := dk_seg dksX2_wring_2 24 rfl rfl
theorem dX2_wring_0 : decode cX2_wring 0 = .ok (.aload_n 0, 1) := dk_42 (dk_at dksX2_wring_0 0 rfl rfl)
theorem dX2_wring_1 : decode cX2_wring 1 = .ok (.iload_n 1, 1) := dk_27 (dk_at dksX2_wring_0 1 rfl rfl)
theorem dX2_wring_2 : decode cX2_wring 2 = .ok (.iload_n 2, 1) := dk_28 (dk_at dksX2_wring_0 2 rfl rfl)
theorem dX2_wring_3 : decode cX2_wring 3 = .ok (.invokevirtual 84, 3) := dk_182 0 84 (dk_at dksX2_wring_0 3 rfl rfl)
theorem dX2_wring_6 : decode cX2_wring 6 = .ok (.istore_n 3, 1) := dk_62 (dk_at dksX2_wring_0 6 rfl rfl)
theorem dX2_wring_7 : decode cX2_wring 7 = .ok (.iload_n 3, 1) := dk_29 (dk_at dksX2_wring_0 7 rfl rfl)
theorem dX2_wring_8 : decode cX2_wring 8 = .ok (.ifCond .le 15, 3) := dk_158 0 15 (dk_at dksX2_wring_0 8 rfl rfl)
theorem dX2_wring_11 : decode cX2_wring 11 = .ok (.aload_n 0, 1) := dk_42 (dk_at dksX2_wring_0 11 rfl rfl)
theorem dX2_wring_12 : decode cX2_wring 12 = .ok (.dup, 1) := dk_89 (dk_at dksX2_wring_0 12 rfl rfl)
theorem dX2_wring_13 : decode cX2_wring 13 = .ok (.getfield 58, 3) := dk_180 0 58 (dk_at dksX2_wring_0 13 rfl rfl)
theorem dX2_wring_16 : decode cX2_wring 16 = .ok (.iconst 1, 1) := dk_4 (dk_at dksX2_wring_0 16 rfl rfl)
theorem dX2_wring_17 : decode cX2_wring 17 = .ok (.iadd, 1) := dk_96 (dk_at dksX2_wring_0 17 rfl rfl)
theorem dX2_wring_18 : decode cX2_wring 18 = .ok (.putfield 58, 3) := dk_181 0 58 (dk_at dksX2_wring_0 18 rfl rfl)
theorem dX2_wring_21 : decode cX2_wring 21 = .ok (.iload_n 3, 1) := dk_29 (dk_at dksX2_wring_0 21 rfl rfl)
theorem dX2_wring_22 : decode cX2_wring 22 = .ok (.ireturn, 1) := dk_172 (dk_at dksX2_wring_0 22 rfl rfl)
theorem dX2_wring_23 : decode cX2_wring 23 = .ok (.aload_n 0, 1) := dk_42 (dk_at dksX2_wring_0 23 rfl rfl)
theorem dX2_wring_24 : decode cX2_wring 24 = .ok (.getfield 12, 3) := dk_180 0 12 (dk_at dksX2_wring_1 0 rfl rfl)
theorem dX2_wring_27 : decode cX2_wring 27 = .ok (.iload_n 2, 1) := dk_28 (dk_at dksX2_wring_1 3 rfl rfl)
theorem dX2_wring_28 : decode cX2_wring 28 = .ok (.invokevirtual 34, 3) := dk_182 0 34 (dk_at dksX2_wring_1 4 rfl rfl)
theorem dX2_wring_31 : decode cX2_wring 31 = .ok (.checkcast 38, 3) := dk_192 0 38 (dk_at dksX2_wring_1 7 rfl rfl)
theorem dX2_wring_34 : decode cX2_wring 34 = .ok (.astore 4, 2) := dk_58 4 (dk_at dksX2_wring_1 10 rfl rfl)
theorem dX2_wring_36 : decode cX2_wring 36 = .ok (.aload_n 0, 1) := dk_42 (dk_at dksX2_wring_1 12 rfl rfl)
theorem dX2_wring_37 : decode cX2_wring 37 = .ok (.aload 4, 2) := dk_25 4 (dk_at dksX2_wring_1 13 rfl rfl)
theorem dX2_wring_39 : decode cX2_wring 39 = .ok (.aload_n 0, 1) := dk_42 (dk_at dksX2_wring_1 15 rfl rfl)
theorem dX2_wring_40 : decode cX2_wring 40 = .ok (.iload_n 1, 1) := dk_27 (dk_at dksX2_wring_1 16 rfl rfl)
theorem dX2_wring_41 : decode cX2_wring 41 = .ok (.invokevirtual 88, 3) := dk_182 0 88 (dk_at dksX2_wring_1 17 rfl rfl)
theorem dX2_wring_44 : decode cX2_wring 44 = .ok (.invokevirtual 92, 3) := dk_182 0 92 (dk_at dksX2_wring_1 20 rfl rfl)
theorem dX2_wring_47 : decode cX2_wring 47 = .ok (.aload_n 0, 1) := dk_42 (dk_at dksX2_wring_1 23 rfl rfl)
theorem dX2_wring_48 : decode cX2_wring 48 = .ok (.getfield 18, 3) := dk_180 0 18 (dk_at dksX2_wring_2 0 rfl rfl)
theorem dX2_wring_51 : decode cX2_wring 51 = .ok (.iload_n 1, 1) := dk_27 (dk_at dksX2_wring_2 3 rfl rfl)
theorem dX2_wring_52 : decode cX2_wring 52 = .ok (.invokevirtual 34, 3) := dk_182 0 34 (dk_at dksX2_wring_2 4 rfl rfl)
theorem dX2_wring_55 : decode cX2_wring 55 = .ok (.checkcast 9, 3) := dk_192 0 9 (dk_at dksX2_wring_2 7 rfl rfl)
theorem dX2_wring_58 : decode cX2_wring 58 = .ok (.aload 4, 2) := dk_25 4 (dk_at dksX2_wring_2 10 rfl rfl)
theorem dX2_wring_60 : decode cX2_wring 60 = .ok (.invokevirtual 25, 3) := dk_182 0 25 (dk_at dksX2_wring_2 12 rfl rfl)
theorem dX2_wring_63 : decode cX2_wring 63 = .ok (.pop, 1) := dk_87 (dk_at dksX2_wring_2 15 rfl rfl)
theorem dX2_wring_64 : decode cX2_wring 64 = .ok (.aload 4, 2) := dk_25 4 (dk_at dksX2_wring_2 16 rfl rfl)
theorem dX2_wring_66 : decode cX2_wring 66 = .ok (.iload_n 1, 1) := dk_27 (dk_at dksX2_wring_2 18 rfl rfl)
theorem dX2_wring_67 : decode cX2_wring 67 = .ok (.putfield 96, 3) := dk_181 0 96 (dk_at dksX2_wring_2 19 rfl rfl)
theorem dX2_wring_70 : decode cX2_wring 70 = .ok (.aload 4, 2) := dk_25 4 (dk_at dksX2_wring_2 22 rfl rfl)
theorem dX2_wring_72 : decode cX2_wring 72 = .ok (.dup, 1) := dk_89 (dk_at dksX2_wring_3 0 rfl rfl)
theorem dX2_wring_73 : decode cX2_wring 73 = .ok (.getfield 99, 3) := dk_180 0 99 (dk_at dksX2_wring_3 1 rfl rfl)
theorem dX2_wring_76 : decode cX2_wring 76 = .ok (.iconst 1, 1) := dk_4 (dk_at dksX2_wring_3 4 rfl rfl)
theorem dX2_wring_77 : decode cX2_wring 77 = .ok (.iadd, 1) := dk_96 (dk_at dksX2_wring_3 5 rfl rfl)
theorem dX2_wring_78 : decode cX2_wring 78 = .ok (.putfield 99, 3) := dk_181 0 99 (dk_at dksX2_wring_3 6 rfl rfl)
theorem dX2_wring_81 : decode cX2_wring 81 = .ok (.aload_n 0, 1) := dk_42 (dk_at dksX2_wring_3 9 rfl rfl)
theorem dX2_wring_82 : decode cX2_wring 82 = .ok (.dup, 1) := dk_89 (dk_at dksX2_wring_3 10 rfl rfl)
theorem dX2_wring_83 : decode cX2_wring 83 = .ok (.getfield 52, 3) := dk_180 0 52 (dk_at dksX2_wring_3 11 rfl rfl)
theorem dX2_wring_86 : decode cX2_wring 86 = .ok (.iconst 1, 1) := dk_4 (dk_at dksX2_wring_3 14 rfl rfl)
theorem dX2_wring_87 : decode cX2_wring 87 = .ok (.iadd, 1) := dk_96 (dk_at dksX2_wring_3 15 rfl rfl)
theorem dX2_wring_88 : decode cX2_wring 88 = .ok (.putfield 52, 3) := dk_181 0 52 (dk_at dksX2_wring_3 16 rfl rfl)
theorem dX2_wring_91 : decode cX2_wring 91 = .ok (.iconst 0, 1) := dk_3 (dk_at dksX2_wring_3 19 rfl rfl)
theorem dX2_wring_92 : decode cX2_wring 92 = .ok (.ireturn, 1) := dk_172 (dk_at dksX2_wring_3 20 rfl rfl)
abbrev cX2_refusal : ByteArray := prog_8_method_7_code
def yX2_refusal : MethodName := ⟨RX2, "refusal", "(II)I"⟩
def dkwX2_refusal_3 : List UInt8 := [167, 0, 4, 3, 172]
abbrev dktX2_refusal_3 : List UInt8 := dkwX2_refusal_3 ++ []
def dkwX2_refusal_2 : List UInt8 := [42, 180, 0, 21, 4, 46, 164, 0, 7, 6, 167, 0, 16, 45, 182, 0, 74, 6, 160, 0, 7, 7]
abbrev dktX2_refusal_2 : List UInt8 := dkwX2_refusal_2 ++ dktX2_refusal_3
def dkwX2_refusal_1 : List UInt8 := [180, 0, 18, 27, 182, 0, 34, 192, 0, 9, 182, 0, 30, 16, 6, 160, 0, 5, 5, 172, 45, 180, 0, 71]
abbrev dktX2_refusal_1 : List UInt8 := dkwX2_refusal_1 ++ dktX2_refusal_2
def dkwX2_refusal_0 : List UInt8 := [42, 180, 0, 12, 28, 182, 0, 34, 192, 0, 38, 78, 45, 182, 0, 64, 154, 0, 5, 4, 172, 42]
abbrev dktX2_refusal_0 : List UInt8 := dkwX2_refusal_0 ++ dktX2_refusal_1
theorem dksX2_refusal_0 : cX2_refusal.data.toList.drop 0 = dktX2_refusal_0 := by decide +kernel
theorem dksX2_refusal_1 : cX2_refusal.data.toList.drop 22 = dktX2_refusal_1 := dk_seg dksX2_refusal_0 22 rfl rfl
theorem dksX2_refusal_2 : cX2_refusal.data.toList.drop 46 = dktX2_refusal_2 := dk_seg dksX2_refusal_1 24 rfl rfl
theorem dksX2_refusal_3 : cX2_refusal.data.toList.drop 68 = dktX2_refusal_3 := dk_seg dksX2_refusal_2 22 rfl rfl
theorem dX2_refusal_0 : decode cX2_refusal 0 = .ok (.aload_n 0, 1) := dk_42 (dk_at dksX2_refusal_0 0 rfl rfl)
theorem dX2_refusal_1 : decode cX2_refusal 1 = .ok (.getfield 12, 3) := dk_180 0 12 (dk_at dksX2_refusal_0 1 rfl rfl)
theorem dX2_refusal_4 : decode cX2_refusal 4 = .ok (.iload_n 2, 1) := dk_28 (dk_at dksX2_refusal_0 4 rfl rfl)
theorem dX2_refusal_5 : decode cX2_refusal 5 = .ok (.invokevirtual 34, 3) := dk_182 0 34 (dk_at dksX2_refusal_0 5 rfl rfl)
theorem dX2_refusal_8 : decode cX2_refusal 8 = .ok (.checkcast 38, 3) := dk_192 0 38 (dk_at dksX2_refusal_0 8 rfl rfl)
theorem dX2_refusal_11 : decode cX2_refusal 11 = .ok (.astore_n 3, 1) := dk_78 (dk_at dksX2_refusal_0 11 rfl rfl)
theorem dX2_refusal_12 : decode cX2_refusal 12 = .ok (.aload_n 3, 1) := dk_45 (dk_at dksX2_refusal_0 12 rfl rfl)
theorem dX2_refusal_13 : decode cX2_refusal 13 = .ok (.invokevirtual 64, 3) := dk_182 0 64 (dk_at dksX2_refusal_0 13 rfl rfl)
theorem dX2_refusal_16 : decode cX2_refusal 16 = .ok (.ifCond .ne 5, 3) := dk_154 0 5 (dk_at dksX2_refusal_0 16 rfl rfl)
theorem dX2_refusal_19 : decode cX2_refusal 19 = .ok (.iconst 1, 1) := dk_4 (dk_at dksX2_refusal_0 19 rfl rfl)
theorem dX2_refusal_20 : decode cX2_refusal 20 = .ok (.ireturn, 1) := dk_172 (dk_at dksX2_refusal_0 20 rfl rfl)
theorem dX2_refusal_21 : decode cX2_refusal 21 = .ok (.aload_n 0, 1) := dk_42 (dk_at dksX2_refusal_0 21 rfl rfl)
theorem dX2_refusal_22 : decode cX2_refusal 22 = .ok (.getfield 18, 3) := dk_180 0 18 (dk_at dksX2_refusal_1 0 rfl rfl)
theorem dX2_refusal_25 : decode cX2_refusal 25 = .ok (.iload_n 1, 1) := dk_27 (dk_at dksX2_refusal_1 3 rfl rfl)
theorem dX2_refusal_26 : decode cX2_refusal 26 = .ok (.invokevirtual 34, 3) := dk_182 0 34 (dk_at dksX2_refusal_1 4 rfl rfl)
theorem dX2_refusal_29 : decode cX2_refusal 29 = .ok (.checkcast 9, 3) := dk_192 0 9 (dk_at dksX2_refusal_1 7 rfl rfl)
theorem dX2_refusal_32 : decode cX2_refusal 32 = .ok (.invokevirtual 30, 3) := dk_182 0 30 (dk_at dksX2_refusal_1 10 rfl rfl)
theorem dX2_refusal_35 : decode cX2_refusal 35 = .ok (.bipush 6, 2) := dk_16 6 (dk_at dksX2_refusal_1 13 rfl rfl)
theorem dX2_refusal_37 : decode cX2_refusal 37 = .ok (.if_icmp .ne 5, 3) := dk_160 0 5 (dk_at dksX2_refusal_1 15 rfl rfl)
theorem dX2_refusal_40 : decode cX2_refusal 40 = .ok (.iconst 2, 1) := dk_5 (dk_at dksX2_refusal_1 18 rfl rfl)
theorem dX2_refusal_41 : decode cX2_refusal 41 = .ok (.ireturn, 1) := dk_172 (dk_at dksX2_refusal_1 19 rfl rfl)
theorem dX2_refusal_42 : decode cX2_refusal 42 = .ok (.aload_n 3, 1) := dk_45 (dk_at dksX2_refusal_1 20 rfl rfl)
theorem dX2_refusal_43 : decode cX2_refusal 43 = .ok (.getfield 71, 3) := dk_180 0 71 (dk_at dksX2_refusal_1 21 rfl rfl)
theorem dX2_refusal_46 : decode cX2_refusal 46 = .ok (.aload_n 0, 1) := dk_42 (dk_at dksX2_refusal_2 0 rfl rfl)
theorem dX2_refusal_47 : decode cX2_refusal 47 = .ok (.getfield 21, 3) := dk_180 0 21 (dk_at dksX2_refusal_2 1 rfl rfl)
theorem dX2_refusal_50 : decode cX2_refusal 50 = .ok (.iconst 1, 1) := dk_4 (dk_at dksX2_refusal_2 4 rfl rfl)
theorem dX2_refusal_51 : decode cX2_refusal 51 = .ok (.iaload, 1) := dk_46 (dk_at dksX2_refusal_2 5 rfl rfl)
theorem dX2_refusal_52 : decode cX2_refusal 52 = .ok (.if_icmp .le 7, 3) := dk_164 0 7 (dk_at dksX2_refusal_2 6 rfl rfl)
theorem dX2_refusal_55 : decode cX2_refusal 55 = .ok (.iconst 3, 1) := dk_6 (dk_at dksX2_refusal_2 9 rfl rfl)
theorem dX2_refusal_56 : decode cX2_refusal 56 = .ok (.goto 16, 3) := dk_167 0 16 (dk_at dksX2_refusal_2 10 rfl rfl)
theorem dX2_refusal_59 : decode cX2_refusal 59 = .ok (.aload_n 3, 1) := dk_45 (dk_at dksX2_refusal_2 13 rfl rfl)
theorem dX2_refusal_60 : decode cX2_refusal 60 = .ok (.invokevirtual 74, 3) := dk_182 0 74 (dk_at dksX2_refusal_2 14 rfl rfl)
theorem dX2_refusal_63 : decode cX2_refusal 63 = .ok (.iconst 3, 1) := dk_6 (dk_at dksX2_refusal_2 17 rfl rfl)
theorem dX2_refusal_64 : decode cX2_refusal 64 = .ok (.if_icmp .ne 7, 3) := dk_160 0 7 (dk_at dksX2_refusal_2 18 rfl rfl)
theorem dX2_refusal_67 : decode cX2_refusal 67 = .ok (.iconst 4, 1) := dk_7 (dk_at dksX2_refusal_2 21 rfl rfl)
theorem dX2_refusal_68 : decode cX2_refusal 68 = .ok (.goto 4, 3) := dk_167 0 4 (dk_at dksX2_refusal_3 0 rfl rfl)
theorem dX2_refusal_71 : decode cX2_refusal 71 = .ok (.iconst 0, 1) := dk_3 (dk_at dksX2_refusal_3 3 rfl rfl)
theorem dX2_refusal_72 : decode cX2_refusal 72 = .ok (.ireturn, 1) := dk_172 (dk_at dksX2_refusal_3 4 rfl rfl)
abbrev cX2_top : ByteArray := prog_8_method_6_code
def yX2_top : MethodName := ⟨RX2, "top", "(I)LGaugeBlocks$Block;"⟩
def dkwX2_top_1 : List UInt8 := [44, 182, 0, 30, 4, 100, 182, 0, 34, 192, 0, 38, 176]
abbrev dktX2_top_1 : List UInt8 := dkwX2_top_1 ++ []
def dkwX2_top_0 : List UInt8 := [42, 180, 0, 18, 27, 182, 0, 34, 192, 0, 9, 77, 44, 182, 0, 68, 153, 0, 7, 1, 167, 0, 16, 44]
abbrev dktX2_top_0 : List UInt8 := dkwX2_top_0 ++ dktX2_top_1
theorem dksX2_top_0 : cX2_top.data.toList.drop 0 = dktX2_top_0 := by decide +kernel
theorem dksX2_top_1 : cX2_top.data.toList.drop 24 = dktX2_top_1 := dk_seg dksX2_top_0 24 rfl rfl
theorem dX2_top_0 : decode cX2_top 0 = .ok (.aload_n 0, 1) := dk_42 (dk_at dksX2_top_0 0 rfl rfl)
theorem dX2_top_1 : decode cX2_top 1 = .ok (.getfield 18, 3) := dk_180 0 18 (dk_at dksX2_top_0 1 rfl rfl)
theorem dX2_top_4 : decode cX2_top 4 = .ok (.iload_n 1, 1) := dk_27 (dk_at dksX2_top_0 4 rfl rfl)
theorem dX2_top_5 : decode cX2_top 5 = .ok (.invokevirtual 34, 3) := dk_182 0 34 (dk_at dksX2_top_0 5 rfl rfl)
theorem dX2_top_8 : decode cX2_top 8 = .ok (.checkcast 9, 3) := dk_192 0 9 (dk_at dksX2_top_0 8 rfl rfl)
theorem dX2_top_11 : decode cX2_top 11 = .ok (.astore_n 2, 1) := dk_77 (dk_at dksX2_top_0 11 rfl rfl)
theorem dX2_top_12 : decode cX2_top 12 = .ok (.aload_n 2, 1) := dk_44 (dk_at dksX2_top_0 12 rfl rfl)
theorem dX2_top_13 : decode cX2_top 13 = .ok (.invokevirtual 68, 3) := dk_182 0 68 (dk_at dksX2_top_0 13 rfl rfl)
theorem dX2_top_16 : decode cX2_top 16 = .ok (.ifCond .eq 7, 3) := dk_153 0 7 (dk_at dksX2_top_0 16 rfl rfl)
theorem dX2_top_19 : decode cX2_top 19 = .ok (.aconst_null, 1) := dk_1 (dk_at dksX2_top_0 19 rfl rfl)
theorem dX2_top_20 : decode cX2_top 20 = .ok (.goto 16, 3) := dk_167 0 16 (dk_at dksX2_top_0 20 rfl rfl)
theorem dX2_top_23 : decode cX2_top 23 = .ok (.aload_n 2, 1) := dk_44 (dk_at dksX2_top_0 23 rfl rfl)
theorem dX2_top_24 : decode cX2_top 24 = .ok (.aload_n 2, 1) := dk_44 (dk_at dksX2_top_1 0 rfl rfl)
theorem dX2_top_25 : decode cX2_top 25 = .ok (.invokevirtual 30, 3) := dk_182 0 30 (dk_at dksX2_top_1 1 rfl rfl)
theorem dX2_top_28 : decode cX2_top 28 = .ok (.iconst 1, 1) := dk_4 (dk_at dksX2_top_1 4 rfl rfl)
theorem dX2_top_29 : decode cX2_top 29 = .ok (.isub, 1) := dk_100 (dk_at dksX2_top_1 5 rfl rfl)
theorem dX2_top_30 : decode cX2_top 30 = .ok (.invokevirtual 34, 3) := dk_182 0 34 (dk_at dksX2_top_1 6 rfl rfl)
theorem dX2_top_33 : decode cX2_top 33 = .ok (.checkcast 38, 3) := dk_192 0 38 (dk_at dksX2_top_1 9 rfl rfl)
theorem dX2_top_36 : decode cX2_top 36 = .ok (.areturn, 1) := dk_176 (dk_at dksX2_top_1 12 rfl rfl)
abbrev cX2_touch : ByteArray := prog_8_method_8_code
def yX2_touch : MethodName := ⟨RX2, "touch", "(LGaugeBlocks$Block;LGaugeBlocks$Block;)V"⟩
def dkwX2_touch_1 : List UInt8 := [46, 96, 181, 0, 81, 44, 89, 180, 0, 81, 42, 180, 0, 21, 5, 46, 96, 181, 0, 81, 177]
abbrev dktX2_touch_1 : List UInt8 := dkwX2_touch_1 ++ []
def dkwX2_touch_0 : List UInt8 := [43, 42, 180, 0, 21, 6, 46, 182, 0, 77, 44, 198, 0, 33, 43, 89, 180, 0, 81, 42, 180, 0, 21, 5]
abbrev dktX2_touch_0 : List UInt8 := dkwX2_touch_0 ++ dktX2_touch_1
theorem dksX2_touch_0 : cX2_touch.data.toList.drop 0 = dktX2_touch_0 := by decide +kernel
theorem dksX2_touch_1 : cX2_touch.data.toList.drop 24 = dktX2_touch_1 := dk_seg dksX2_touch_0 24 rfl rfl
theorem dX2_touch_0 : decode cX2_touch 0 = .ok (.aload_n 1, 1) := dk_43 (dk_at dksX2_touch_0 0 rfl rfl)
theorem dX2_touch_1 : decode cX2_touch 1 = .ok (.aload_n 0, 1) := dk_42 (dk_at dksX2_touch_0 1 rfl rfl)
theorem dX2_touch_2 : decode cX2_touch 2 = .ok (.getfield 21, 3) := dk_180 0 21 (dk_at dksX2_touch_0 2 rfl rfl)
theorem dX2_touch_5 : decode cX2_touch 5 = .ok (.iconst 3, 1) := dk_6 (dk_at dksX2_touch_0 5 rfl rfl)
theorem dX2_touch_6 : decode cX2_touch 6 = .ok (.iaload, 1) := dk_46 (dk_at dksX2_touch_0 6 rfl rfl)
theorem dX2_touch_7 : decode cX2_touch 7 = .ok (.invokevirtual 77, 3) := dk_182 0 77 (dk_at dksX2_touch_0 7 rfl rfl)
theorem dX2_touch_10 : decode cX2_touch 10 = .ok (.aload_n 2, 1) := dk_44 (dk_at dksX2_touch_0 10 rfl rfl)
theorem dX2_touch_11 : decode cX2_touch 11 = .ok (.ifnull 33, 3) := dk_198 0 33 (dk_at dksX2_touch_0 11 rfl rfl)
theorem dX2_touch_14 : decode cX2_touch 14 = .ok (.aload_n 1, 1) := dk_43 (dk_at dksX2_touch_0 14 rfl rfl)
theorem dX2_touch_15 : decode cX2_touch 15 = .ok (.dup, 1) := dk_89 (dk_at dksX2_touch_0 15 rfl rfl)
theorem dX2_touch_16 : decode cX2_touch 16 = .ok (.getfield 81, 3) := dk_180 0 81 (dk_at dksX2_touch_0 16 rfl rfl)
theorem dX2_touch_19 : decode cX2_touch 19 = .ok (.aload_n 0, 1) := dk_42 (dk_at dksX2_touch_0 19 rfl rfl)
theorem dX2_touch_20 : decode cX2_touch 20 = .ok (.getfield 21, 3) := dk_180 0 21 (dk_at dksX2_touch_0 20 rfl rfl)
theorem dX2_touch_23 : decode cX2_touch 23 = .ok (.iconst 2, 1) := dk_5 (dk_at dksX2_touch_0 23 rfl rfl)
theorem dX2_touch_24 : decode cX2_touch 24 = .ok (.iaload, 1) := dk_46 (dk_at dksX2_touch_1 0 rfl rfl)
theorem dX2_touch_25 : decode cX2_touch 25 = .ok (.iadd, 1) := dk_96 (dk_at dksX2_touch_1 1 rfl rfl)
theorem dX2_touch_26 : decode cX2_touch 26 = .ok (.putfield 81, 3) := dk_181 0 81 (dk_at dksX2_touch_1 2 rfl rfl)
theorem dX2_touch_29 : decode cX2_touch 29 = .ok (.aload_n 2, 1) := dk_44 (dk_at dksX2_touch_1 5 rfl rfl)
theorem dX2_touch_30 : decode cX2_touch 30 = .ok (.dup, 1) := dk_89 (dk_at dksX2_touch_1 6 rfl rfl)
theorem dX2_touch_31 : decode cX2_touch 31 = .ok (.getfield 81, 3) := dk_180 0 81 (dk_at dksX2_touch_1 7 rfl rfl)
theorem dX2_touch_34 : decode cX2_touch 34 = .ok (.aload_n 0, 1) := dk_42 (dk_at dksX2_touch_1 10 rfl rfl)
theorem dX2_touch_35 : decode cX2_touch 35 = .ok (.getfield 21, 3) := dk_180 0 21 (dk_at dksX2_touch_1 11 rfl rfl)
theorem dX2_touch_38 : decode cX2_touch 38 = .ok (.iconst 2, 1) := dk_5 (dk_at dksX2_touch_1 14 rfl rfl)
theorem dX2_touch_39 : decode cX2_touch 39 = .ok (.iaload, 1) := dk_46 (dk_at dksX2_touch_1 15 rfl rfl)
theorem dX2_touch_40 : decode cX2_touch 40 = .ok (.iadd, 1) := dk_96 (dk_at dksX2_touch_1 16 rfl rfl)
theorem dX2_touch_41 : decode cX2_touch 41 = .ok (.putfield 81, 3) := dk_181 0 81 (dk_at dksX2_touch_1 17 rfl rfl)
theorem dX2_touch_44 : decode cX2_touch 44 = .ok (.return_, 1) := dk_177 (dk_at dksX2_touch_1 20 rfl rfl)
abbrev cX2_takeOff : ByteArray := prog_8_method_10_code
def yX2_takeOff : MethodName := ⟨RX2, "takeOff", "(I)I"⟩
def dkwX2_takeOff_2 : List UInt8 := [4, 96, 181, 0, 55, 42, 45, 182, 0, 44, 172]
abbrev dktX2_takeOff_2 : List UInt8 := dkwX2_takeOff_2 ++ []
def dkwX2_takeOff_1 : List UInt8 := [192, 0, 38, 78, 42, 45, 42, 27, 182, 0, 88, 182, 0, 92, 45, 2, 181, 0, 96, 42, 89, 180, 0, 55]
abbrev dktX2_takeOff_1 : List UInt8 := dkwX2_takeOff_1 ++ dktX2_takeOff_2
def dkwX2_takeOff_0 : List UInt8 := [42, 180, 0, 18, 27, 182, 0, 34, 192, 0, 9, 77, 44, 44, 182, 0, 30, 4, 100, 182, 0, 100]
abbrev dktX2_takeOff_0 : List UInt8 := dkwX2_takeOff_0 ++ dktX2_takeOff_1
theorem dksX2_takeOff_0 : cX2_takeOff.data.toList.drop 0 = dktX2_takeOff_0 := by decide +kernel
theorem dksX2_takeOff_1 : cX2_takeOff.data.toList.drop 22 = dktX2_takeOff_1 := dk_seg dksX2_takeOff_0 22 rfl rfl
theorem dksX2_takeOff_2 : cX2_takeOff.data.toList.drop 46 = dktX2_takeOff_2 := dk_seg dksX2_takeOff_1 24 rfl rfl
theorem dX2_takeOff_0 : decode cX2_takeOff 0 = .ok (.aload_n 0, 1) := dk_42 (dk_at dksX2_takeOff_0 0 rfl rfl)
theorem dX2_takeOff_1 : decode cX2_takeOff 1 = .ok (.getfield 18, 3) := dk_180 0 18 (dk_at dksX2_takeOff_0 1 rfl rfl)
theorem dX2_takeOff_4 : decode cX2_takeOff 4 = .ok (.iload_n 1, 1) := dk_27 (dk_at dksX2_takeOff_0 4 rfl rfl)
theorem dX2_takeOff_5 : decode cX2_takeOff 5 = .ok (.invokevirtual 34, 3) := dk_182 0 34 (dk_at dksX2_takeOff_0 5 rfl rfl)
theorem dX2_takeOff_8 : decode cX2_takeOff 8 = .ok (.checkcast 9, 3) := dk_192 0 9 (dk_at dksX2_takeOff_0 8 rfl rfl)
theorem dX2_takeOff_11 : decode cX2_takeOff 11 = .ok (.astore_n 2, 1) := dk_77 (dk_at dksX2_takeOff_0 11 rfl rfl)
theorem dX2_takeOff_12 : decode cX2_takeOff 12 = .ok (.aload_n 2, 1) := dk_44 (dk_at dksX2_takeOff_0 12 rfl rfl)
theorem dX2_takeOff_13 : decode cX2_takeOff 13 = .ok (.aload_n 2, 1) := dk_44 (dk_at dksX2_takeOff_0 13 rfl rfl)
theorem dX2_takeOff_14 : decode cX2_takeOff 14 = .ok (.invokevirtual 30, 3) := dk_182 0 30 (dk_at dksX2_takeOff_0 14 rfl rfl)
theorem dX2_takeOff_17 : decode cX2_takeOff 17 = .ok (.iconst 1, 1) := dk_4 (dk_at dksX2_takeOff_0 17 rfl rfl)
theorem dX2_takeOff_18 : decode cX2_takeOff 18 = .ok (.isub, 1) := dk_100 (dk_at dksX2_takeOff_0 18 rfl rfl)
theorem dX2_takeOff_19 : decode cX2_takeOff 19 = .ok (.invokevirtual 100, 3) := dk_182 0 100 (dk_at dksX2_takeOff_0 19 rfl rfl)
theorem dX2_takeOff_22 : decode cX2_takeOff 22 = .ok (.checkcast 38, 3) := dk_192 0 38 (dk_at dksX2_takeOff_1 0 rfl rfl)
theorem dX2_takeOff_25 : decode cX2_takeOff 25 = .ok (.astore_n 3, 1) := dk_78 (dk_at dksX2_takeOff_1 3 rfl rfl)
theorem dX2_takeOff_26 : decode cX2_takeOff 26 = .ok (.aload_n 0, 1) := dk_42 (dk_at dksX2_takeOff_1 4 rfl rfl)
theorem dX2_takeOff_27 : decode cX2_takeOff 27 = .ok (.aload_n 3, 1) := dk_45 (dk_at dksX2_takeOff_1 5 rfl rfl)
theorem dX2_takeOff_28 : decode cX2_takeOff 28 = .ok (.aload_n 0, 1) := dk_42 (dk_at dksX2_takeOff_1 6 rfl rfl)
theorem dX2_takeOff_29 : decode cX2_takeOff 29 = .ok (.iload_n 1, 1) := dk_27 (dk_at dksX2_takeOff_1 7 rfl rfl)
theorem dX2_takeOff_30 : decode cX2_takeOff 30 = .ok (.invokevirtual 88, 3) := dk_182 0 88 (dk_at dksX2_takeOff_1 8 rfl rfl)
theorem dX2_takeOff_33 : decode cX2_takeOff 33 = .ok (.invokevirtual 92, 3) := dk_182 0 92 (dk_at dksX2_takeOff_1 11 rfl rfl)
theorem dX2_takeOff_36 : decode cX2_takeOff 36 = .ok (.aload_n 3, 1) := dk_45 (dk_at dksX2_takeOff_1 14 rfl rfl)
theorem dX2_takeOff_37 : decode cX2_takeOff 37 = .ok (.iconst (-1), 1) := dk_2 (dk_at dksX2_takeOff_1 15 rfl rfl)
theorem dX2_takeOff_38 : decode cX2_takeOff 38 = .ok (.putfield 96, 3) := dk_181 0 96 (dk_at dksX2_takeOff_1 16 rfl rfl)
theorem dX2_takeOff_41 : decode cX2_takeOff 41 = .ok (.aload_n 0, 1) := dk_42 (dk_at dksX2_takeOff_1 19 rfl rfl)
theorem dX2_takeOff_42 : decode cX2_takeOff 42 = .ok (.dup, 1) := dk_89 (dk_at dksX2_takeOff_1 20 rfl rfl)
theorem dX2_takeOff_43 : decode cX2_takeOff 43 = .ok (.getfield 55, 3) := dk_180 0 55 (dk_at dksX2_takeOff_1 21 rfl rfl)
theorem dX2_takeOff_46 : decode cX2_takeOff 46 = .ok (.iconst 1, 1) := dk_4 (dk_at dksX2_takeOff_2 0 rfl rfl)
theorem dX2_takeOff_47 : decode cX2_takeOff 47 = .ok (.iadd, 1) := dk_96 (dk_at dksX2_takeOff_2 1 rfl rfl)
theorem dX2_takeOff_48 : decode cX2_takeOff 48 = .ok (.putfield 55, 3) := dk_181 0 55 (dk_at dksX2_takeOff_2 2 rfl rfl)
theorem dX2_takeOff_51 : decode cX2_takeOff 51 = .ok (.aload_n 0, 1) := dk_42 (dk_at dksX2_takeOff_2 5 rfl rfl)
theorem dX2_takeOff_52 : decode cX2_takeOff 52 = .ok (.aload_n 3, 1) := dk_45 (dk_at dksX2_takeOff_2 6 rfl rfl)
theorem dX2_takeOff_53 : decode cX2_takeOff 53 = .ok (.invokevirtual 44, 3) := dk_182 0 44 (dk_at dksX2_takeOff_2 7 rfl rfl)
theorem dX2_takeOff_56 : decode cX2_takeOff 56 = .ok (.ireturn, 1) := dk_172 (dk_at dksX2_takeOff_2 10 rfl rfl)
abbrev cX2_make : ByteArray := prog_8_method_11_code
def yX2_make : MethodName := ⟨RX2, "make", "(II)I"⟩
def dkwX2_make_4 : List UInt8 := [21, 4, 172]
abbrev dktX2_make_4 : List UInt8 := dkwX2_make_4 ++ []
def dkwX2_make_3 : List UInt8 := [54, 5, 21, 4, 21, 5, 153, 0, 7, 4, 167, 0, 4, 3, 96, 54, 4, 132, 6, 1, 167, 255, 194]
abbrev dktX2_make_3 : List UInt8 := dkwX2_make_3 ++ dktX2_make_4
def dkwX2_make_2 : List UInt8 := [21, 6, 122, 4, 126, 4, 160, 0, 35, 42, 27, 21, 6, 182, 0, 111, 154, 0, 7, 4, 167, 0, 4, 3]
abbrev dktX2_make_2 : List UInt8 := dkwX2_make_2 ++ dktX2_make_3
def dkwX2_make_1 : List UInt8 := [54, 5, 3, 54, 6, 21, 6, 42, 180, 0, 12, 182, 0, 30, 162, 0, 56, 21, 5, 153, 0, 51, 29]
abbrev dktX2_make_1 : List UInt8 := dkwX2_make_1 ++ dktX2_make_2
def dkwX2_make_0 : List UInt8 := [187, 0, 103, 89, 42, 28, 183, 0, 105, 182, 0, 108, 62, 29, 154, 0, 5, 2, 172, 3, 54, 4, 4]
abbrev dktX2_make_0 : List UInt8 := dkwX2_make_0 ++ dktX2_make_1
theorem dksX2_make_0 : cX2_make.data.toList.drop 0 = dktX2_make_0 := by decide +kernel
theorem dksX2_make_1 : cX2_make.data.toList.drop 23 = dktX2_make_1 := dk_seg dksX2_make_0 23 rfl rfl
theorem dksX2_make_2 : cX2_make.data.toList.drop 46 = dktX2_make_2 := dk_seg dksX2_make_1 23 rfl rfl
theorem dksX2_make_3 : cX2_make.data.toList.drop 70 = dktX2_make_3 := dk_seg dksX2_make_2 24 rfl rfl
theorem dksX2_make_4 : cX2_make.data.toList.drop 93 = dktX2_make_4 := dk_seg dksX2_make_3 23 rfl rfl
theorem dX2_make_0 : decode cX2_make 0 = .ok (.new 103, 3) := dk_187 0 103 (dk_at dksX2_make_0 0 rfl rfl)
theorem dX2_make_3 : decode cX2_make 3 = .ok (.dup, 1) := dk_89 (dk_at dksX2_make_0 3 rfl rfl)
theorem dX2_make_4 : decode cX2_make 4 = .ok (.aload_n 0, 1) := dk_42 (dk_at dksX2_make_0 4 rfl rfl)
theorem dX2_make_5 : decode cX2_make 5 = .ok (.iload_n 2, 1) := dk_28 (dk_at dksX2_make_0 5 rfl rfl)
theorem dX2_make_6 : decode cX2_make 6 = .ok (.invokespecial 105, 3) := dk_183 0 105 (dk_at dksX2_make_0 6 rfl rfl)
theorem dX2_make_9 : decode cX2_make 9 = .ok (.invokevirtual 108, 3) := dk_182 0 108 (dk_at dksX2_make_0 9 rfl rfl)
theorem dX2_make_12 : decode cX2_make 12 = .ok (.istore_n 3, 1) := dk_62 (dk_at dksX2_make_0 12 rfl rfl)
theorem dX2_make_13 : decode cX2_make 13 = .ok (.iload_n 3, 1) := dk_29 (dk_at dksX2_make_0 13 rfl rfl)
theorem dX2_make_14 : decode cX2_make 14 = .ok (.ifCond .ne 5, 3) := dk_154 0 5 (dk_at dksX2_make_0 14 rfl rfl)
theorem dX2_make_17 : decode cX2_make 17 = .ok (.iconst (-1), 1) := dk_2 (dk_at dksX2_make_0 17 rfl rfl)
theorem dX2_make_18 : decode cX2_make 18 = .ok (.ireturn, 1) := dk_172 (dk_at dksX2_make_0 18 rfl rfl)
theorem dX2_make_19 : decode cX2_make 19 = .ok (.iconst 0, 1) := dk_3 (dk_at dksX2_make_0 19 rfl rfl)
theorem dX2_make_20 : decode cX2_make 20 = .ok (.istore 4, 2) := dk_54 4 (dk_at dksX2_make_0 20 rfl rfl)
theorem dX2_make_22 : decode cX2_make 22 = .ok (.iconst 1, 1) := dk_4 (dk_at dksX2_make_0 22 rfl rfl)
theorem dX2_make_23 : decode cX2_make 23 = .ok (.istore 5, 2) := dk_54 5 (dk_at dksX2_make_1 0 rfl rfl)
theorem dX2_make_25 : decode cX2_make 25 = .ok (.iconst 0, 1) := dk_3 (dk_at dksX2_make_1 2 rfl rfl)
theorem dX2_make_26 : decode cX2_make 26 = .ok (.istore 6, 2) := dk_54 6 (dk_at dksX2_make_1 3 rfl rfl)
theorem dX2_make_28 : decode cX2_make 28 = .ok (.iload 6, 2) := dk_21 6 (dk_at dksX2_make_1 5 rfl rfl)
theorem dX2_make_30 : decode cX2_make 30 = .ok (.aload_n 0, 1) := dk_42 (dk_at dksX2_make_1 7 rfl rfl)
theorem dX2_make_31 : decode cX2_make 31 = .ok (.getfield 12, 3) := dk_180 0 12 (dk_at dksX2_make_1 8 rfl rfl)
theorem dX2_make_34 : decode cX2_make 34 = .ok (.invokevirtual 30, 3) := dk_182 0 30 (dk_at dksX2_make_1 11 rfl rfl)
theorem dX2_make_37 : decode cX2_make 37 = .ok (.if_icmp .ge 56, 3) := dk_162 0 56 (dk_at dksX2_make_1 14 rfl rfl)
theorem dX2_make_40 : decode cX2_make 40 = .ok (.iload 5, 2) := dk_21 5 (dk_at dksX2_make_1 17 rfl rfl)
theorem dX2_make_42 : decode cX2_make 42 = .ok (.ifCond .eq 51, 3) := dk_153 0 51 (dk_at dksX2_make_1 19 rfl rfl)
theorem dX2_make_45 : decode cX2_make 45 = .ok (.iload_n 3, 1) := dk_29 (dk_at dksX2_make_1 22 rfl rfl)
theorem dX2_make_46 : decode cX2_make 46 = .ok (.iload 6, 2) := dk_21 6 (dk_at dksX2_make_2 0 rfl rfl)
theorem dX2_make_48 : decode cX2_make 48 = .ok (.ishr, 1) := dk_122 (dk_at dksX2_make_2 2 rfl rfl)
theorem dX2_make_49 : decode cX2_make 49 = .ok (.iconst 1, 1) := dk_4 (dk_at dksX2_make_2 3 rfl rfl)
theorem dX2_make_50 : decode cX2_make 50 = .ok (.iand, 1) := dk_126 (dk_at dksX2_make_2 4 rfl rfl)
theorem dX2_make_51 : decode cX2_make 51 = .ok (.iconst 1, 1) := dk_4 (dk_at dksX2_make_2 5 rfl rfl)
theorem dX2_make_52 : decode cX2_make 52 = .ok (.if_icmp .ne 35, 3) := dk_160 0 35 (dk_at dksX2_make_2 6 rfl rfl)
theorem dX2_make_55 : decode cX2_make 55 = .ok (.aload_n 0, 1) := dk_42 (dk_at dksX2_make_2 9 rfl rfl)
theorem dX2_make_56 : decode cX2_make 56 = .ok (.iload_n 1, 1) := dk_27 (dk_at dksX2_make_2 10 rfl rfl)
theorem dX2_make_57 : decode cX2_make 57 = .ok (.iload 6, 2) := dk_21 6 (dk_at dksX2_make_2 11 rfl rfl)
theorem dX2_make_59 : decode cX2_make 59 = .ok (.invokevirtual 111, 3) := dk_182 0 111 (dk_at dksX2_make_2 13 rfl rfl)
theorem dX2_make_62 : decode cX2_make 62 = .ok (.ifCond .ne 7, 3) := dk_154 0 7 (dk_at dksX2_make_2 16 rfl rfl)
theorem dX2_make_65 : decode cX2_make 65 = .ok (.iconst 1, 1) := dk_4 (dk_at dksX2_make_2 19 rfl rfl)
theorem dX2_make_66 : decode cX2_make 66 = .ok (.goto 4, 3) := dk_167 0 4 (dk_at dksX2_make_2 20 rfl rfl)
theorem dX2_make_69 : decode cX2_make 69 = .ok (.iconst 0, 1) := dk_3 (dk_at dksX2_make_2 23 rfl rfl)
theorem dX2_make_70 : decode cX2_make 70 = .ok (.istore 5, 2) := dk_54 5 (dk_at dksX2_make_3 0 rfl rfl)
theorem dX2_make_72 : decode cX2_make 72 = .ok (.iload 4, 2) := dk_21 4 (dk_at dksX2_make_3 2 rfl rfl)
theorem dX2_make_74 : decode cX2_make 74 = .ok (.iload 5, 2) := dk_21 5 (dk_at dksX2_make_3 4 rfl rfl)
theorem dX2_make_76 : decode cX2_make 76 = .ok (.ifCond .eq 7, 3) := dk_153 0 7 (dk_at dksX2_make_3 6 rfl rfl)
theorem dX2_make_79 : decode cX2_make 79 = .ok (.iconst 1, 1) := dk_4 (dk_at dksX2_make_3 9 rfl rfl)
theorem dX2_make_80 : decode cX2_make 80 = .ok (.goto 4, 3) := dk_167 0 4 (dk_at dksX2_make_3 10 rfl rfl)
theorem dX2_make_83 : decode cX2_make 83 = .ok (.iconst 0, 1) := dk_3 (dk_at dksX2_make_3 13 rfl rfl)
theorem dX2_make_84 : decode cX2_make 84 = .ok (.iadd, 1) := dk_96 (dk_at dksX2_make_3 14 rfl rfl)
theorem dX2_make_85 : decode cX2_make 85 = .ok (.istore 4, 2) := dk_54 4 (dk_at dksX2_make_3 15 rfl rfl)
theorem dX2_make_87 : decode cX2_make 87 = .ok (.iinc 6 1, 3) := dk_132 6 1 (dk_at dksX2_make_3 17 rfl rfl)
theorem dX2_make_90 : decode cX2_make 90 = .ok (.goto (-62), 3) := dk_167 255 194 (dk_at dksX2_make_3 20 rfl rfl)
theorem dX2_make_93 : decode cX2_make 93 = .ok (.iload 4, 2) := dk_21 4 (dk_at dksX2_make_4 0 rfl rfl)
theorem dX2_make_95 : decode cX2_make 95 = .ok (.ireturn, 1) := dk_172 (dk_at dksX2_make_4 2 rfl rfl)
abbrev cX2_free : ByteArray := prog_8_method_5_code
def yX2_free : MethodName := ⟨RX2, "free", "()I"⟩
def dkwX2_free_2 : List UInt8 := [27, 172]
abbrev dktX2_free_2 : List UInt8 := dkwX2_free_2 ++ []
def dkwX2_free_1 : List UInt8 := [192, 0, 38, 182, 0, 64, 153, 0, 9, 4, 28, 120, 167, 0, 4, 3, 128, 60, 132, 2, 1, 167, 255, 215]
abbrev dktX2_free_1 : List UInt8 := dkwX2_free_1 ++ dktX2_free_2
def dkwX2_free_0 : List UInt8 := [3, 60, 3, 61, 28, 42, 180, 0, 12, 182, 0, 30, 162, 0, 36, 27, 42, 180, 0, 12, 28, 182, 0, 34]
abbrev dktX2_free_0 : List UInt8 := dkwX2_free_0 ++ dktX2_free_1
theorem dksX2_free_0 : cX2_free.data.toList.drop 0 = dktX2_free_0 := by decide +kernel
theorem dksX2_free_1 : cX2_free.data.toList.drop 24 = dktX2_free_1 := dk_seg dksX2_free_0 24 rfl rfl
theorem dksX2_free_2 : cX2_free.data.toList.drop 48 = dktX2_free_2 := dk_seg dksX2_free_1 24 rfl rfl
theorem dX2_free_0 : decode cX2_free 0 = .ok (.iconst 0, 1) := dk_3 (dk_at dksX2_free_0 0 rfl rfl)
theorem dX2_free_1 : decode cX2_free 1 = .ok (.istore_n 1, 1) := dk_60 (dk_at dksX2_free_0 1 rfl rfl)
theorem dX2_free_2 : decode cX2_free 2 = .ok (.iconst 0, 1) := dk_3 (dk_at dksX2_free_0 2 rfl rfl)
theorem dX2_free_3 : decode cX2_free 3 = .ok (.istore_n 2, 1) := dk_61 (dk_at dksX2_free_0 3 rfl rfl)
theorem dX2_free_4 : decode cX2_free 4 = .ok (.iload_n 2, 1) := dk_28 (dk_at dksX2_free_0 4 rfl rfl)
theorem dX2_free_5 : decode cX2_free 5 = .ok (.aload_n 0, 1) := dk_42 (dk_at dksX2_free_0 5 rfl rfl)
theorem dX2_free_6 : decode cX2_free 6 = .ok (.getfield 12, 3) := dk_180 0 12 (dk_at dksX2_free_0 6 rfl rfl)
theorem dX2_free_9 : decode cX2_free 9 = .ok (.invokevirtual 30, 3) := dk_182 0 30 (dk_at dksX2_free_0 9 rfl rfl)
theorem dX2_free_12 : decode cX2_free 12 = .ok (.if_icmp .ge 36, 3) := dk_162 0 36 (dk_at dksX2_free_0 12 rfl rfl)
theorem dX2_free_15 : decode cX2_free 15 = .ok (.iload_n 1, 1) := dk_27 (dk_at dksX2_free_0 15 rfl rfl)
theorem dX2_free_16 : decode cX2_free 16 = .ok (.aload_n 0, 1) := dk_42 (dk_at dksX2_free_0 16 rfl rfl)
theorem dX2_free_17 : decode cX2_free 17 = .ok (.getfield 12, 3) := dk_180 0 12 (dk_at dksX2_free_0 17 rfl rfl)
theorem dX2_free_20 : decode cX2_free 20 = .ok (.iload_n 2, 1) := dk_28 (dk_at dksX2_free_0 20 rfl rfl)
theorem dX2_free_21 : decode cX2_free 21 = .ok (.invokevirtual 34, 3) := dk_182 0 34 (dk_at dksX2_free_0 21 rfl rfl)
theorem dX2_free_24 : decode cX2_free 24 = .ok (.checkcast 38, 3) := dk_192 0 38 (dk_at dksX2_free_1 0 rfl rfl)
theorem dX2_free_27 : decode cX2_free 27 = .ok (.invokevirtual 64, 3) := dk_182 0 64 (dk_at dksX2_free_1 3 rfl rfl)
theorem dX2_free_30 : decode cX2_free 30 = .ok (.ifCond .eq 9, 3) := dk_153 0 9 (dk_at dksX2_free_1 6 rfl rfl)
theorem dX2_free_33 : decode cX2_free 33 = .ok (.iconst 1, 1) := dk_4 (dk_at dksX2_free_1 9 rfl rfl)
theorem dX2_free_34 : decode cX2_free 34 = .ok (.iload_n 2, 1) := dk_28 (dk_at dksX2_free_1 10 rfl rfl)
theorem dX2_free_35 : decode cX2_free 35 = .ok (.ishl, 1) := dk_120 (dk_at dksX2_free_1 11 rfl rfl)
theorem dX2_free_36 : decode cX2_free 36 = .ok (.goto 4, 3) := dk_167 0 4 (dk_at dksX2_free_1 12 rfl rfl)
theorem dX2_free_39 : decode cX2_free 39 = .ok (.iconst 0, 1) := dk_3 (dk_at dksX2_free_1 15 rfl rfl)
theorem dX2_free_40 : decode cX2_free 40 = .ok (.ior, 1) := dk_128 (dk_at dksX2_free_1 16 rfl rfl)
theorem dX2_free_41 : decode cX2_free 41 = .ok (.istore_n 1, 1) := dk_60 (dk_at dksX2_free_1 17 rfl rfl)
theorem dX2_free_42 : decode cX2_free 42 = .ok (.iinc 2 1, 3) := dk_132 2 1 (dk_at dksX2_free_1 18 rfl rfl)
theorem dX2_free_45 : decode cX2_free 45 = .ok (.goto (-41), 3) := dk_167 255 215 (dk_at dksX2_free_1 21 rfl rfl)
theorem dX2_free_48 : decode cX2_free 48 = .ok (.iload_n 1, 1) := dk_27 (dk_at dksX2_free_2 0 rfl rfl)
theorem dX2_free_49 : decode cX2_free 49 = .ok (.ireturn, 1) := dk_172 (dk_at dksX2_free_2 1 rfl rfl)
abbrev cX2_nominal : ByteArray := prog_8_method_15_code
def yX2_nominal : MethodName := ⟨RX2, "nominal", "(I)I"⟩
def dkwX2_nominal_2 : List UInt8 := [132, 3, 1, 167, 255, 211, 28, 172]
abbrev dktX2_nominal_2 : List UInt8 := dkwX2_nominal_2 ++ []
def dkwX2_nominal_1 : List UInt8 := [180, 0, 18, 27, 182, 0, 34, 192, 0, 9, 29, 182, 0, 34, 192, 0, 38, 180, 0, 129, 96, 61]
abbrev dktX2_nominal_1 : List UInt8 := dkwX2_nominal_1 ++ dktX2_nominal_2
def dkwX2_nominal_0 : List UInt8 := [3, 61, 3, 62, 29, 42, 180, 0, 18, 27, 182, 0, 34, 192, 0, 9, 182, 0, 30, 162, 0, 33, 28, 42]
abbrev dktX2_nominal_0 : List UInt8 := dkwX2_nominal_0 ++ dktX2_nominal_1
theorem dksX2_nominal_0 : cX2_nominal.data.toList.drop 0 = dktX2_nominal_0 := by decide +kernel
theorem dksX2_nominal_1 : cX2_nominal.data.toList.drop 24 = dktX2_nominal_1 := dk_seg dksX2_nominal_0 24 rfl rfl
theorem dksX2_nominal_2 : cX2_nominal.data.toList.drop 46 = dktX2_nominal_2 := dk_seg dksX2_nominal_1 22 rfl rfl
theorem dX2_nominal_0 : decode cX2_nominal 0 = .ok (.iconst 0, 1) := dk_3 (dk_at dksX2_nominal_0 0 rfl rfl)
theorem dX2_nominal_1 : decode cX2_nominal 1 = .ok (.istore_n 2, 1) := dk_61 (dk_at dksX2_nominal_0 1 rfl rfl)
theorem dX2_nominal_2 : decode cX2_nominal 2 = .ok (.iconst 0, 1) := dk_3 (dk_at dksX2_nominal_0 2 rfl rfl)
theorem dX2_nominal_3 : decode cX2_nominal 3 = .ok (.istore_n 3, 1) := dk_62 (dk_at dksX2_nominal_0 3 rfl rfl)
theorem dX2_nominal_4 : decode cX2_nominal 4 = .ok (.iload_n 3, 1) := dk_29 (dk_at dksX2_nominal_0 4 rfl rfl)
theorem dX2_nominal_5 : decode cX2_nominal 5 = .ok (.aload_n 0, 1) := dk_42 (dk_at dksX2_nominal_0 5 rfl rfl)
theorem dX2_nominal_6 : decode cX2_nominal 6 = .ok (.getfield 18, 3) := dk_180 0 18 (dk_at dksX2_nominal_0 6 rfl rfl)
theorem dX2_nominal_9 : decode cX2_nominal 9 = .ok (.iload_n 1, 1) := dk_27 (dk_at dksX2_nominal_0 9 rfl rfl)
theorem dX2_nominal_10 : decode cX2_nominal 10 = .ok (.invokevirtual 34, 3) := dk_182 0 34 (dk_at dksX2_nominal_0 10 rfl rfl)
theorem dX2_nominal_13 : decode cX2_nominal 13 = .ok (.checkcast 9, 3) := dk_192 0 9 (dk_at dksX2_nominal_0 13 rfl rfl)
theorem dX2_nominal_16 : decode cX2_nominal 16 = .ok (.invokevirtual 30, 3) := dk_182 0 30 (dk_at dksX2_nominal_0 16 rfl rfl)
theorem dX2_nominal_19 : decode cX2_nominal 19 = .ok (.if_icmp .ge 33, 3) := dk_162 0 33 (dk_at dksX2_nominal_0 19 rfl rfl)
theorem dX2_nominal_22 : decode cX2_nominal 22 = .ok (.iload_n 2, 1) := dk_28 (dk_at dksX2_nominal_0 22 rfl rfl)
theorem dX2_nominal_23 : decode cX2_nominal 23 = .ok (.aload_n 0, 1) := dk_42 (dk_at dksX2_nominal_0 23 rfl rfl)
theorem dX2_nominal_24 : decode cX2_nominal 24 = .ok (.getfield 18, 3) := dk_180 0 18 (dk_at dksX2_nominal_1 0 rfl rfl)
theorem dX2_nominal_27 : decode cX2_nominal 27 = .ok (.iload_n 1, 1) := dk_27 (dk_at dksX2_nominal_1 3 rfl rfl)
theorem dX2_nominal_28 : decode cX2_nominal 28 = .ok (.invokevirtual 34, 3) := dk_182 0 34 (dk_at dksX2_nominal_1 4 rfl rfl)
theorem dX2_nominal_31 : decode cX2_nominal 31 = .ok (.checkcast 9, 3) := dk_192 0 9 (dk_at dksX2_nominal_1 7 rfl rfl)
theorem dX2_nominal_34 : decode cX2_nominal 34 = .ok (.iload_n 3, 1) := dk_29 (dk_at dksX2_nominal_1 10 rfl rfl)
theorem dX2_nominal_35 : decode cX2_nominal 35 = .ok (.invokevirtual 34, 3) := dk_182 0 34 (dk_at dksX2_nominal_1 11 rfl rfl)
theorem dX2_nominal_38 : decode cX2_nominal 38 = .ok (.checkcast 38, 3) := dk_192 0 38 (dk_at dksX2_nominal_1 14 rfl rfl)
theorem dX2_nominal_41 : decode cX2_nominal 41 = .ok (.getfield 129, 3) := dk_180 0 129 (dk_at dksX2_nominal_1 17 rfl rfl)
theorem dX2_nominal_44 : decode cX2_nominal 44 = .ok (.iadd, 1) := dk_96 (dk_at dksX2_nominal_1 20 rfl rfl)
theorem dX2_nominal_45 : decode cX2_nominal 45 = .ok (.istore_n 2, 1) := dk_61 (dk_at dksX2_nominal_1 21 rfl rfl)
theorem dX2_nominal_46 : decode cX2_nominal 46 = .ok (.iinc 3 1, 3) := dk_132 3 1 (dk_at dksX2_nominal_2 0 rfl rfl)
theorem dX2_nominal_49 : decode cX2_nominal 49 = .ok (.goto (-45), 3) := dk_167 255 211 (dk_at dksX2_nominal_2 3 rfl rfl)
theorem dX2_nominal_52 : decode cX2_nominal 52 = .ok (.iload_n 2, 1) := dk_28 (dk_at dksX2_nominal_2 6 rfl rfl)
theorem dX2_nominal_53 : decode cX2_nominal 53 = .ok (.ireturn, 1) := dk_172 (dk_at dksX2_nominal_2 7 rfl rfl)
abbrev cX2_lengthIn : ByteArray := prog_8_method_14_code
def yX2_lengthIn : MethodName := ⟨RX2, "lengthIn", "(II)I"⟩
def dkwX2_lengthIn_4 : List UInt8 := [167, 0, 4, 3, 96, 96, 54, 4, 132, 5, 1, 167, 255, 168, 21, 4, 172]
abbrev dktX2_lengthIn_4 : List UInt8 := dkwX2_lengthIn_4 ++ []
def dkwX2_lengthIn_3 : List UInt8 := [21, 5, 182, 0, 34, 192, 0, 38, 21, 6, 182, 0, 126, 21, 5, 158, 0, 12, 42, 180, 0, 21, 3, 46]
abbrev dktX2_lengthIn_3 : List UInt8 := dkwX2_lengthIn_3 ++ dktX2_lengthIn_4
def dkwX2_lengthIn_2 : List UInt8 := [162, 0, 21, 21, 6, 158, 0, 16, 21, 6, 184, 0, 119, 54, 6, 132, 7, 1, 167, 255, 235, 21, 4, 45]
abbrev dktX2_lengthIn_2 : List UInt8 := dkwX2_lengthIn_2 ++ dktX2_lengthIn_3
def dkwX2_lengthIn_1 : List UInt8 := [162, 0, 85, 45, 21, 5, 182, 0, 34, 192, 0, 38, 180, 0, 71, 54, 6, 3, 54, 7, 21, 7, 28]
abbrev dktX2_lengthIn_1 : List UInt8 := dkwX2_lengthIn_1 ++ dktX2_lengthIn_2
def dkwX2_lengthIn_0 : List UInt8 := [42, 180, 0, 18, 27, 182, 0, 34, 192, 0, 9, 78, 3, 54, 4, 3, 54, 5, 21, 5, 45, 182, 0, 30]
abbrev dktX2_lengthIn_0 : List UInt8 := dkwX2_lengthIn_0 ++ dktX2_lengthIn_1
theorem dksX2_lengthIn_0 : cX2_lengthIn.data.toList.drop 0 = dktX2_lengthIn_0 := by decide +kernel
theorem dksX2_lengthIn_1 : cX2_lengthIn.data.toList.drop 24 = dktX2_lengthIn_1 := dk_seg dksX2_lengthIn_0 24 rfl rfl
theorem dksX2_lengthIn_2 : cX2_lengthIn.data.toList.drop 47 = dktX2_lengthIn_2 := dk_seg dksX2_lengthIn_1 23 rfl rfl
theorem dksX2_lengthIn_3 : cX2_lengthIn.data.toList.drop 71 = dktX2_lengthIn_3 := dk_seg dksX2_lengthIn_2 24 rfl rfl
theorem dksX2_lengthIn_4 : cX2_lengthIn.data.toList.drop 95 = dktX2_lengthIn_4 := dk_seg dksX2_lengthIn_3 24 rfl rfl
theorem dX2_lengthIn_0 : decode cX2_lengthIn 0 = .ok (.aload_n 0, 1) := dk_42 (dk_at dksX2_lengthIn_0 0 rfl rfl)
theorem dX2_lengthIn_1 : decode cX2_lengthIn 1 = .ok (.getfield 18, 3) := dk_180 0 18 (dk_at dksX2_lengthIn_0 1 rfl rfl)
theorem dX2_lengthIn_4 : decode cX2_lengthIn 4 = .ok (.iload_n 1, 1) := dk_27 (dk_at dksX2_lengthIn_0 4 rfl rfl)
theorem dX2_lengthIn_5 : decode cX2_lengthIn 5 = .ok (.invokevirtual 34, 3) := dk_182 0 34 (dk_at dksX2_lengthIn_0 5 rfl rfl)
theorem dX2_lengthIn_8 : decode cX2_lengthIn 8 = .ok (.checkcast 9, 3) := dk_192 0 9 (dk_at dksX2_lengthIn_0 8 rfl rfl)
theorem dX2_lengthIn_11 : decode cX2_lengthIn 11 = .ok (.astore_n 3, 1) := dk_78 (dk_at dksX2_lengthIn_0 11 rfl rfl)
theorem dX2_lengthIn_12 : decode cX2_lengthIn 12 = .ok (.iconst 0, 1) := dk_3 (dk_at dksX2_lengthIn_0 12 rfl rfl)
theorem dX2_lengthIn_13 : decode cX2_lengthIn 13 = .ok (.istore 4, 2) := dk_54 4 (dk_at dksX2_lengthIn_0 13 rfl rfl)
theorem dX2_lengthIn_15 : decode cX2_lengthIn 15 = .ok (.iconst 0, 1) := dk_3 (dk_at dksX2_lengthIn_0 15 rfl rfl)
theorem dX2_lengthIn_16 : decode cX2_lengthIn 16 = .ok (.istore 5, 2) := dk_54 5 (dk_at dksX2_lengthIn_0 16 rfl rfl)
theorem dX2_lengthIn_18 : decode cX2_lengthIn 18 = .ok (.iload 5, 2) := dk_21 5 (dk_at dksX2_lengthIn_0 18 rfl rfl)
theorem dX2_lengthIn_20 : decode cX2_lengthIn 20 = .ok (.aload_n 3, 1) := dk_45 (dk_at dksX2_lengthIn_0 20 rfl rfl)
theorem dX2_lengthIn_21 : decode cX2_lengthIn 21 = .ok (.invokevirtual 30, 3) := dk_182 0 30 (dk_at dksX2_lengthIn_0 21 rfl rfl)
theorem dX2_lengthIn_24 : decode cX2_lengthIn 24 = .ok (.if_icmp .ge 85, 3) := dk_162 0 85 (dk_at dksX2_lengthIn_1 0 rfl rfl)
theorem dX2_lengthIn_27 : decode cX2_lengthIn 27 = .ok (.aload_n 3, 1) := dk_45 (dk_at dksX2_lengthIn_1 3 rfl rfl)
theorem dX2_lengthIn_28 : decode cX2_lengthIn 28 = .ok (.iload 5, 2) := dk_21 5 (dk_at dksX2_lengthIn_1 4 rfl rfl)
theorem dX2_lengthIn_30 : decode cX2_lengthIn 30 = .ok (.invokevirtual 34, 3) := dk_182 0 34 (dk_at dksX2_lengthIn_1 6 rfl rfl)
theorem dX2_lengthIn_33 : decode cX2_lengthIn 33 = .ok (.checkcast 38, 3) := dk_192 0 38 (dk_at dksX2_lengthIn_1 9 rfl rfl)
theorem dX2_lengthIn_36 : decode cX2_lengthIn 36 = .ok (.getfield 71, 3) := dk_180 0 71 (dk_at dksX2_lengthIn_1 12 rfl rfl)
theorem dX2_lengthIn_39 : decode cX2_lengthIn 39 = .ok (.istore 6, 2) := dk_54 6 (dk_at dksX2_lengthIn_1 15 rfl rfl)
theorem dX2_lengthIn_41 : decode cX2_lengthIn 41 = .ok (.iconst 0, 1) := dk_3 (dk_at dksX2_lengthIn_1 17 rfl rfl)
theorem dX2_lengthIn_42 : decode cX2_lengthIn 42 = .ok (.istore 7, 2) := dk_54 7 (dk_at dksX2_lengthIn_1 18 rfl rfl)
theorem dX2_lengthIn_44 : decode cX2_lengthIn 44 = .ok (.iload 7, 2) := dk_21 7 (dk_at dksX2_lengthIn_1 20 rfl rfl)
theorem dX2_lengthIn_46 : decode cX2_lengthIn 46 = .ok (.iload_n 2, 1) := dk_28 (dk_at dksX2_lengthIn_1 22 rfl rfl)
theorem dX2_lengthIn_47 : decode cX2_lengthIn 47 = .ok (.if_icmp .ge 21, 3) := dk_162 0 21 (dk_at dksX2_lengthIn_2 0 rfl rfl)
theorem dX2_lengthIn_50 : decode cX2_lengthIn 50 = .ok (.iload 6, 2) := dk_21 6 (dk_at dksX2_lengthIn_2 3 rfl rfl)
theorem dX2_lengthIn_52 : decode cX2_lengthIn 52 = .ok (.ifCond .le 16, 3) := dk_158 0 16 (dk_at dksX2_lengthIn_2 5 rfl rfl)
theorem dX2_lengthIn_55 : decode cX2_lengthIn 55 = .ok (.iload 6, 2) := dk_21 6 (dk_at dksX2_lengthIn_2 8 rfl rfl)
theorem dX2_lengthIn_57 : decode cX2_lengthIn 57 = .ok (.invokestatic 119, 3) := dk_184 0 119 (dk_at dksX2_lengthIn_2 10 rfl rfl)
theorem dX2_lengthIn_60 : decode cX2_lengthIn 60 = .ok (.istore 6, 2) := dk_54 6 (dk_at dksX2_lengthIn_2 13 rfl rfl)
theorem dX2_lengthIn_62 : decode cX2_lengthIn 62 = .ok (.iinc 7 1, 3) := dk_132 7 1 (dk_at dksX2_lengthIn_2 15 rfl rfl)
theorem dX2_lengthIn_65 : decode cX2_lengthIn 65 = .ok (.goto (-21), 3) := dk_167 255 235 (dk_at dksX2_lengthIn_2 18 rfl rfl)
theorem dX2_lengthIn_68 : decode cX2_lengthIn 68 = .ok (.iload 4, 2) := dk_21 4 (dk_at dksX2_lengthIn_2 21 rfl rfl)
theorem dX2_lengthIn_70 : decode cX2_lengthIn 70 = .ok (.aload_n 3, 1) := dk_45 (dk_at dksX2_lengthIn_2 23 rfl rfl)
theorem dX2_lengthIn_71 : decode cX2_lengthIn 71 = .ok (.iload 5, 2) := dk_21 5 (dk_at dksX2_lengthIn_3 0 rfl rfl)
theorem dX2_lengthIn_73 : decode cX2_lengthIn 73 = .ok (.invokevirtual 34, 3) := dk_182 0 34 (dk_at dksX2_lengthIn_3 2 rfl rfl)
theorem dX2_lengthIn_76 : decode cX2_lengthIn 76 = .ok (.checkcast 38, 3) := dk_192 0 38 (dk_at dksX2_lengthIn_3 5 rfl rfl)
theorem dX2_lengthIn_79 : decode cX2_lengthIn 79 = .ok (.iload 6, 2) := dk_21 6 (dk_at dksX2_lengthIn_3 8 rfl rfl)
theorem dX2_lengthIn_81 : decode cX2_lengthIn 81 = .ok (.invokevirtual 126, 3) := dk_182 0 126 (dk_at dksX2_lengthIn_3 10 rfl rfl)
theorem dX2_lengthIn_84 : decode cX2_lengthIn 84 = .ok (.iload 5, 2) := dk_21 5 (dk_at dksX2_lengthIn_3 13 rfl rfl)
theorem dX2_lengthIn_86 : decode cX2_lengthIn 86 = .ok (.ifCond .le 12, 3) := dk_158 0 12 (dk_at dksX2_lengthIn_3 15 rfl rfl)
theorem dX2_lengthIn_89 : decode cX2_lengthIn 89 = .ok (.aload_n 0, 1) := dk_42 (dk_at dksX2_lengthIn_3 18 rfl rfl)
theorem dX2_lengthIn_90 : decode cX2_lengthIn 90 = .ok (.getfield 21, 3) := dk_180 0 21 (dk_at dksX2_lengthIn_3 19 rfl rfl)
theorem dX2_lengthIn_93 : decode cX2_lengthIn 93 = .ok (.iconst 0, 1) := dk_3 (dk_at dksX2_lengthIn_3 22 rfl rfl)
theorem dX2_lengthIn_94 : decode cX2_lengthIn 94 = .ok (.iaload, 1) := dk_46 (dk_at dksX2_lengthIn_3 23 rfl rfl)
theorem dX2_lengthIn_95 : decode cX2_lengthIn 95 = .ok (.goto 4, 3) := dk_167 0 4 (dk_at dksX2_lengthIn_4 0 rfl rfl)
theorem dX2_lengthIn_98 : decode cX2_lengthIn 98 = .ok (.iconst 0, 1) := dk_3 (dk_at dksX2_lengthIn_4 3 rfl rfl)
theorem dX2_lengthIn_99 : decode cX2_lengthIn 99 = .ok (.iadd, 1) := dk_96 (dk_at dksX2_lengthIn_4 4 rfl rfl)
theorem dX2_lengthIn_100 : decode cX2_lengthIn 100 = .ok (.iadd, 1) := dk_96 (dk_at dksX2_lengthIn_4 5 rfl rfl)
theorem dX2_lengthIn_101 : decode cX2_lengthIn 101 = .ok (.istore 4, 2) := dk_54 4 (dk_at dksX2_lengthIn_4 6 rfl rfl)
theorem dX2_lengthIn_103 : decode cX2_lengthIn 103 = .ok (.iinc 5 1, 3) := dk_132 5 1 (dk_at dksX2_lengthIn_4 8 rfl rfl)
theorem dX2_lengthIn_106 : decode cX2_lengthIn 106 = .ok (.goto (-88), 3) := dk_167 255 168 (dk_at dksX2_lengthIn_4 11 rfl rfl)
theorem dX2_lengthIn_109 : decode cX2_lengthIn 109 = .ok (.iload 4, 2) := dk_21 4 (dk_at dksX2_lengthIn_4 14 rfl rfl)
theorem dX2_lengthIn_111 : decode cX2_lengthIn 111 = .ok (.ireturn, 1) := dk_172 (dk_at dksX2_lengthIn_4 16 rfl rfl)
abbrev cX2_blocksIn : ByteArray := prog_8_method_16_code
def yX2_blocksIn : MethodName := ⟨RX2, "blocksIn", "(I)I"⟩
def dkwX2_blocksIn_2 : List UInt8 := [167, 255, 214, 28, 172]
abbrev dktX2_blocksIn_2 : List UInt8 := dkwX2_blocksIn_2 ++ []
def dkwX2_blocksIn_1 : List UInt8 := [192, 0, 38, 180, 0, 96, 27, 160, 0, 9, 4, 29, 120, 167, 0, 4, 3, 128, 61, 132, 3, 1]
abbrev dktX2_blocksIn_1 : List UInt8 := dkwX2_blocksIn_1 ++ dktX2_blocksIn_2
def dkwX2_blocksIn_0 : List UInt8 := [3, 61, 3, 62, 29, 42, 180, 0, 12, 182, 0, 30, 162, 0, 37, 28, 42, 180, 0, 12, 29, 182, 0, 34]
abbrev dktX2_blocksIn_0 : List UInt8 := dkwX2_blocksIn_0 ++ dktX2_blocksIn_1
theorem dksX2_blocksIn_0 : cX2_blocksIn.data.toList.drop 0 = dktX2_blocksIn_0 := by decide +kernel
theorem dksX2_blocksIn_1 : cX2_blocksIn.data.toList.drop 24 = dktX2_blocksIn_1 := dk_seg dksX2_blocksIn_0 24 rfl rfl
theorem dksX2_blocksIn_2 : cX2_blocksIn.data.toList.drop 46 = dktX2_blocksIn_2 := dk_seg dksX2_blocksIn_1 22 rfl rfl
theorem dX2_blocksIn_0 : decode cX2_blocksIn 0 = .ok (.iconst 0, 1) := dk_3 (dk_at dksX2_blocksIn_0 0 rfl rfl)
theorem dX2_blocksIn_1 : decode cX2_blocksIn 1 = .ok (.istore_n 2, 1) := dk_61 (dk_at dksX2_blocksIn_0 1 rfl rfl)
theorem dX2_blocksIn_2 : decode cX2_blocksIn 2 = .ok (.iconst 0, 1) := dk_3 (dk_at dksX2_blocksIn_0 2 rfl rfl)
theorem dX2_blocksIn_3 : decode cX2_blocksIn 3 = .ok (.istore_n 3, 1) := dk_62 (dk_at dksX2_blocksIn_0 3 rfl rfl)
theorem dX2_blocksIn_4 : decode cX2_blocksIn 4 = .ok (.iload_n 3, 1) := dk_29 (dk_at dksX2_blocksIn_0 4 rfl rfl)
theorem dX2_blocksIn_5 : decode cX2_blocksIn 5 = .ok (.aload_n 0, 1) := dk_42 (dk_at dksX2_blocksIn_0 5 rfl rfl)
theorem dX2_blocksIn_6 : decode cX2_blocksIn 6 = .ok (.getfield 12, 3) := dk_180 0 12 (dk_at dksX2_blocksIn_0 6 rfl rfl)
theorem dX2_blocksIn_9 : decode cX2_blocksIn 9 = .ok (.invokevirtual 30, 3) := dk_182 0 30 (dk_at dksX2_blocksIn_0 9 rfl rfl)
theorem dX2_blocksIn_12 : decode cX2_blocksIn 12 = .ok (.if_icmp .ge 37, 3) := dk_162 0 37 (dk_at dksX2_blocksIn_0 12 rfl rfl)
theorem dX2_blocksIn_15 : decode cX2_blocksIn 15 = .ok (.iload_n 2, 1) := dk_28 (dk_at dksX2_blocksIn_0 15 rfl rfl)
theorem dX2_blocksIn_16 : decode cX2_blocksIn 16 = .ok (.aload_n 0, 1) := dk_42 (dk_at dksX2_blocksIn_0 16 rfl rfl)
theorem dX2_blocksIn_17 : decode cX2_blocksIn 17 = .ok (.getfield 12, 3) := dk_180 0 12 (dk_at dksX2_blocksIn_0 17 rfl rfl)
theorem dX2_blocksIn_20 : decode cX2_blocksIn 20 = .ok (.iload_n 3, 1) := dk_29 (dk_at dksX2_blocksIn_0 20 rfl rfl)
theorem dX2_blocksIn_21 : decode cX2_blocksIn 21 = .ok (.invokevirtual 34, 3) := dk_182 0 34 (dk_at dksX2_blocksIn_0 21 rfl rfl)
theorem dX2_blocksIn_24 : decode cX2_blocksIn 24 = .ok (.checkcast 38, 3) := dk_192 0 38 (dk_at dksX2_blocksIn_1 0 rfl rfl)
theorem dX2_blocksIn_27 : decode cX2_blocksIn 27 = .ok (.getfield 96, 3) := dk_180 0 96 (dk_at dksX2_blocksIn_1 3 rfl rfl)
theorem dX2_blocksIn_30 : decode cX2_blocksIn 30 = .ok (.iload_n 1, 1) := dk_27 (dk_at dksX2_blocksIn_1 6 rfl rfl)
theorem dX2_blocksIn_31 : decode cX2_blocksIn 31 = .ok (.if_icmp .ne 9, 3) := dk_160 0 9 (dk_at dksX2_blocksIn_1 7 rfl rfl)
theorem dX2_blocksIn_34 : decode cX2_blocksIn 34 = .ok (.iconst 1, 1) := dk_4 (dk_at dksX2_blocksIn_1 10 rfl rfl)
theorem dX2_blocksIn_35 : decode cX2_blocksIn 35 = .ok (.iload_n 3, 1) := dk_29 (dk_at dksX2_blocksIn_1 11 rfl rfl)
theorem dX2_blocksIn_36 : decode cX2_blocksIn 36 = .ok (.ishl, 1) := dk_120 (dk_at dksX2_blocksIn_1 12 rfl rfl)
theorem dX2_blocksIn_37 : decode cX2_blocksIn 37 = .ok (.goto 4, 3) := dk_167 0 4 (dk_at dksX2_blocksIn_1 13 rfl rfl)
theorem dX2_blocksIn_40 : decode cX2_blocksIn 40 = .ok (.iconst 0, 1) := dk_3 (dk_at dksX2_blocksIn_1 16 rfl rfl)
theorem dX2_blocksIn_41 : decode cX2_blocksIn 41 = .ok (.ior, 1) := dk_128 (dk_at dksX2_blocksIn_1 17 rfl rfl)
theorem dX2_blocksIn_42 : decode cX2_blocksIn 42 = .ok (.istore_n 2, 1) := dk_61 (dk_at dksX2_blocksIn_1 18 rfl rfl)
theorem dX2_blocksIn_43 : decode cX2_blocksIn 43 = .ok (.iinc 3 1, 3) := dk_132 3 1 (dk_at dksX2_blocksIn_1 19 rfl rfl)
theorem dX2_blocksIn_46 : decode cX2_blocksIn 46 = .ok (.goto (-42), 3) := dk_167 255 214 (dk_at dksX2_blocksIn_2 0 rfl rfl)
theorem dX2_blocksIn_49 : decode cX2_blocksIn 49 = .ok (.iload_n 2, 1) := dk_28 (dk_at dksX2_blocksIn_2 3 rfl rfl)
theorem dX2_blocksIn_50 : decode cX2_blocksIn 50 = .ok (.ireturn, 1) := dk_172 (dk_at dksX2_blocksIn_2 4 rfl rfl)
abbrev cX2_gradeOf : ByteArray := prog_8_method_17_code
def yX2_gradeOf : MethodName := ⟨RX2, "gradeOf", "(I)I"⟩
def dkwX2_gradeOf_2 : List UInt8 := [132, 3, 1, 167, 255, 209, 28, 172]
abbrev dktX2_gradeOf_2 : List UInt8 := dkwX2_gradeOf_2 ++ []
def dkwX2_gradeOf_1 : List UInt8 := [180, 0, 18, 27, 182, 0, 34, 192, 0, 9, 29, 182, 0, 34, 192, 0, 38, 182, 0, 74, 184, 0, 114, 61]
abbrev dktX2_gradeOf_1 : List UInt8 := dkwX2_gradeOf_1 ++ dktX2_gradeOf_2
def dkwX2_gradeOf_0 : List UInt8 := [2, 61, 3, 62, 29, 42, 180, 0, 18, 27, 182, 0, 34, 192, 0, 9, 182, 0, 30, 162, 0, 35, 28, 42]
abbrev dktX2_gradeOf_0 : List UInt8 := dkwX2_gradeOf_0 ++ dktX2_gradeOf_1
theorem dksX2_gradeOf_0 : cX2_gradeOf.data.toList.drop 0 = dktX2_gradeOf_0 := by decide +kernel
theorem dksX2_gradeOf_1 : cX2_gradeOf.data.toList.drop 24 = dktX2_gradeOf_1 := dk_seg dksX2_gradeOf_0 24 rfl rfl
theorem dksX2_gradeOf_2 : cX2_gradeOf.data.toList.drop 48 = dktX2_gradeOf_2 := dk_seg dksX2_gradeOf_1 24 rfl rfl
theorem dX2_gradeOf_0 : decode cX2_gradeOf 0 = .ok (.iconst (-1), 1) := dk_2 (dk_at dksX2_gradeOf_0 0 rfl rfl)
theorem dX2_gradeOf_1 : decode cX2_gradeOf 1 = .ok (.istore_n 2, 1) := dk_61 (dk_at dksX2_gradeOf_0 1 rfl rfl)
theorem dX2_gradeOf_2 : decode cX2_gradeOf 2 = .ok (.iconst 0, 1) := dk_3 (dk_at dksX2_gradeOf_0 2 rfl rfl)
theorem dX2_gradeOf_3 : decode cX2_gradeOf 3 = .ok (.istore_n 3, 1) := dk_62 (dk_at dksX2_gradeOf_0 3 rfl rfl)
theorem dX2_gradeOf_4 : decode cX2_gradeOf 4 = .ok (.iload_n 3, 1) := dk_29 (dk_at dksX2_gradeOf_0 4 rfl rfl)
theorem dX2_gradeOf_5 : decode cX2_gradeOf 5 = .ok (.aload_n 0, 1) := dk_42 (dk_at dksX2_gradeOf_0 5 rfl rfl)
theorem dX2_gradeOf_6 : decode cX2_gradeOf 6 = .ok (.getfield 18, 3) := dk_180 0 18 (dk_at dksX2_gradeOf_0 6 rfl rfl)
theorem dX2_gradeOf_9 : decode cX2_gradeOf 9 = .ok (.iload_n 1, 1) := dk_27 (dk_at dksX2_gradeOf_0 9 rfl rfl)
theorem dX2_gradeOf_10 : decode cX2_gradeOf 10 = .ok (.invokevirtual 34, 3) := dk_182 0 34 (dk_at dksX2_gradeOf_0 10 rfl rfl)
theorem dX2_gradeOf_13 : decode cX2_gradeOf 13 = .ok (.checkcast 9, 3) := dk_192 0 9 (dk_at dksX2_gradeOf_0 13 rfl rfl)
theorem dX2_gradeOf_16 : decode cX2_gradeOf 16 = .ok (.invokevirtual 30, 3) := dk_182 0 30 (dk_at dksX2_gradeOf_0 16 rfl rfl)
theorem dX2_gradeOf_19 : decode cX2_gradeOf 19 = .ok (.if_icmp .ge 35, 3) := dk_162 0 35 (dk_at dksX2_gradeOf_0 19 rfl rfl)
theorem dX2_gradeOf_22 : decode cX2_gradeOf 22 = .ok (.iload_n 2, 1) := dk_28 (dk_at dksX2_gradeOf_0 22 rfl rfl)
theorem dX2_gradeOf_23 : decode cX2_gradeOf 23 = .ok (.aload_n 0, 1) := dk_42 (dk_at dksX2_gradeOf_0 23 rfl rfl)
theorem dX2_gradeOf_24 : decode cX2_gradeOf 24 = .ok (.getfield 18, 3) := dk_180 0 18 (dk_at dksX2_gradeOf_1 0 rfl rfl)
theorem dX2_gradeOf_27 : decode cX2_gradeOf 27 = .ok (.iload_n 1, 1) := dk_27 (dk_at dksX2_gradeOf_1 3 rfl rfl)
theorem dX2_gradeOf_28 : decode cX2_gradeOf 28 = .ok (.invokevirtual 34, 3) := dk_182 0 34 (dk_at dksX2_gradeOf_1 4 rfl rfl)
theorem dX2_gradeOf_31 : decode cX2_gradeOf 31 = .ok (.checkcast 9, 3) := dk_192 0 9 (dk_at dksX2_gradeOf_1 7 rfl rfl)
theorem dX2_gradeOf_34 : decode cX2_gradeOf 34 = .ok (.iload_n 3, 1) := dk_29 (dk_at dksX2_gradeOf_1 10 rfl rfl)
theorem dX2_gradeOf_35 : decode cX2_gradeOf 35 = .ok (.invokevirtual 34, 3) := dk_182 0 34 (dk_at dksX2_gradeOf_1 11 rfl rfl)
theorem dX2_gradeOf_38 : decode cX2_gradeOf 38 = .ok (.checkcast 38, 3) := dk_192 0 38 (dk_at dksX2_gradeOf_1 14 rfl rfl)
theorem dX2_gradeOf_41 : decode cX2_gradeOf 41 = .ok (.invokevirtual 74, 3) := dk_182 0 74 (dk_at dksX2_gradeOf_1 17 rfl rfl)
theorem dX2_gradeOf_44 : decode cX2_gradeOf 44 = .ok (.invokestatic 114, 3) := dk_184 0 114 (dk_at dksX2_gradeOf_1 20 rfl rfl)
theorem dX2_gradeOf_47 : decode cX2_gradeOf 47 = .ok (.istore_n 2, 1) := dk_61 (dk_at dksX2_gradeOf_1 23 rfl rfl)
theorem dX2_gradeOf_48 : decode cX2_gradeOf 48 = .ok (.iinc 3 1, 3) := dk_132 3 1 (dk_at dksX2_gradeOf_2 0 rfl rfl)
theorem dX2_gradeOf_51 : decode cX2_gradeOf 51 = .ok (.goto (-47), 3) := dk_167 255 209 (dk_at dksX2_gradeOf_2 3 rfl rfl)
theorem dX2_gradeOf_54 : decode cX2_gradeOf 54 = .ok (.iload_n 2, 1) := dk_28 (dk_at dksX2_gradeOf_2 6 rfl rfl)
theorem dX2_gradeOf_55 : decode cX2_gradeOf 55 = .ok (.ireturn, 1) := dk_172 (dk_at dksX2_gradeOf_2 7 rfl rfl)
abbrev cX2_ranked : ByteArray := prog_8_method_19_code
def yX2_ranked : MethodName := ⟨RX2, "ranked", "(II)I"⟩
def dkwX2_ranked_4 : List UInt8 := [182, 0, 169, 153, 0, 7, 2, 167, 0, 13, 45, 182, 0, 170, 192, 0, 163, 180, 0, 174, 172]
abbrev dktX2_ranked_4 : List UInt8 := dkwX2_ranked_4 ++ []
def dkwX2_ranked_3 : List UInt8 := [28, 162, 0, 21, 45, 182, 0, 169, 154, 0, 14, 45, 182, 0, 170, 87, 132, 4, 1, 167, 255, 235, 45]
abbrev dktX2_ranked_3 : List UInt8 := dkwX2_ranked_3 ++ dktX2_ranked_4
def dkwX2_ranked_2 : List UInt8 := [182, 0, 34, 192, 0, 38, 183, 0, 165, 182, 0, 168, 87, 132, 4, 1, 167, 255, 215, 3, 54, 4, 21, 4]
abbrev dktX2_ranked_2 : List UInt8 := dkwX2_ranked_2 ++ dktX2_ranked_3
def dkwX2_ranked_1 : List UInt8 := [180, 0, 12, 182, 0, 30, 162, 0, 35, 45, 187, 0, 163, 89, 21, 4, 42, 180, 0, 12, 21, 4]
abbrev dktX2_ranked_1 : List UInt8 := dkwX2_ranked_1 ++ dktX2_ranked_2
def dkwX2_ranked_0 : List UInt8 := [187, 0, 154, 89, 187, 0, 156, 89, 27, 183, 0, 158, 183, 0, 160, 78, 3, 54, 4, 21, 4, 42]
abbrev dktX2_ranked_0 : List UInt8 := dkwX2_ranked_0 ++ dktX2_ranked_1
theorem dksX2_ranked_0 : cX2_ranked.data.toList.drop 0 = dktX2_ranked_0 := by decide +kernel
theorem dksX2_ranked_1 : cX2_ranked.data.toList.drop 22 = dktX2_ranked_1 := dk_seg dksX2_ranked_0 22 rfl rfl
theorem dksX2_ranked_2 : cX2_ranked.data.toList.drop 44 = dktX2_ranked_2 := dk_seg dksX2_ranked_1 22 rfl rfl
theorem dksX2_ranked_3 : cX2_ranked.data.toList.drop 68 = dktX2_ranked_3 := dk_seg dksX2_ranked_2 24 rfl rfl
theorem dksX2_ranked_4 : cX2_ranked.data.toList.drop 91 = dktX2_ranked_4 := dk_seg dksX2_ranked_3 23 rfl rfl
theorem dX2_ranked_0 : decode cX2_ranked 0 = .ok (.new 154, 3) := dk_187 0 154 (dk_at dksX2_ranked_0 0 rfl rfl)
theorem dX2_ranked_3 : decode cX2_ranked 3 = .ok (.dup, 1) := dk_89 (dk_at dksX2_ranked_0 3 rfl rfl)
theorem dX2_ranked_4 : decode cX2_ranked 4 = .ok (.new 156, 3) := dk_187 0 156 (dk_at dksX2_ranked_0 4 rfl rfl)
theorem dX2_ranked_7 : decode cX2_ranked 7 = .ok (.dup, 1) := dk_89 (dk_at dksX2_ranked_0 7 rfl rfl)
theorem dX2_ranked_8 : decode cX2_ranked 8 = .ok (.iload_n 1, 1) := dk_27 (dk_at dksX2_ranked_0 8 rfl rfl)
theorem dX2_ranked_9 : decode cX2_ranked 9 = .ok (.invokespecial 158, 3) := dk_183 0 158 (dk_at dksX2_ranked_0 9 rfl rfl)
theorem dX2_ranked_12 : decode cX2_ranked 12 = .ok (.invokespecial 160, 3) := dk_183 0 160 (dk_at dksX2_ranked_0 12 rfl rfl)
theorem dX2_ranked_15 : decode cX2_ranked 15 = .ok (.astore_n 3, 1) := dk_78 (dk_at dksX2_ranked_0 15 rfl rfl)
theorem dX2_ranked_16 : decode cX2_ranked 16 = .ok (.iconst 0, 1) := dk_3 (dk_at dksX2_ranked_0 16 rfl rfl)
theorem dX2_ranked_17 : decode cX2_ranked 17 = .ok (.istore 4, 2) := dk_54 4 (dk_at dksX2_ranked_0 17 rfl rfl)
theorem dX2_ranked_19 : decode cX2_ranked 19 = .ok (.iload 4, 2) := dk_21 4 (dk_at dksX2_ranked_0 19 rfl rfl)
theorem dX2_ranked_21 : decode cX2_ranked 21 = .ok (.aload_n 0, 1) := dk_42 (dk_at dksX2_ranked_0 21 rfl rfl)
theorem dX2_ranked_22 : decode cX2_ranked 22 = .ok (.getfield 12, 3) := dk_180 0 12 (dk_at dksX2_ranked_1 0 rfl rfl)
theorem dX2_ranked_25 : decode cX2_ranked 25 = .ok (.invokevirtual 30, 3) := dk_182 0 30 (dk_at dksX2_ranked_1 3 rfl rfl)
theorem dX2_ranked_28 : decode cX2_ranked 28 = .ok (.if_icmp .ge 35, 3) := dk_162 0 35 (dk_at dksX2_ranked_1 6 rfl rfl)
theorem dX2_ranked_31 : decode cX2_ranked 31 = .ok (.aload_n 3, 1) := dk_45 (dk_at dksX2_ranked_1 9 rfl rfl)
theorem dX2_ranked_32 : decode cX2_ranked 32 = .ok (.new 163, 3) := dk_187 0 163 (dk_at dksX2_ranked_1 10 rfl rfl)
theorem dX2_ranked_35 : decode cX2_ranked 35 = .ok (.dup, 1) := dk_89 (dk_at dksX2_ranked_1 13 rfl rfl)
theorem dX2_ranked_36 : decode cX2_ranked 36 = .ok (.iload 4, 2) := dk_21 4 (dk_at dksX2_ranked_1 14 rfl rfl)
theorem dX2_ranked_38 : decode cX2_ranked 38 = .ok (.aload_n 0, 1) := dk_42 (dk_at dksX2_ranked_1 16 rfl rfl)
theorem dX2_ranked_39 : decode cX2_ranked 39 = .ok (.getfield 12, 3) := dk_180 0 12 (dk_at dksX2_ranked_1 17 rfl rfl)
theorem dX2_ranked_42 : decode cX2_ranked 42 = .ok (.iload 4, 2) := dk_21 4 (dk_at dksX2_ranked_1 20 rfl rfl)
theorem dX2_ranked_44 : decode cX2_ranked 44 = .ok (.invokevirtual 34, 3) := dk_182 0 34 (dk_at dksX2_ranked_2 0 rfl rfl)
theorem dX2_ranked_47 : decode cX2_ranked 47 = .ok (.checkcast 38, 3) := dk_192 0 38 (dk_at dksX2_ranked_2 3 rfl rfl)
theorem dX2_ranked_50 : decode cX2_ranked 50 = .ok (.invokespecial 165, 3) := dk_183 0 165 (dk_at dksX2_ranked_2 6 rfl rfl)
theorem dX2_ranked_53 : decode cX2_ranked 53 = .ok (.invokevirtual 168, 3) := dk_182 0 168 (dk_at dksX2_ranked_2 9 rfl rfl)
theorem dX2_ranked_56 : decode cX2_ranked 56 = .ok (.pop, 1) := dk_87 (dk_at dksX2_ranked_2 12 rfl rfl)
theorem dX2_ranked_57 : decode cX2_ranked 57 = .ok (.iinc 4 1, 3) := dk_132 4 1 (dk_at dksX2_ranked_2 13 rfl rfl)
theorem dX2_ranked_60 : decode cX2_ranked 60 = .ok (.goto (-41), 3) := dk_167 255 215 (dk_at dksX2_ranked_2 16 rfl rfl)
theorem dX2_ranked_63 : decode cX2_ranked 63 = .ok (.iconst 0, 1) := dk_3 (dk_at dksX2_ranked_2 19 rfl rfl)
theorem dX2_ranked_64 : decode cX2_ranked 64 = .ok (.istore 4, 2) := dk_54 4 (dk_at dksX2_ranked_2 20 rfl rfl)
theorem dX2_ranked_66 : decode cX2_ranked 66 = .ok (.iload 4, 2) := dk_21 4 (dk_at dksX2_ranked_2 22 rfl rfl)
theorem dX2_ranked_68 : decode cX2_ranked 68 = .ok (.iload_n 2, 1) := dk_28 (dk_at dksX2_ranked_3 0 rfl rfl)
theorem dX2_ranked_69 : decode cX2_ranked 69 = .ok (.if_icmp .ge 21, 3) := dk_162 0 21 (dk_at dksX2_ranked_3 1 rfl rfl)
theorem dX2_ranked_72 : decode cX2_ranked 72 = .ok (.aload_n 3, 1) := dk_45 (dk_at dksX2_ranked_3 4 rfl rfl)
theorem dX2_ranked_73 : decode cX2_ranked 73 = .ok (.invokevirtual 169, 3) := dk_182 0 169 (dk_at dksX2_ranked_3 5 rfl rfl)
theorem dX2_ranked_76 : decode cX2_ranked 76 = .ok (.ifCond .ne 14, 3) := dk_154 0 14 (dk_at dksX2_ranked_3 8 rfl rfl)
theorem dX2_ranked_79 : decode cX2_ranked 79 = .ok (.aload_n 3, 1) := dk_45 (dk_at dksX2_ranked_3 11 rfl rfl)
theorem dX2_ranked_80 : decode cX2_ranked 80 = .ok (.invokevirtual 170, 3) := dk_182 0 170 (dk_at dksX2_ranked_3 12 rfl rfl)
theorem dX2_ranked_83 : decode cX2_ranked 83 = .ok (.pop, 1) := dk_87 (dk_at dksX2_ranked_3 15 rfl rfl)
theorem dX2_ranked_84 : decode cX2_ranked 84 = .ok (.iinc 4 1, 3) := dk_132 4 1 (dk_at dksX2_ranked_3 16 rfl rfl)
theorem dX2_ranked_87 : decode cX2_ranked 87 = .ok (.goto (-21), 3) := dk_167 255 235 (dk_at dksX2_ranked_3 19 rfl rfl)
theorem dX2_ranked_90 : decode cX2_ranked 90 = .ok (.aload_n 3, 1) := dk_45 (dk_at dksX2_ranked_3 22 rfl rfl)
theorem dX2_ranked_91 : decode cX2_ranked 91 = .ok (.invokevirtual 169, 3) := dk_182 0 169 (dk_at dksX2_ranked_4 0 rfl rfl)
theorem dX2_ranked_94 : decode cX2_ranked 94 = .ok (.ifCond .eq 7, 3) := dk_153 0 7 (dk_at dksX2_ranked_4 3 rfl rfl)
theorem dX2_ranked_97 : decode cX2_ranked 97 = .ok (.iconst (-1), 1) := dk_2 (dk_at dksX2_ranked_4 6 rfl rfl)
theorem dX2_ranked_98 : decode cX2_ranked 98 = .ok (.goto 13, 3) := dk_167 0 13 (dk_at dksX2_ranked_4 7 rfl rfl)
theorem dX2_ranked_101 : decode cX2_ranked 101 = .ok (.aload_n 3, 1) := dk_45 (dk_at dksX2_ranked_4 10 rfl rfl)
theorem dX2_ranked_102 : decode cX2_ranked 102 = .ok (.invokevirtual 170, 3) := dk_182 0 170 (dk_at dksX2_ranked_4 11 rfl rfl)
theorem dX2_ranked_105 : decode cX2_ranked 105 = .ok (.checkcast 163, 3) := dk_192 0 163 (dk_at dksX2_ranked_4 14 rfl rfl)
theorem dX2_ranked_108 : decode cX2_ranked 108 = .ok (.getfield 174, 3) := dk_180 0 174 (dk_at dksX2_ranked_4 17 rfl rfl)
theorem dX2_ranked_111 : decode cX2_ranked 111 = .ok (.ireturn, 1) := dk_172 (dk_at dksX2_ranked_4 20 rfl rfl)
abbrev cX2_byLength : ByteArray := prog_8_method_18_code
def yX2_byLength : MethodName := ⟨RX2, "byLength", "()Ljava/util/TreeMap;"⟩
def dkwX2_byLength_4 : List UInt8 := [184, 0, 135, 182, 0, 150, 87, 132, 2, 1, 167, 255, 163, 43, 176]
abbrev dktX2_byLength_4 : List UInt8 := dkwX2_byLength_4 ++ []
def dkwX2_byLength_3 : List UInt8 := [182, 0, 144, 192, 0, 136, 182, 0, 147, 167, 0, 4, 3, 54, 4, 43, 29, 184, 0, 135, 21, 4, 4, 96]
abbrev dktX2_byLength_3 : List UInt8 := dkwX2_byLength_3 ++ dktX2_byLength_4
def dkwX2_byLength_2 : List UInt8 := [192, 0, 38, 180, 0, 129, 62, 43, 29, 184, 0, 135, 182, 0, 141, 153, 0, 20, 43, 29, 184, 0, 135]
abbrev dktX2_byLength_2 : List UInt8 := dkwX2_byLength_2 ++ dktX2_byLength_3
def dkwX2_byLength_1 : List UInt8 := [180, 0, 12, 28, 182, 0, 34, 192, 0, 38, 182, 0, 64, 153, 0, 65, 42, 180, 0, 12, 28, 182, 0, 34]
abbrev dktX2_byLength_1 : List UInt8 := dkwX2_byLength_1 ++ dktX2_byLength_2
def dkwX2_byLength_0 : List UInt8 := [187, 0, 132, 89, 183, 0, 134, 76, 3, 61, 28, 42, 180, 0, 12, 182, 0, 30, 162, 0, 88, 42]
abbrev dktX2_byLength_0 : List UInt8 := dkwX2_byLength_0 ++ dktX2_byLength_1
theorem dksX2_byLength_0 : cX2_byLength.data.toList.drop 0 = dktX2_byLength_0 := by decide +kernel
theorem dksX2_byLength_1 : cX2_byLength.data.toList.drop 22 = dktX2_byLength_1 := dk_seg dksX2_byLength_0 22 rfl rfl
theorem dksX2_byLength_2 : cX2_byLength.data.toList.drop 46 = dktX2_byLength_2 := dk_seg dksX2_byLength_1 24 rfl rfl
theorem dksX2_byLength_3 : cX2_byLength.data.toList.drop 69 = dktX2_byLength_3 := dk_seg dksX2_byLength_2 23 rfl rfl
theorem dksX2_byLength_4 : cX2_byLength.data.toList.drop 93 = dktX2_byLength_4 := dk_seg dksX2_byLength_3 24 rfl rfl
theorem dX2_byLength_0 : decode cX2_byLength 0 = .ok (.new 132, 3) := dk_187 0 132 (dk_at dksX2_byLength_0 0 rfl rfl)
theorem dX2_byLength_3 : decode cX2_byLength 3 = .ok (.dup, 1) := dk_89 (dk_at dksX2_byLength_0 3 rfl rfl)
theorem dX2_byLength_4 : decode cX2_byLength 4 = .ok (.invokespecial 134, 3) := dk_183 0 134 (dk_at dksX2_byLength_0 4 rfl rfl)
theorem dX2_byLength_7 : decode cX2_byLength 7 = .ok (.astore_n 1, 1) := dk_76 (dk_at dksX2_byLength_0 7 rfl rfl)
theorem dX2_byLength_8 : decode cX2_byLength 8 = .ok (.iconst 0, 1) := dk_3 (dk_at dksX2_byLength_0 8 rfl rfl)
theorem dX2_byLength_9 : decode cX2_byLength 9 = .ok (.istore_n 2, 1) := dk_61 (dk_at dksX2_byLength_0 9 rfl rfl)
theorem dX2_byLength_10 : decode cX2_byLength 10 = .ok (.iload_n 2, 1) := dk_28 (dk_at dksX2_byLength_0 10 rfl rfl)
theorem dX2_byLength_11 : decode cX2_byLength 11 = .ok (.aload_n 0, 1) := dk_42 (dk_at dksX2_byLength_0 11 rfl rfl)
theorem dX2_byLength_12 : decode cX2_byLength 12 = .ok (.getfield 12, 3) := dk_180 0 12 (dk_at dksX2_byLength_0 12 rfl rfl)
theorem dX2_byLength_15 : decode cX2_byLength 15 = .ok (.invokevirtual 30, 3) := dk_182 0 30 (dk_at dksX2_byLength_0 15 rfl rfl)
theorem dX2_byLength_18 : decode cX2_byLength 18 = .ok (.if_icmp .ge 88, 3) := dk_162 0 88 (dk_at dksX2_byLength_0 18 rfl rfl)
theorem dX2_byLength_21 : decode cX2_byLength 21 = .ok (.aload_n 0, 1) := dk_42 (dk_at dksX2_byLength_0 21 rfl rfl)
theorem dX2_byLength_22 : decode cX2_byLength 22 = .ok (.getfield 12, 3) := dk_180 0 12 (dk_at dksX2_byLength_1 0 rfl rfl)
theorem dX2_byLength_25 : decode cX2_byLength 25 = .ok (.iload_n 2, 1) := dk_28 (dk_at dksX2_byLength_1 3 rfl rfl)
theorem dX2_byLength_26 : decode cX2_byLength 26 = .ok (.invokevirtual 34, 3) := dk_182 0 34 (dk_at dksX2_byLength_1 4 rfl rfl)
theorem dX2_byLength_29 : decode cX2_byLength 29 = .ok (.checkcast 38, 3) := dk_192 0 38 (dk_at dksX2_byLength_1 7 rfl rfl)
theorem dX2_byLength_32 : decode cX2_byLength 32 = .ok (.invokevirtual 64, 3) := dk_182 0 64 (dk_at dksX2_byLength_1 10 rfl rfl)
theorem dX2_byLength_35 : decode cX2_byLength 35 = .ok (.ifCond .eq 65, 3) := dk_153 0 65 (dk_at dksX2_byLength_1 13 rfl rfl)
theorem dX2_byLength_38 : decode cX2_byLength 38 = .ok (.aload_n 0, 1) := dk_42 (dk_at dksX2_byLength_1 16 rfl rfl)
theorem dX2_byLength_39 : decode cX2_byLength 39 = .ok (.getfield 12, 3) := dk_180 0 12 (dk_at dksX2_byLength_1 17 rfl rfl)
theorem dX2_byLength_42 : decode cX2_byLength 42 = .ok (.iload_n 2, 1) := dk_28 (dk_at dksX2_byLength_1 20 rfl rfl)
theorem dX2_byLength_43 : decode cX2_byLength 43 = .ok (.invokevirtual 34, 3) := dk_182 0 34 (dk_at dksX2_byLength_1 21 rfl rfl)
theorem dX2_byLength_46 : decode cX2_byLength 46 = .ok (.checkcast 38, 3) := dk_192 0 38 (dk_at dksX2_byLength_2 0 rfl rfl)
theorem dX2_byLength_49 : decode cX2_byLength 49 = .ok (.getfield 129, 3) := dk_180 0 129 (dk_at dksX2_byLength_2 3 rfl rfl)
theorem dX2_byLength_52 : decode cX2_byLength 52 = .ok (.istore_n 3, 1) := dk_62 (dk_at dksX2_byLength_2 6 rfl rfl)
theorem dX2_byLength_53 : decode cX2_byLength 53 = .ok (.aload_n 1, 1) := dk_43 (dk_at dksX2_byLength_2 7 rfl rfl)
theorem dX2_byLength_54 : decode cX2_byLength 54 = .ok (.iload_n 3, 1) := dk_29 (dk_at dksX2_byLength_2 8 rfl rfl)
theorem dX2_byLength_55 : decode cX2_byLength 55 = .ok (.invokestatic 135, 3) := dk_184 0 135 (dk_at dksX2_byLength_2 9 rfl rfl)
theorem dX2_byLength_58 : decode cX2_byLength 58 = .ok (.invokevirtual 141, 3) := dk_182 0 141 (dk_at dksX2_byLength_2 12 rfl rfl)
theorem dX2_byLength_61 : decode cX2_byLength 61 = .ok (.ifCond .eq 20, 3) := dk_153 0 20 (dk_at dksX2_byLength_2 15 rfl rfl)
theorem dX2_byLength_64 : decode cX2_byLength 64 = .ok (.aload_n 1, 1) := dk_43 (dk_at dksX2_byLength_2 18 rfl rfl)
theorem dX2_byLength_65 : decode cX2_byLength 65 = .ok (.iload_n 3, 1) := dk_29 (dk_at dksX2_byLength_2 19 rfl rfl)
theorem dX2_byLength_66 : decode cX2_byLength 66 = .ok (.invokestatic 135, 3) := dk_184 0 135 (dk_at dksX2_byLength_2 20 rfl rfl)
theorem dX2_byLength_69 : decode cX2_byLength 69 = .ok (.invokevirtual 144, 3) := dk_182 0 144 (dk_at dksX2_byLength_3 0 rfl rfl)
theorem dX2_byLength_72 : decode cX2_byLength 72 = .ok (.checkcast 136, 3) := dk_192 0 136 (dk_at dksX2_byLength_3 3 rfl rfl)
theorem dX2_byLength_75 : decode cX2_byLength 75 = .ok (.invokevirtual 147, 3) := dk_182 0 147 (dk_at dksX2_byLength_3 6 rfl rfl)
theorem dX2_byLength_78 : decode cX2_byLength 78 = .ok (.goto 4, 3) := dk_167 0 4 (dk_at dksX2_byLength_3 9 rfl rfl)
theorem dX2_byLength_81 : decode cX2_byLength 81 = .ok (.iconst 0, 1) := dk_3 (dk_at dksX2_byLength_3 12 rfl rfl)
theorem dX2_byLength_82 : decode cX2_byLength 82 = .ok (.istore 4, 2) := dk_54 4 (dk_at dksX2_byLength_3 13 rfl rfl)
theorem dX2_byLength_84 : decode cX2_byLength 84 = .ok (.aload_n 1, 1) := dk_43 (dk_at dksX2_byLength_3 15 rfl rfl)
theorem dX2_byLength_85 : decode cX2_byLength 85 = .ok (.iload_n 3, 1) := dk_29 (dk_at dksX2_byLength_3 16 rfl rfl)
theorem dX2_byLength_86 : decode cX2_byLength 86 = .ok (.invokestatic 135, 3) := dk_184 0 135 (dk_at dksX2_byLength_3 17 rfl rfl)
theorem dX2_byLength_89 : decode cX2_byLength 89 = .ok (.iload 4, 2) := dk_21 4 (dk_at dksX2_byLength_3 20 rfl rfl)
theorem dX2_byLength_91 : decode cX2_byLength 91 = .ok (.iconst 1, 1) := dk_4 (dk_at dksX2_byLength_3 22 rfl rfl)
theorem dX2_byLength_92 : decode cX2_byLength 92 = .ok (.iadd, 1) := dk_96 (dk_at dksX2_byLength_3 23 rfl rfl)
theorem dX2_byLength_93 : decode cX2_byLength 93 = .ok (.invokestatic 135, 3) := dk_184 0 135 (dk_at dksX2_byLength_4 0 rfl rfl)
theorem dX2_byLength_96 : decode cX2_byLength 96 = .ok (.invokevirtual 150, 3) := dk_182 0 150 (dk_at dksX2_byLength_4 3 rfl rfl)
theorem dX2_byLength_99 : decode cX2_byLength 99 = .ok (.pop, 1) := dk_87 (dk_at dksX2_byLength_4 6 rfl rfl)
theorem dX2_byLength_100 : decode cX2_byLength 100 = .ok (.iinc 2 1, 3) := dk_132 2 1 (dk_at dksX2_byLength_4 7 rfl rfl)
theorem dX2_byLength_103 : decode cX2_byLength 103 = .ok (.goto (-93), 3) := dk_167 255 163 (dk_at dksX2_byLength_4 10 rfl rfl)
theorem dX2_byLength_106 : decode cX2_byLength 106 = .ok (.aload_n 1, 1) := dk_43 (dk_at dksX2_byLength_4 13 rfl rfl)
theorem dX2_byLength_107 : decode cX2_byLength 107 = .ok (.areturn, 1) := dk_176 (dk_at dksX2_byLength_4 14 rfl rfl)
theorem q77 : (Jvm.Cond.initialized "GaugeBlocks$State") ∈ lw_all := lw_g (lw_at lw_m1 2 rfl) rfl
theorem q134 : (Jvm.Cond.instantiable "GaugeBlocks$State" (7 : Nat)) ∈ lw_all := lw_g (lw_at lw_m1 59 rfl) rfl
theorem q136 : (Jvm.Cond.instanceMethod ({ cls := "GaugeBlocks$State", name := "<init>", desc := "()V" } : Jvm.MethodName)) ∈ lw_all := lw_g (lw_at lw_m1 61 rfl) rfl
theorem q137 : (Jvm.Cond.code ({ cls := "GaugeBlocks$State", name := "<init>", desc := "()V" } : Jvm.MethodName) prog_8_method_1_code (2 : Nat) (Option.none : Option Jvm.ClassFile.FieldType)) ∈ lw_all := lw_g (lw_at lw_m1 62 rfl) rfl
theorem q138 : (Jvm.Cond.methodLink "GaugeBlocks$State" (3 : Nat) ({ cls := "java/lang/Object", name := "<init>", desc := "()V" } : Jvm.MethodName)) ∈ lw_all := lw_g (lw_at lw_m1 63 rfl) rfl
theorem q139 : (Jvm.Cond.classLink "GaugeBlocks$State" (9 : Nat) "java/util/ArrayList") ∈ lw_all := lw_g (lw_at lw_m1 64 rfl) rfl
theorem q141 : (Jvm.Cond.methodLink "GaugeBlocks$State" (11 : Nat) ({ cls := "java/util/ArrayList", name := "<init>", desc := "()V" } : Jvm.MethodName)) ∈ lw_all := lw_g (lw_at lw_m1 66 rfl) rfl
theorem q168 : (Jvm.Cond.methodLink "GaugeBlocks$State" (25 : Nat) ({ cls := "java/util/ArrayList", name := "add", desc := "(Ljava/lang/Object;)Z" } : Jvm.MethodName)) ∈ lw_all := lw_g (lw_at lw_m1 93 rfl) rfl
theorem q207 : (Jvm.Cond.selects "GaugeBlocks$State" ({ cls := "java/lang/Object", name := "getClass", desc := "()Ljava/lang/Class;" } : Jvm.MethodName) ({ cls := "java/lang/Object", name := "getClass", desc := "()Ljava/lang/Class;" } : Jvm.MethodName)) ∈ lw_all := lw_g (lw_at lw_m1 132 rfl) rfl
theorem q242 : (Jvm.Cond.fieldLink "GaugeBlocks$State" (12 : Nat) "GaugeBlocks$State" "blocks" "Ljava/util/ArrayList;") ∈ lw_all := lw_g (lw_at lw_m1 167 rfl) rfl
theorem q245 : (Jvm.Cond.fieldLink "GaugeBlocks$State" (18 : Nat) "GaugeBlocks$State" "stacks" "Ljava/util/ArrayList;") ∈ lw_all := lw_g (lw_at lw_m1 170 rfl) rfl
theorem q247 : (Jvm.Cond.fieldLink "GaugeBlocks$State" (21 : Nat) "GaugeBlocks$State" "settings" "[I") ∈ lw_all := lw_g (lw_at lw_m1 172 rfl) rfl
theorem q249 : (Jvm.Cond.fieldLink "GaugeBlocks$State" (48 : Nat) "GaugeBlocks$State" "minutes" "I") ∈ lw_all := lw_g (lw_at lw_m1 174 rfl) rfl
theorem q251 : (Jvm.Cond.fieldLink "GaugeBlocks$State" (52 : Nat) "GaugeBlocks$State" "wrung" "I") ∈ lw_all := lw_g (lw_at lw_m1 176 rfl) rfl
theorem q253 : (Jvm.Cond.fieldLink "GaugeBlocks$State" (55 : Nat) "GaugeBlocks$State" "takenOff" "I") ∈ lw_all := lw_g (lw_at lw_m1 178 rfl) rfl
theorem q255 : (Jvm.Cond.fieldLink "GaugeBlocks$State" (58 : Nat) "GaugeBlocks$State" "refused" "I") ∈ lw_all := lw_g (lw_at lw_m1 180 rfl) rfl
theorem q257 : (Jvm.Cond.laysFinal "GaugeBlocks$State" "GaugeBlocks$State" "blocks" "Ljava/util/ArrayList;") ∈ lw_all := lw_g (lw_at lw_m1 182 rfl) rfl
theorem q258 : (Jvm.Cond.soleField "GaugeBlocks$State" "blocks") ∈ lw_all := lw_g (lw_at lw_m1 183 rfl) rfl
theorem q259 : (Jvm.Cond.laysFinal "GaugeBlocks$State" "GaugeBlocks$State" "stacks" "Ljava/util/ArrayList;") ∈ lw_all := lw_g (lw_at lw_m1 184 rfl) rfl
theorem q260 : (Jvm.Cond.soleField "GaugeBlocks$State" "stacks") ∈ lw_all := lw_g (lw_at lw_m1 185 rfl) rfl
theorem q261 : (Jvm.Cond.laysFinal "GaugeBlocks$State" "GaugeBlocks$State" "settings" "[I") ∈ lw_all := lw_g (lw_at lw_m1 186 rfl) rfl
theorem q262 : (Jvm.Cond.soleField "GaugeBlocks$State" "settings") ∈ lw_all := lw_g (lw_at lw_m1 187 rfl) rfl
theorem q263 : (Jvm.Cond.lays "GaugeBlocks$State" "GaugeBlocks$State" "minutes" "I") ∈ lw_all := lw_g (lw_at lw_m1 188 rfl) rfl
theorem q264 : (Jvm.Cond.soleField "GaugeBlocks$State" "minutes") ∈ lw_all := lw_g (lw_at lw_m1 189 rfl) rfl
theorem q265 : (Jvm.Cond.lays "GaugeBlocks$State" "GaugeBlocks$State" "wrung" "I") ∈ lw_all := lw_g (lw_at lw_m1 190 rfl) rfl
theorem q266 : (Jvm.Cond.soleField "GaugeBlocks$State" "wrung") ∈ lw_all := lw_g (lw_at lw_m1 191 rfl) rfl
theorem q267 : (Jvm.Cond.lays "GaugeBlocks$State" "GaugeBlocks$State" "takenOff" "I") ∈ lw_all := lw_g (lw_at lw_m1 192 rfl) rfl
theorem q268 : (Jvm.Cond.soleField "GaugeBlocks$State" "takenOff") ∈ lw_all := lw_g (lw_at lw_m1 193 rfl) rfl
theorem q269 : (Jvm.Cond.lays "GaugeBlocks$State" "GaugeBlocks$State" "refused" "I") ∈ lw_all := lw_g (lw_at lw_m1 194 rfl) rfl
theorem q270 : (Jvm.Cond.soleField "GaugeBlocks$State" "refused") ∈ lw_all := lw_g (lw_at lw_m1 195 rfl) rfl
theorem q271 : (Jvm.Cond.superclass "GaugeBlocks$State" "java/lang/Object") ∈ lw_all := lw_g (lw_at lw_m1 196 rfl) rfl
theorem q930 : (Jvm.Cond.instanceMethod ({ cls := "GaugeBlocks$State", name := "copy", desc := "()LGaugeBlocks$State;" } : Jvm.MethodName)) ∈ lw_all := lw_g (lw_at lw_m4 135 rfl) rfl
theorem q931 : (Jvm.Cond.selects "GaugeBlocks$State" ({ cls := "GaugeBlocks$State", name := "copy", desc := "()LGaugeBlocks$State;" } : Jvm.MethodName) ({ cls := "GaugeBlocks$State", name := "copy", desc := "()LGaugeBlocks$State;" } : Jvm.MethodName)) ∈ lw_all := lw_g (lw_at lw_m4 136 rfl) rfl
theorem q932 : (Jvm.Cond.code ({ cls := "GaugeBlocks$State", name := "copy", desc := "()LGaugeBlocks$State;" } : Jvm.MethodName) prog_8_method_2_code (4 : Nat) (Option.some (Jvm.ClassFile.FieldType.object "GaugeBlocks$State"))) ∈ lw_all := lw_g (lw_at lw_m4 137 rfl) rfl
theorem q933 : (Jvm.Cond.classLink "GaugeBlocks$State" (13 : Nat) "GaugeBlocks$State") ∈ lw_all := lw_g (lw_at lw_m4 138 rfl) rfl
theorem q934 : (Jvm.Cond.methodLink "GaugeBlocks$State" (29 : Nat) ({ cls := "GaugeBlocks$State", name := "<init>", desc := "()V" } : Jvm.MethodName)) ∈ lw_all := lw_g (lw_at lw_m4 139 rfl) rfl
theorem q935 : (Jvm.Cond.methodLink "GaugeBlocks$State" (30 : Nat) ({ cls := "java/util/ArrayList", name := "size", desc := "()I" } : Jvm.MethodName)) ∈ lw_all := lw_g (lw_at lw_m4 140 rfl) rfl
theorem q936 : (Jvm.Cond.methodLink "GaugeBlocks$State" (34 : Nat) ({ cls := "java/util/ArrayList", name := "get", desc := "(I)Ljava/lang/Object;" } : Jvm.MethodName)) ∈ lw_all := lw_g (lw_at lw_m4 141 rfl) rfl
theorem q948 : (Jvm.Cond.classLink "GaugeBlocks$State" (38 : Nat) "GaugeBlocks$Block") ∈ lw_all := lw_g (lw_at lw_m4 153 rfl) rfl
theorem q949 : (Jvm.Cond.methodLink "GaugeBlocks$State" (40 : Nat) ({ cls := "GaugeBlocks$Block", name := "copy", desc := "()LGaugeBlocks$Block;" } : Jvm.MethodName)) ∈ lw_all := lw_g (lw_at lw_m4 154 rfl) rfl
theorem q962 : (Jvm.Cond.fieldLink "GaugeBlocks$State" (129 : Nat) "GaugeBlocks$Block" "nominal" "I") ∈ lw_all := lw_g (lw_at lw_m4 167 rfl) rfl
theorem q966 : (Jvm.Cond.fieldLink "GaugeBlocks$State" (81 : Nat) "GaugeBlocks$Block" "wear" "I") ∈ lw_all := lw_g (lw_at lw_m4 171 rfl) rfl
theorem q970 : (Jvm.Cond.fieldLink "GaugeBlocks$State" (71 : Nat) "GaugeBlocks$Block" "warmth" "I") ∈ lw_all := lw_g (lw_at lw_m4 175 rfl) rfl
theorem q973 : (Jvm.Cond.fieldLink "GaugeBlocks$State" (99 : Nat) "GaugeBlocks$Block" "wrung" "I") ∈ lw_all := lw_g (lw_at lw_m4 178 rfl) rfl
theorem q976 : (Jvm.Cond.fieldLink "GaugeBlocks$State" (96 : Nat) "GaugeBlocks$Block" "stack" "I") ∈ lw_all := lw_g (lw_at lw_m4 181 rfl) rfl
theorem q991 : (Jvm.Cond.methodLink "GaugeBlocks$State" (44 : Nat) ({ cls := "GaugeBlocks$State", name := "numberOf", desc := "(LGaugeBlocks$Block;)I" } : Jvm.MethodName)) ∈ lw_all := lw_g (lw_at lw_m4 196 rfl) rfl
theorem q992 : (Jvm.Cond.instanceMethod ({ cls := "GaugeBlocks$State", name := "numberOf", desc := "(LGaugeBlocks$Block;)I" } : Jvm.MethodName)) ∈ lw_all := lw_g (lw_at lw_m4 197 rfl) rfl
theorem q993 : (Jvm.Cond.selects "GaugeBlocks$State" ({ cls := "GaugeBlocks$State", name := "numberOf", desc := "(LGaugeBlocks$Block;)I" } : Jvm.MethodName) ({ cls := "GaugeBlocks$State", name := "numberOf", desc := "(LGaugeBlocks$Block;)I" } : Jvm.MethodName)) ∈ lw_all := lw_g (lw_at lw_m4 198 rfl) rfl
theorem q994 : (Jvm.Cond.code ({ cls := "GaugeBlocks$State", name := "numberOf", desc := "(LGaugeBlocks$Block;)I" } : Jvm.MethodName) prog_8_method_3_code (3 : Nat) (Option.some Jvm.ClassFile.FieldType.int)) ∈ lw_all := lw_g (lw_at lw_m4 199 rfl) rfl
theorem q1018 : (Jvm.Cond.instanceMethod ({ cls := "GaugeBlocks$State", name := "add", desc := "(II)I" } : Jvm.MethodName)) ∈ lw_all := lw_g (lw_at lw_m4 223 rfl) rfl
theorem q1019 : (Jvm.Cond.selects "GaugeBlocks$State" ({ cls := "GaugeBlocks$State", name := "add", desc := "(II)I" } : Jvm.MethodName) ({ cls := "GaugeBlocks$State", name := "add", desc := "(II)I" } : Jvm.MethodName)) ∈ lw_all := lw_g (lw_at lw_m4 224 rfl) rfl
theorem q1020 : (Jvm.Cond.code ({ cls := "GaugeBlocks$State", name := "add", desc := "(II)I" } : Jvm.MethodName) prog_8_method_4_code (3 : Nat) (Option.some Jvm.ClassFile.FieldType.int)) ∈ lw_all := lw_g (lw_at lw_m4 225 rfl) rfl
theorem q1021 : (Jvm.Cond.methodLink "GaugeBlocks$State" (61 : Nat) ({ cls := "GaugeBlocks$Block", name := "<init>", desc := "(II)V" } : Jvm.MethodName)) ∈ lw_all := lw_g (lw_at lw_m4 226 rfl) rfl
theorem q1106 : (Jvm.Cond.instanceMethod ({ cls := "GaugeBlocks$State", name := "rest", desc := "(I)I" } : Jvm.MethodName)) ∈ lw_all := lw_g (lw_at lw_m5 71 rfl) rfl
theorem q1107 : (Jvm.Cond.selects "GaugeBlocks$State" ({ cls := "GaugeBlocks$State", name := "rest", desc := "(I)I" } : Jvm.MethodName) ({ cls := "GaugeBlocks$State", name := "rest", desc := "(I)I" } : Jvm.MethodName)) ∈ lw_all := lw_g (lw_at lw_m5 72 rfl) rfl
theorem q1108 : (Jvm.Cond.code ({ cls := "GaugeBlocks$State", name := "rest", desc := "(I)I" } : Jvm.MethodName) prog_8_method_13_code (5 : Nat) (Option.some Jvm.ClassFile.FieldType.int)) ∈ lw_all := lw_g (lw_at lw_m5 73 rfl) rfl
theorem q1109 : (Jvm.Cond.methodLinkNest "GaugeBlocks$State" (119 : Nat) ({ cls := "GaugeBlocks", name := "cooled", desc := "(I)I" } : Jvm.MethodName) "GaugeBlocks") ∈ lw_tbl := lw_at lw_m5 74 rfl
theorem q1112 : (Jvm.Cond.methodLink "GaugeBlocks$State" (123 : Nat) ({ cls := "GaugeBlocks$State", name := "warmest", desc := "()I" } : Jvm.MethodName)) ∈ lw_all := lw_g (lw_at lw_m5 77 rfl) rfl
theorem q1113 : (Jvm.Cond.instanceMethod ({ cls := "GaugeBlocks$State", name := "warmest", desc := "()I" } : Jvm.MethodName)) ∈ lw_all := lw_g (lw_at lw_m5 78 rfl) rfl
theorem q1114 : (Jvm.Cond.selects "GaugeBlocks$State" ({ cls := "GaugeBlocks$State", name := "warmest", desc := "()I" } : Jvm.MethodName) ({ cls := "GaugeBlocks$State", name := "warmest", desc := "()I" } : Jvm.MethodName)) ∈ lw_all := lw_g (lw_at lw_m5 79 rfl) rfl
theorem q1115 : (Jvm.Cond.code ({ cls := "GaugeBlocks$State", name := "warmest", desc := "()I" } : Jvm.MethodName) prog_8_method_12_code (3 : Nat) (Option.some Jvm.ClassFile.FieldType.int)) ∈ lw_all := lw_g (lw_at lw_m5 80 rfl) rfl
theorem q1116 : (Jvm.Cond.methodLink "GaugeBlocks$State" (114 : Nat) ({ cls := "java/lang/Math", name := "max", desc := "(II)I" } : Jvm.MethodName)) ∈ lw_all := lw_g (lw_at lw_m5 81 rfl) rfl
theorem q1135 : (Jvm.Cond.instanceMethod ({ cls := "GaugeBlocks$State", name := "wring", desc := "(II)I" } : Jvm.MethodName)) ∈ lw_all := lw_g (lw_at lw_m5 100 rfl) rfl
theorem q1136 : (Jvm.Cond.selects "GaugeBlocks$State" ({ cls := "GaugeBlocks$State", name := "wring", desc := "(II)I" } : Jvm.MethodName) ({ cls := "GaugeBlocks$State", name := "wring", desc := "(II)I" } : Jvm.MethodName)) ∈ lw_all := lw_g (lw_at lw_m5 101 rfl) rfl
theorem q1137 : (Jvm.Cond.code ({ cls := "GaugeBlocks$State", name := "wring", desc := "(II)I" } : Jvm.MethodName) prog_8_method_9_code (5 : Nat) (Option.some Jvm.ClassFile.FieldType.int)) ∈ lw_all := lw_g (lw_at lw_m5 102 rfl) rfl
theorem q1138 : (Jvm.Cond.methodLink "GaugeBlocks$State" (84 : Nat) ({ cls := "GaugeBlocks$State", name := "refusal", desc := "(II)I" } : Jvm.MethodName)) ∈ lw_all := lw_g (lw_at lw_m5 103 rfl) rfl
theorem q1139 : (Jvm.Cond.instanceMethod ({ cls := "GaugeBlocks$State", name := "refusal", desc := "(II)I" } : Jvm.MethodName)) ∈ lw_all := lw_g (lw_at lw_m5 104 rfl) rfl
theorem q1140 : (Jvm.Cond.selects "GaugeBlocks$State" ({ cls := "GaugeBlocks$State", name := "refusal", desc := "(II)I" } : Jvm.MethodName) ({ cls := "GaugeBlocks$State", name := "refusal", desc := "(II)I" } : Jvm.MethodName)) ∈ lw_all := lw_g (lw_at lw_m5 105 rfl) rfl
theorem q1141 : (Jvm.Cond.code ({ cls := "GaugeBlocks$State", name := "refusal", desc := "(II)I" } : Jvm.MethodName) prog_8_method_7_code (4 : Nat) (Option.some Jvm.ClassFile.FieldType.int)) ∈ lw_all := lw_g (lw_at lw_m5 106 rfl) rfl
theorem q1142 : (Jvm.Cond.methodLink "GaugeBlocks$State" (64 : Nat) ({ cls := "GaugeBlocks$Block", name := "isFree", desc := "()Z" } : Jvm.MethodName)) ∈ lw_all := lw_g (lw_at lw_m5 107 rfl) rfl
theorem q1143 : (Jvm.Cond.methodLink "GaugeBlocks$State" (74 : Nat) ({ cls := "GaugeBlocks$Block", name := "grade", desc := "()I" } : Jvm.MethodName)) ∈ lw_all := lw_g (lw_at lw_m5 108 rfl) rfl
theorem q1144 : (Jvm.Cond.methodLink "GaugeBlocks$State" (88 : Nat) ({ cls := "GaugeBlocks$State", name := "top", desc := "(I)LGaugeBlocks$Block;" } : Jvm.MethodName)) ∈ lw_all := lw_g (lw_at lw_m5 109 rfl) rfl
theorem q1145 : (Jvm.Cond.instanceMethod ({ cls := "GaugeBlocks$State", name := "top", desc := "(I)LGaugeBlocks$Block;" } : Jvm.MethodName)) ∈ lw_all := lw_g (lw_at lw_m5 110 rfl) rfl
theorem q1146 : (Jvm.Cond.selects "GaugeBlocks$State" ({ cls := "GaugeBlocks$State", name := "top", desc := "(I)LGaugeBlocks$Block;" } : Jvm.MethodName) ({ cls := "GaugeBlocks$State", name := "top", desc := "(I)LGaugeBlocks$Block;" } : Jvm.MethodName)) ∈ lw_all := lw_g (lw_at lw_m5 111 rfl) rfl
theorem q1147 : (Jvm.Cond.code ({ cls := "GaugeBlocks$State", name := "top", desc := "(I)LGaugeBlocks$Block;" } : Jvm.MethodName) prog_8_method_6_code (3 : Nat) (Option.some (Jvm.ClassFile.FieldType.object "GaugeBlocks$Block"))) ∈ lw_all := lw_g (lw_at lw_m5 112 rfl) rfl
theorem q1148 : (Jvm.Cond.methodLink "GaugeBlocks$State" (68 : Nat) ({ cls := "java/util/ArrayList", name := "isEmpty", desc := "()Z" } : Jvm.MethodName)) ∈ lw_all := lw_g (lw_at lw_m5 113 rfl) rfl
theorem q1149 : (Jvm.Cond.methodLink "GaugeBlocks$State" (92 : Nat) ({ cls := "GaugeBlocks$State", name := "touch", desc := "(LGaugeBlocks$Block;LGaugeBlocks$Block;)V" } : Jvm.MethodName)) ∈ lw_all := lw_g (lw_at lw_m5 114 rfl) rfl
theorem q1150 : (Jvm.Cond.privateMethod ({ cls := "GaugeBlocks$State", name := "touch", desc := "(LGaugeBlocks$Block;LGaugeBlocks$Block;)V" } : Jvm.MethodName)) ∈ lw_tbl := lw_at lw_m5 115 rfl
theorem q1151 : (Jvm.Cond.instanceMethod ({ cls := "GaugeBlocks$State", name := "touch", desc := "(LGaugeBlocks$Block;LGaugeBlocks$Block;)V" } : Jvm.MethodName)) ∈ lw_all := lw_g (lw_at lw_m5 116 rfl) rfl
theorem q1152 : (Jvm.Cond.code ({ cls := "GaugeBlocks$State", name := "touch", desc := "(LGaugeBlocks$Block;LGaugeBlocks$Block;)V" } : Jvm.MethodName) prog_8_method_8_code (3 : Nat) (Option.none : Option Jvm.ClassFile.FieldType)) ∈ lw_all := lw_g (lw_at lw_m5 117 rfl) rfl
theorem q1153 : (Jvm.Cond.methodLink "GaugeBlocks$State" (77 : Nat) ({ cls := "GaugeBlocks$Block", name := "warm", desc := "(I)V" } : Jvm.MethodName)) ∈ lw_all := lw_g (lw_at lw_m5 118 rfl) rfl
theorem q1163 : (Jvm.Cond.instanceMethod ({ cls := "GaugeBlocks$State", name := "takeOff", desc := "(I)I" } : Jvm.MethodName)) ∈ lw_all := lw_g (lw_at lw_m5 128 rfl) rfl
theorem q1164 : (Jvm.Cond.selects "GaugeBlocks$State" ({ cls := "GaugeBlocks$State", name := "takeOff", desc := "(I)I" } : Jvm.MethodName) ({ cls := "GaugeBlocks$State", name := "takeOff", desc := "(I)I" } : Jvm.MethodName)) ∈ lw_all := lw_g (lw_at lw_m5 129 rfl) rfl
theorem q1165 : (Jvm.Cond.code ({ cls := "GaugeBlocks$State", name := "takeOff", desc := "(I)I" } : Jvm.MethodName) prog_8_method_10_code (4 : Nat) (Option.some Jvm.ClassFile.FieldType.int)) ∈ lw_all := lw_g (lw_at lw_m5 130 rfl) rfl
theorem q1166 : (Jvm.Cond.methodLink "GaugeBlocks$State" (100 : Nat) ({ cls := "java/util/ArrayList", name := "remove", desc := "(I)Ljava/lang/Object;" } : Jvm.MethodName)) ∈ lw_all := lw_g (lw_at lw_m5 131 rfl) rfl
theorem q1176 : (Jvm.Cond.instanceMethod ({ cls := "GaugeBlocks$State", name := "make", desc := "(II)I" } : Jvm.MethodName)) ∈ lw_all := lw_g (lw_at lw_m5 141 rfl) rfl
theorem q1177 : (Jvm.Cond.selects "GaugeBlocks$State" ({ cls := "GaugeBlocks$State", name := "make", desc := "(II)I" } : Jvm.MethodName) ({ cls := "GaugeBlocks$State", name := "make", desc := "(II)I" } : Jvm.MethodName)) ∈ lw_all := lw_g (lw_at lw_m5 142 rfl) rfl
theorem q1178 : (Jvm.Cond.code ({ cls := "GaugeBlocks$State", name := "make", desc := "(II)I" } : Jvm.MethodName) prog_8_method_11_code (7 : Nat) (Option.some Jvm.ClassFile.FieldType.int)) ∈ lw_all := lw_g (lw_at lw_m5 143 rfl) rfl
theorem q1179 : (Jvm.Cond.classLink "GaugeBlocks$State" (103 : Nat) "GaugeBlocks$Finder") ∈ lw_all := lw_g (lw_at lw_m5 144 rfl) rfl
theorem q1181 : (Jvm.Cond.methodLink "GaugeBlocks$State" (105 : Nat) ({ cls := "GaugeBlocks$Finder", name := "<init>", desc := "(LGaugeBlocks$State;I)V" } : Jvm.MethodName)) ∈ lw_all := lw_g (lw_at lw_m5 146 rfl) rfl
theorem q1186 : (Jvm.Cond.instanceMethod ({ cls := "GaugeBlocks$State", name := "free", desc := "()I" } : Jvm.MethodName)) ∈ lw_all := lw_g (lw_at lw_m5 151 rfl) rfl
theorem q1187 : (Jvm.Cond.selects "GaugeBlocks$State" ({ cls := "GaugeBlocks$State", name := "free", desc := "()I" } : Jvm.MethodName) ({ cls := "GaugeBlocks$State", name := "free", desc := "()I" } : Jvm.MethodName)) ∈ lw_all := lw_g (lw_at lw_m5 152 rfl) rfl
theorem q1188 : (Jvm.Cond.code ({ cls := "GaugeBlocks$State", name := "free", desc := "()I" } : Jvm.MethodName) prog_8_method_5_code (3 : Nat) (Option.some Jvm.ClassFile.FieldType.int)) ∈ lw_all := lw_g (lw_at lw_m5 153 rfl) rfl
theorem q1208 : (Jvm.Cond.methodLink "GaugeBlocks$State" (108 : Nat) ({ cls := "GaugeBlocks$Finder", name := "fewest", desc := "()I" } : Jvm.MethodName)) ∈ lw_all := lw_g (lw_at lw_m5 173 rfl) rfl
theorem q1216 : (Jvm.Cond.methodLink "GaugeBlocks$State" (111 : Nat) ({ cls := "GaugeBlocks$State", name := "wring", desc := "(II)I" } : Jvm.MethodName)) ∈ lw_all := lw_g (lw_at lw_m5 181 rfl) rfl
theorem q1308 : (Jvm.Cond.instanceMethod ({ cls := "GaugeBlocks$State", name := "nominal", desc := "(I)I" } : Jvm.MethodName)) ∈ lw_all := lw_g (lw_at lw_m6 33 rfl) rfl
theorem q1309 : (Jvm.Cond.selects "GaugeBlocks$State" ({ cls := "GaugeBlocks$State", name := "nominal", desc := "(I)I" } : Jvm.MethodName) ({ cls := "GaugeBlocks$State", name := "nominal", desc := "(I)I" } : Jvm.MethodName)) ∈ lw_all := lw_g (lw_at lw_m6 34 rfl) rfl
theorem q1310 : (Jvm.Cond.code ({ cls := "GaugeBlocks$State", name := "nominal", desc := "(I)I" } : Jvm.MethodName) prog_8_method_15_code (4 : Nat) (Option.some Jvm.ClassFile.FieldType.int)) ∈ lw_all := lw_g (lw_at lw_m6 35 rfl) rfl
theorem q1312 : (Jvm.Cond.instanceMethod ({ cls := "GaugeBlocks$State", name := "lengthIn", desc := "(II)I" } : Jvm.MethodName)) ∈ lw_all := lw_g (lw_at lw_m6 37 rfl) rfl
theorem q1313 : (Jvm.Cond.selects "GaugeBlocks$State" ({ cls := "GaugeBlocks$State", name := "lengthIn", desc := "(II)I" } : Jvm.MethodName) ({ cls := "GaugeBlocks$State", name := "lengthIn", desc := "(II)I" } : Jvm.MethodName)) ∈ lw_all := lw_g (lw_at lw_m6 38 rfl) rfl
theorem q1314 : (Jvm.Cond.code ({ cls := "GaugeBlocks$State", name := "lengthIn", desc := "(II)I" } : Jvm.MethodName) prog_8_method_14_code (8 : Nat) (Option.some Jvm.ClassFile.FieldType.int)) ∈ lw_all := lw_g (lw_at lw_m6 39 rfl) rfl
theorem q1315 : (Jvm.Cond.methodLink "GaugeBlocks$State" (126 : Nat) ({ cls := "GaugeBlocks$Block", name := "lengthAt", desc := "(I)I" } : Jvm.MethodName)) ∈ lw_all := lw_g (lw_at lw_m6 40 rfl) rfl
theorem q1317 : (Jvm.Cond.instanceMethod ({ cls := "GaugeBlocks$State", name := "blocksIn", desc := "(I)I" } : Jvm.MethodName)) ∈ lw_all := lw_g (lw_at lw_m6 42 rfl) rfl
theorem q1318 : (Jvm.Cond.selects "GaugeBlocks$State" ({ cls := "GaugeBlocks$State", name := "blocksIn", desc := "(I)I" } : Jvm.MethodName) ({ cls := "GaugeBlocks$State", name := "blocksIn", desc := "(I)I" } : Jvm.MethodName)) ∈ lw_all := lw_g (lw_at lw_m6 43 rfl) rfl
theorem q1319 : (Jvm.Cond.code ({ cls := "GaugeBlocks$State", name := "blocksIn", desc := "(I)I" } : Jvm.MethodName) prog_8_method_16_code (4 : Nat) (Option.some Jvm.ClassFile.FieldType.int)) ∈ lw_all := lw_g (lw_at lw_m6 44 rfl) rfl
theorem q1323 : (Jvm.Cond.instanceMethod ({ cls := "GaugeBlocks$State", name := "gradeOf", desc := "(I)I" } : Jvm.MethodName)) ∈ lw_all := lw_g (lw_at lw_m6 48 rfl) rfl
theorem q1324 : (Jvm.Cond.selects "GaugeBlocks$State" ({ cls := "GaugeBlocks$State", name := "gradeOf", desc := "(I)I" } : Jvm.MethodName) ({ cls := "GaugeBlocks$State", name := "gradeOf", desc := "(I)I" } : Jvm.MethodName)) ∈ lw_all := lw_g (lw_at lw_m6 49 rfl) rfl
theorem q1325 : (Jvm.Cond.code ({ cls := "GaugeBlocks$State", name := "gradeOf", desc := "(I)I" } : Jvm.MethodName) prog_8_method_17_code (4 : Nat) (Option.some Jvm.ClassFile.FieldType.int)) ∈ lw_all := lw_g (lw_at lw_m6 50 rfl) rfl
theorem q1334 : (Jvm.Cond.instanceMethod ({ cls := "GaugeBlocks$State", name := "ranked", desc := "(II)I" } : Jvm.MethodName)) ∈ lw_all := lw_g (lw_at lw_m6 59 rfl) rfl
theorem q1335 : (Jvm.Cond.selects "GaugeBlocks$State" ({ cls := "GaugeBlocks$State", name := "ranked", desc := "(II)I" } : Jvm.MethodName) ({ cls := "GaugeBlocks$State", name := "ranked", desc := "(II)I" } : Jvm.MethodName)) ∈ lw_all := lw_g (lw_at lw_m6 60 rfl) rfl
theorem q1336 : (Jvm.Cond.code ({ cls := "GaugeBlocks$State", name := "ranked", desc := "(II)I" } : Jvm.MethodName) prog_8_method_19_code (5 : Nat) (Option.some Jvm.ClassFile.FieldType.int)) ∈ lw_all := lw_g (lw_at lw_m6 61 rfl) rfl
theorem q1337 : (Jvm.Cond.classLink "GaugeBlocks$State" (154 : Nat) "java/util/PriorityQueue") ∈ lw_all := lw_g (lw_at lw_m6 62 rfl) rfl
theorem q1339 : (Jvm.Cond.classLink "GaugeBlocks$State" (156 : Nat) "GaugeBlocks$Order") ∈ lw_all := lw_g (lw_at lw_m6 64 rfl) rfl
theorem q1341 : (Jvm.Cond.methodLink "GaugeBlocks$State" (158 : Nat) ({ cls := "GaugeBlocks$Order", name := "<init>", desc := "(I)V" } : Jvm.MethodName)) ∈ lw_all := lw_g (lw_at lw_m6 66 rfl) rfl
theorem q1349 : (Jvm.Cond.methodLink "GaugeBlocks$State" (160 : Nat) ({ cls := "java/util/PriorityQueue", name := "<init>", desc := "(Ljava/util/Comparator;)V" } : Jvm.MethodName)) ∈ lw_all := lw_g (lw_at lw_m6 74 rfl) rfl
theorem q1375 : (Jvm.Cond.classLink "GaugeBlocks$State" (163 : Nat) "GaugeBlocks$Numbered") ∈ lw_all := lw_g (lw_at lw_m6 100 rfl) rfl
theorem q1377 : (Jvm.Cond.methodLink "GaugeBlocks$State" (165 : Nat) ({ cls := "GaugeBlocks$Numbered", name := "<init>", desc := "(ILGaugeBlocks$Block;)V" } : Jvm.MethodName)) ∈ lw_all := lw_g (lw_at lw_m6 102 rfl) rfl
theorem q1383 : (Jvm.Cond.fieldLink "GaugeBlocks$State" (174 : Nat) "GaugeBlocks$Numbered" "number" "I") ∈ lw_all := lw_g (lw_at lw_m6 108 rfl) rfl
theorem q1391 : (Jvm.Cond.methodLink "GaugeBlocks$State" (168 : Nat) ({ cls := "java/util/PriorityQueue", name := "add", desc := "(Ljava/lang/Object;)Z" } : Jvm.MethodName)) ∈ lw_all := lw_g (lw_at lw_m6 116 rfl) rfl
theorem q1635 : (Jvm.Cond.methodLink "GaugeBlocks$State" (169 : Nat) ({ cls := "java/util/PriorityQueue", name := "isEmpty", desc := "()Z" } : Jvm.MethodName)) ∈ lw_all := lw_g (lw_at lw_m7 120 rfl) rfl
theorem q1661 : (Jvm.Cond.methodLink "GaugeBlocks$State" (170 : Nat) ({ cls := "java/util/PriorityQueue", name := "poll", desc := "()Ljava/lang/Object;" } : Jvm.MethodName)) ∈ lw_all := lw_g (lw_at lw_m7 146 rfl) rfl
theorem q1679 : (Jvm.Cond.instanceMethod ({ cls := "GaugeBlocks$State", name := "byLength", desc := "()Ljava/util/TreeMap;" } : Jvm.MethodName)) ∈ lw_all := lw_g (lw_at lw_m7 164 rfl) rfl
theorem q1680 : (Jvm.Cond.selects "GaugeBlocks$State" ({ cls := "GaugeBlocks$State", name := "byLength", desc := "()Ljava/util/TreeMap;" } : Jvm.MethodName) ({ cls := "GaugeBlocks$State", name := "byLength", desc := "()Ljava/util/TreeMap;" } : Jvm.MethodName)) ∈ lw_all := lw_g (lw_at lw_m7 165 rfl) rfl
theorem q1681 : (Jvm.Cond.code ({ cls := "GaugeBlocks$State", name := "byLength", desc := "()Ljava/util/TreeMap;" } : Jvm.MethodName) prog_8_method_18_code (5 : Nat) (Option.some (Jvm.ClassFile.FieldType.object "java/util/TreeMap"))) ∈ lw_all := lw_g (lw_at lw_m7 166 rfl) rfl
theorem q1682 : (Jvm.Cond.classLink "GaugeBlocks$State" (132 : Nat) "java/util/TreeMap") ∈ lw_all := lw_g (lw_at lw_m7 167 rfl) rfl
theorem q1684 : (Jvm.Cond.methodLink "GaugeBlocks$State" (134 : Nat) ({ cls := "java/util/TreeMap", name := "<init>", desc := "()V" } : Jvm.MethodName)) ∈ lw_all := lw_g (lw_at lw_m7 169 rfl) rfl
theorem q1716 : (Jvm.Cond.methodLink "GaugeBlocks$State" (135 : Nat) ({ cls := "java/lang/Integer", name := "valueOf", desc := "(I)Ljava/lang/Integer;" } : Jvm.MethodName)) ∈ lw_all := lw_g (lw_at lw_m7 201 rfl) rfl
theorem q1735 : (Jvm.Cond.methodLink "GaugeBlocks$State" (141 : Nat) ({ cls := "java/util/TreeMap", name := "containsKey", desc := "(Ljava/lang/Object;)Z" } : Jvm.MethodName)) ∈ lw_all := lw_g (lw_at lw_m7 220 rfl) rfl
theorem q1755 : (Jvm.Cond.methodLink "GaugeBlocks$State" (144 : Nat) ({ cls := "java/util/TreeMap", name := "get", desc := "(Ljava/lang/Object;)Ljava/lang/Object;" } : Jvm.MethodName)) ∈ lw_all := lw_g (lw_at lw_m8 0 rfl) rfl
theorem q1759 : (Jvm.Cond.classLink "GaugeBlocks$State" (136 : Nat) "java/lang/Integer") ∈ lw_all := lw_g (lw_at lw_m8 4 rfl) rfl
theorem q1760 : (Jvm.Cond.methodLink "GaugeBlocks$State" (147 : Nat) ({ cls := "java/lang/Integer", name := "intValue", desc := "()I" } : Jvm.MethodName)) ∈ lw_all := lw_g (lw_at lw_m8 5 rfl) rfl
theorem q1764 : (Jvm.Cond.methodLink "GaugeBlocks$State" (150 : Nat) ({ cls := "java/util/TreeMap", name := "put", desc := "(Ljava/lang/Object;Ljava/lang/Object;)Ljava/lang/Object;" } : Jvm.MethodName)) ∈ lw_all := lw_g (lw_at lw_m8 9 rfl) rfl
theorem q2411 : (Jvm.Cond.castable "GaugeBlocks$State" "java/lang/Object") ∈ lw_tbl := lw_at lw_m10 176 rfl
theorem in_X2 : ∀ w ∈ wsX20, w ∈ lw_all := lw_in wsX20 [257, 259, 261, 263, 265, 267, 269] (by decide +kernel) (by decide +kernel)

/-! GaugeBlocks$Block -/
set_option maxRecDepth 100000
def RX4 : String := "GaugeBlocks$Block"
def TX4 : u_T := fun k => match k with
  | 0 => ("GaugeBlocks$Block", "nominal", "I", true)
  | 1 => ("GaugeBlocks$Block", "deviation", "I", false)
  | 2 => ("GaugeBlocks$Block", "wear", "I", false)
  | 3 => ("GaugeBlocks$Block", "warmth", "I", false)
  | 4 => ("GaugeBlocks$Block", "wrung", "I", false)
  | _ => ("GaugeBlocks$Block", "stack", "I", false)
def tyX4 : Nat → FieldType := fun k => match k with
  | 0 => .int
  | 1 => .int
  | 2 => .int
  | 3 => .int
  | 4 => .int
  | _ => .int
abbrev wsX40 : List Cond := u_ws RX4 TX4 6
theorem nmX4 : ∀ a, a < 6 → ∀ b, b < 6 → a ≠ b → (TX4 a).2.1 ≠ (TX4 b).2.1 := by decide +kernel
theorem tyX4_ok : ∀ k, k < 6 → parseFieldDescriptor (TX4 k).2.2.1 = some (tyX4 k) := by decide +kernel
abbrev cX4_error : ByteArray := prog_2_method_3_code
def yX4_error : MethodName := ⟨RX4, "error", "()I"⟩
def dkwX4_error_0 : List UInt8 := [42, 180, 0, 18, 42, 180, 0, 24, 100, 172]
abbrev dktX4_error_0 : List UInt8 := dkwX4_error_0 ++ []
theorem dksX4_error_0 : cX4_error.data.toList.drop 0 = dktX4_error_0 := by decide +kernel
theorem dX4_error_0 : decode cX4_error 0 = .ok (.aload_n 0, 1) := dk_42 (dk_at dksX4_error_0 0 rfl rfl)
theorem dX4_error_1 : decode cX4_error 1 = .ok (.getfield 18, 3) := dk_180 0 18 (dk_at dksX4_error_0 1 rfl rfl)
theorem dX4_error_4 : decode cX4_error 4 = .ok (.aload_n 0, 1) := dk_42 (dk_at dksX4_error_0 4 rfl rfl)
theorem dX4_error_5 : decode cX4_error 5 = .ok (.getfield 24, 3) := dk_180 0 24 (dk_at dksX4_error_0 5 rfl rfl)
theorem dX4_error_8 : decode cX4_error 8 = .ok (.isub, 1) := dk_100 (dk_at dksX4_error_0 8 rfl rfl)
theorem dX4_error_9 : decode cX4_error 9 = .ok (.ireturn, 1) := dk_172 (dk_at dksX4_error_0 9 rfl rfl)
abbrev cX4_copy : ByteArray := prog_2_method_2_code
def yX4_copy : MethodName := ⟨RX4, "copy", "()LGaugeBlocks$Block;"⟩
def dkwX4_copy_2 : List UInt8 := [43, 176]
abbrev dktX4_copy_2 : List UInt8 := dkwX4_copy_2 ++ []
def dkwX4_copy_1 : List UInt8 := [43, 42, 180, 0, 27, 181, 0, 27, 43, 42, 180, 0, 30, 181, 0, 30, 43, 42, 180, 0, 9, 181, 0, 9]
abbrev dktX4_copy_1 : List UInt8 := dkwX4_copy_1 ++ dktX4_copy_2
def dkwX4_copy_0 : List UInt8 := [187, 0, 10, 89, 42, 180, 0, 15, 42, 180, 0, 18, 183, 0, 21, 76, 43, 42, 180, 0, 24, 181, 0, 24]
abbrev dktX4_copy_0 : List UInt8 := dkwX4_copy_0 ++ dktX4_copy_1
theorem dksX4_copy_0 : cX4_copy.data.toList.drop 0 = dktX4_copy_0 := by decide +kernel
theorem dksX4_copy_1 : cX4_copy.data.toList.drop 24 = dktX4_copy_1 := dk_seg dksX4_copy_0 24 rfl rfl
theorem dksX4_copy_2 : cX4_copy.data.toList.drop 48 = dktX4_copy_2 := dk_seg dksX4_copy_1 24 rfl rfl
theorem dX4_copy_0 : decode cX4_copy 0 = .ok (.new 10, 3) := dk_187 0 10 (dk_at dksX4_copy_0 0 rfl rfl)
theorem dX4_copy_3 : decode cX4_copy 3 = .ok (.dup, 1) := dk_89 (dk_at dksX4_copy_0 3 rfl rfl)
theorem dX4_copy_4 : decode cX4_copy 4 = .ok (.aload_n 0, 1) := dk_42 (dk_at dksX4_copy_0 4 rfl rfl)
theorem dX4_copy_5 : decode cX4_copy 5 = .ok (.getfield 15, 3) := dk_180 0 15 (dk_at dksX4_copy_0 5 rfl rfl)
theorem dX4_copy_8 : decode cX4_copy 8 = .ok (.aload_n 0, 1) := dk_42 (dk_at dksX4_copy_0 8 rfl rfl)
theorem dX4_copy_9 : decode cX4_copy 9 = .ok (.getfield 18, 3) := dk_180 0 18 (dk_at dksX4_copy_0 9 rfl rfl)
theorem dX4_copy_12 : decode cX4_copy 12 = .ok (.invokespecial 21, 3) := dk_183 0 21 (dk_at dksX4_copy_0 12 rfl rfl)
theorem dX4_copy_15 : decode cX4_copy 15 = .ok (.astore_n 1, 1) := dk_76 (dk_at dksX4_copy_0 15 rfl rfl)
theorem dX4_copy_16 : decode cX4_copy 16 = .ok (.aload_n 1, 1) := dk_43 (dk_at dksX4_copy_0 16 rfl rfl)
theorem dX4_copy_17 : decode cX4_copy 17 = .ok (.aload_n 0, 1) := dk_42 (dk_at dksX4_copy_0 17 rfl rfl)
theorem dX4_copy_18 : decode cX4_copy 18 = .ok (.getfield 24, 3) := dk_180 0 24 (dk_at dksX4_copy_0 18 rfl rfl)
theorem dX4_copy_21 : decode cX4_copy 21 = .ok (.putfield 24, 3) := dk_181 0 24 (dk_at dksX4_copy_0 21 rfl rfl)
theorem dX4_copy_24 : decode cX4_copy 24 = .ok (.aload_n 1, 1) := dk_43 (dk_at dksX4_copy_1 0 rfl rfl)
theorem dX4_copy_25 : decode cX4_copy 25 = .ok (.aload_n 0, 1) := dk_42 (dk_at dksX4_copy_1 1 rfl rfl)
theorem dX4_copy_26 : decode cX4_copy 26 = .ok (.getfield 27, 3) := dk_180 0 27 (dk_at dksX4_copy_1 2 rfl rfl)
theorem dX4_copy_29 : decode cX4_copy 29 = .ok (.putfield 27, 3) := dk_181 0 27 (dk_at dksX4_copy_1 5 rfl rfl)
theorem dX4_copy_32 : decode cX4_copy 32 = .ok (.aload_n 1, 1) := dk_43 (dk_at dksX4_copy_1 8 rfl rfl)
theorem dX4_copy_33 : decode cX4_copy 33 = .ok (.aload_n 0, 1) := dk_42 (dk_at dksX4_copy_1 9 rfl rfl)
theorem dX4_copy_34 : decode cX4_copy 34 = .ok (.getfield 30, 3) := dk_180 0 30 (dk_at dksX4_copy_1 10 rfl rfl)
theorem dX4_copy_37 : decode cX4_copy 37 = .ok (.putfield 30, 3) := dk_181 0 30 (dk_at dksX4_copy_1 13 rfl rfl)
theorem dX4_copy_40 : decode cX4_copy 40 = .ok (.aload_n 1, 1) := dk_43 (dk_at dksX4_copy_1 16 rfl rfl)
theorem dX4_copy_41 : decode cX4_copy 41 = .ok (.aload_n 0, 1) := dk_42 (dk_at dksX4_copy_1 17 rfl rfl)
theorem dX4_copy_42 : decode cX4_copy 42 = .ok (.getfield 9, 3) := dk_180 0 9 (dk_at dksX4_copy_1 18 rfl rfl)
theorem dX4_copy_45 : decode cX4_copy 45 = .ok (.putfield 9, 3) := dk_181 0 9 (dk_at dksX4_copy_1 21 rfl rfl)
theorem dX4_copy_48 : decode cX4_copy 48 = .ok (.aload_n 1, 1) := dk_43 (dk_at dksX4_copy_2 0 rfl rfl)
theorem dX4_copy_49 : decode cX4_copy 49 = .ok (.areturn, 1) := dk_176 (dk_at dksX4_copy_2 1 rfl rfl)
abbrev cX4_init : ByteArray := prog_2_method_1_code
def yX4_init : MethodName := ⟨RX4, "<init>", "(II)V"⟩
def dkwX4_init_0 : List UInt8 := [42, 183, 0, 3, 42, 2, 181, 0, 9, 42, 27, 181, 0, 15, 42, 28, 181, 0, 18, 177]
abbrev dktX4_init_0 : List UInt8 := dkwX4_init_0 ++ []
theorem dksX4_init_0 : cX4_init.data.toList.drop 0 = dktX4_init_0 := by decide +kernel
theorem dX4_init_0 : decode cX4_init 0 = .ok (.aload_n 0, 1) := dk_42 (dk_at dksX4_init_0 0 rfl rfl)
theorem dX4_init_1 : decode cX4_init 1 = .ok (.invokespecial 3, 3) := dk_183 0 3 (dk_at dksX4_init_0 1 rfl rfl)
theorem dX4_init_4 : decode cX4_init 4 = .ok (.aload_n 0, 1) := dk_42 (dk_at dksX4_init_0 4 rfl rfl)
theorem dX4_init_5 : decode cX4_init 5 = .ok (.iconst (-1), 1) := dk_2 (dk_at dksX4_init_0 5 rfl rfl)
theorem dX4_init_6 : decode cX4_init 6 = .ok (.putfield 9, 3) := dk_181 0 9 (dk_at dksX4_init_0 6 rfl rfl)
theorem dX4_init_9 : decode cX4_init 9 = .ok (.aload_n 0, 1) := dk_42 (dk_at dksX4_init_0 9 rfl rfl)
theorem dX4_init_10 : decode cX4_init 10 = .ok (.iload_n 1, 1) := dk_27 (dk_at dksX4_init_0 10 rfl rfl)
theorem dX4_init_11 : decode cX4_init 11 = .ok (.putfield 15, 3) := dk_181 0 15 (dk_at dksX4_init_0 11 rfl rfl)
theorem dX4_init_14 : decode cX4_init 14 = .ok (.aload_n 0, 1) := dk_42 (dk_at dksX4_init_0 14 rfl rfl)
theorem dX4_init_15 : decode cX4_init 15 = .ok (.iload_n 2, 1) := dk_28 (dk_at dksX4_init_0 15 rfl rfl)
theorem dX4_init_16 : decode cX4_init 16 = .ok (.putfield 18, 3) := dk_181 0 18 (dk_at dksX4_init_0 16 rfl rfl)
theorem dX4_init_19 : decode cX4_init 19 = .ok (.return_, 1) := dk_177 (dk_at dksX4_init_0 19 rfl rfl)
abbrev cX4_isFree : ByteArray := prog_2_method_6_code
def yX4_isFree : MethodName := ⟨RX4, "isFree", "()Z"⟩
def dkwX4_isFree_0 : List UInt8 := [42, 180, 0, 9, 2, 160, 0, 7, 4, 167, 0, 4, 3, 172]
abbrev dktX4_isFree_0 : List UInt8 := dkwX4_isFree_0 ++ []
theorem dksX4_isFree_0 : cX4_isFree.data.toList.drop 0 = dktX4_isFree_0 := by decide +kernel
theorem dX4_isFree_0 : decode cX4_isFree 0 = .ok (.aload_n 0, 1) := dk_42 (dk_at dksX4_isFree_0 0 rfl rfl)
theorem dX4_isFree_1 : decode cX4_isFree 1 = .ok (.getfield 9, 3) := dk_180 0 9 (dk_at dksX4_isFree_0 1 rfl rfl)
theorem dX4_isFree_4 : decode cX4_isFree 4 = .ok (.iconst (-1), 1) := dk_2 (dk_at dksX4_isFree_0 4 rfl rfl)
theorem dX4_isFree_5 : decode cX4_isFree 5 = .ok (.if_icmp .ne 7, 3) := dk_160 0 7 (dk_at dksX4_isFree_0 5 rfl rfl)
theorem dX4_isFree_8 : decode cX4_isFree 8 = .ok (.iconst 1, 1) := dk_4 (dk_at dksX4_isFree_0 8 rfl rfl)
theorem dX4_isFree_9 : decode cX4_isFree 9 = .ok (.goto 4, 3) := dk_167 0 4 (dk_at dksX4_isFree_0 9 rfl rfl)
theorem dX4_isFree_12 : decode cX4_isFree 12 = .ok (.iconst 0, 1) := dk_3 (dk_at dksX4_isFree_0 12 rfl rfl)
theorem dX4_isFree_13 : decode cX4_isFree 13 = .ok (.ireturn, 1) := dk_172 (dk_at dksX4_isFree_0 13 rfl rfl)
abbrev cX4_calibrate : ByteArray := prog_2_method_8_code
def yX4_calibrate : MethodName := ⟨RX4, "calibrate", "()V"⟩
def dkwX4_calibrate_0 : List UInt8 := [42, 17, 252, 124, 42, 182, 0, 33, 184, 0, 47, 181, 0, 18, 42, 3, 181, 0, 24, 177]
abbrev dktX4_calibrate_0 : List UInt8 := dkwX4_calibrate_0 ++ []
theorem dksX4_calibrate_0 : cX4_calibrate.data.toList.drop 0 = dktX4_calibrate_0 := by decide +kernel
theorem dX4_calibrate_0 : decode cX4_calibrate 0 = .ok (.aload_n 0, 1) := dk_42 (dk_at dksX4_calibrate_0 0 rfl rfl)
theorem dX4_calibrate_1 : decode cX4_calibrate 1 = .ok (.sipush (-900), 3) := dk_17 252 124 (dk_at dksX4_calibrate_0 1 rfl rfl)
theorem dX4_calibrate_4 : decode cX4_calibrate 4 = .ok (.aload_n 0, 1) := dk_42 (dk_at dksX4_calibrate_0 4 rfl rfl)
theorem dX4_calibrate_5 : decode cX4_calibrate 5 = .ok (.invokevirtual 33, 3) := dk_182 0 33 (dk_at dksX4_calibrate_0 5 rfl rfl)
theorem dX4_calibrate_8 : decode cX4_calibrate 8 = .ok (.invokestatic 47, 3) := dk_184 0 47 (dk_at dksX4_calibrate_0 8 rfl rfl)
theorem dX4_calibrate_11 : decode cX4_calibrate 11 = .ok (.putfield 18, 3) := dk_181 0 18 (dk_at dksX4_calibrate_0 11 rfl rfl)
theorem dX4_calibrate_14 : decode cX4_calibrate 14 = .ok (.aload_n 0, 1) := dk_42 (dk_at dksX4_calibrate_0 14 rfl rfl)
theorem dX4_calibrate_15 : decode cX4_calibrate 15 = .ok (.iconst 0, 1) := dk_3 (dk_at dksX4_calibrate_0 15 rfl rfl)
theorem dX4_calibrate_16 : decode cX4_calibrate 16 = .ok (.putfield 24, 3) := dk_181 0 24 (dk_at dksX4_calibrate_0 16 rfl rfl)
theorem dX4_calibrate_19 : decode cX4_calibrate 19 = .ok (.return_, 1) := dk_177 (dk_at dksX4_calibrate_0 19 rfl rfl)
abbrev cX4_grade : ByteArray := prog_2_method_4_code
def yX4_grade : MethodName := ⟨RX4, "grade", "()I"⟩
def dkwX4_grade_1 : List UInt8 := [163, 0, 7, 4, 167, 0, 15, 27, 17, 1, 244, 163, 0, 7, 5, 167, 0, 4, 6, 172]
abbrev dktX4_grade_1 : List UInt8 := dkwX4_grade_1 ++ []
def dkwX4_grade_0 : List UInt8 := [42, 182, 0, 33, 184, 0, 37, 60, 27, 16, 100, 163, 0, 7, 3, 167, 0, 26, 27, 17, 0, 250]
abbrev dktX4_grade_0 : List UInt8 := dkwX4_grade_0 ++ dktX4_grade_1
theorem dksX4_grade_0 : cX4_grade.data.toList.drop 0 = dktX4_grade_0 := by decide +kernel
theorem dksX4_grade_1 : cX4_grade.data.toList.drop 22 = dktX4_grade_1 := dk_seg dksX4_grade_0 22 rfl rfl
theorem dX4_grade_0 : decode cX4_grade 0 = .ok (.aload_n 0, 1) := dk_42 (dk_at dksX4_grade_0 0 rfl rfl)
theorem dX4_grade_1 : decode cX4_grade 1 = .ok (.invokevirtual 33, 3) := dk_182 0 33 (dk_at dksX4_grade_0 1 rfl rfl)
theorem dX4_grade_4 : decode cX4_grade 4 = .ok (.invokestatic 37, 3) := dk_184 0 37 (dk_at dksX4_grade_0 4 rfl rfl)
theorem dX4_grade_7 : decode cX4_grade 7 = .ok (.istore_n 1, 1) := dk_60 (dk_at dksX4_grade_0 7 rfl rfl)
theorem dX4_grade_8 : decode cX4_grade 8 = .ok (.iload_n 1, 1) := dk_27 (dk_at dksX4_grade_0 8 rfl rfl)
theorem dX4_grade_9 : decode cX4_grade 9 = .ok (.bipush 100, 2) := dk_16 100 (dk_at dksX4_grade_0 9 rfl rfl)
theorem dX4_grade_11 : decode cX4_grade 11 = .ok (.if_icmp .gt 7, 3) := dk_163 0 7 (dk_at dksX4_grade_0 11 rfl rfl)
theorem dX4_grade_14 : decode cX4_grade 14 = .ok (.iconst 0, 1) := dk_3 (dk_at dksX4_grade_0 14 rfl rfl)
theorem dX4_grade_15 : decode cX4_grade 15 = .ok (.goto 26, 3) := dk_167 0 26 (dk_at dksX4_grade_0 15 rfl rfl)
theorem dX4_grade_18 : decode cX4_grade 18 = .ok (.iload_n 1, 1) := dk_27 (dk_at dksX4_grade_0 18 rfl rfl)
theorem dX4_grade_19 : decode cX4_grade 19 = .ok (.sipush 250, 3) := dk_17 0 250 (dk_at dksX4_grade_0 19 rfl rfl)
theorem dX4_grade_22 : decode cX4_grade 22 = .ok (.if_icmp .gt 7, 3) := dk_163 0 7 (dk_at dksX4_grade_1 0 rfl rfl)
theorem dX4_grade_25 : decode cX4_grade 25 = .ok (.iconst 1, 1) := dk_4 (dk_at dksX4_grade_1 3 rfl rfl)
theorem dX4_grade_26 : decode cX4_grade 26 = .ok (.goto 15, 3) := dk_167 0 15 (dk_at dksX4_grade_1 4 rfl rfl)
theorem dX4_grade_29 : decode cX4_grade 29 = .ok (.iload_n 1, 1) := dk_27 (dk_at dksX4_grade_1 7 rfl rfl)
theorem dX4_grade_30 : decode cX4_grade 30 = .ok (.sipush 500, 3) := dk_17 1 244 (dk_at dksX4_grade_1 8 rfl rfl)
theorem dX4_grade_33 : decode cX4_grade 33 = .ok (.if_icmp .gt 7, 3) := dk_163 0 7 (dk_at dksX4_grade_1 11 rfl rfl)
theorem dX4_grade_36 : decode cX4_grade 36 = .ok (.iconst 2, 1) := dk_5 (dk_at dksX4_grade_1 14 rfl rfl)
theorem dX4_grade_37 : decode cX4_grade 37 = .ok (.goto 4, 3) := dk_167 0 4 (dk_at dksX4_grade_1 15 rfl rfl)
theorem dX4_grade_40 : decode cX4_grade 40 = .ok (.iconst 3, 1) := dk_6 (dk_at dksX4_grade_1 18 rfl rfl)
theorem dX4_grade_41 : decode cX4_grade 41 = .ok (.ireturn, 1) := dk_172 (dk_at dksX4_grade_1 19 rfl rfl)
abbrev cX4_warm : ByteArray := prog_2_method_7_code
def yX4_warm : MethodName := ⟨RX4, "warm", "(I)V"⟩
def dkwX4_warm_0 : List UInt8 := [42, 17, 3, 232, 42, 180, 0, 27, 27, 96, 184, 0, 43, 181, 0, 27, 177]
abbrev dktX4_warm_0 : List UInt8 := dkwX4_warm_0 ++ []
theorem dksX4_warm_0 : cX4_warm.data.toList.drop 0 = dktX4_warm_0 := by decide +kernel
theorem dX4_warm_0 : decode cX4_warm 0 = .ok (.aload_n 0, 1) := dk_42 (dk_at dksX4_warm_0 0 rfl rfl)
theorem dX4_warm_1 : decode cX4_warm 1 = .ok (.sipush 1000, 3) := dk_17 3 232 (dk_at dksX4_warm_0 1 rfl rfl)
theorem dX4_warm_4 : decode cX4_warm 4 = .ok (.aload_n 0, 1) := dk_42 (dk_at dksX4_warm_0 4 rfl rfl)
theorem dX4_warm_5 : decode cX4_warm 5 = .ok (.getfield 27, 3) := dk_180 0 27 (dk_at dksX4_warm_0 5 rfl rfl)
theorem dX4_warm_8 : decode cX4_warm 8 = .ok (.iload_n 1, 1) := dk_27 (dk_at dksX4_warm_0 8 rfl rfl)
theorem dX4_warm_9 : decode cX4_warm 9 = .ok (.iadd, 1) := dk_96 (dk_at dksX4_warm_0 9 rfl rfl)
theorem dX4_warm_10 : decode cX4_warm 10 = .ok (.invokestatic 43, 3) := dk_184 0 43 (dk_at dksX4_warm_0 10 rfl rfl)
theorem dX4_warm_13 : decode cX4_warm 13 = .ok (.putfield 27, 3) := dk_181 0 27 (dk_at dksX4_warm_0 13 rfl rfl)
theorem dX4_warm_16 : decode cX4_warm 16 = .ok (.return_, 1) := dk_177 (dk_at dksX4_warm_0 16 rfl rfl)
abbrev cX4_lengthAt : ByteArray := prog_2_method_5_code
def yX4_lengthAt : MethodName := ⟨RX4, "lengthAt", "(I)I"⟩
def dkwX4_lengthAt_1 : List UInt8 := [16, 115, 104, 17, 3, 232, 108, 96, 172]
abbrev dktX4_lengthAt_1 : List UInt8 := dkwX4_lengthAt_1 ++ []
def dkwX4_lengthAt_0 : List UInt8 := [17, 3, 232, 42, 180, 0, 15, 104, 42, 182, 0, 33, 96, 42, 180, 0, 15, 27, 104, 17, 3, 232, 108]
abbrev dktX4_lengthAt_0 : List UInt8 := dkwX4_lengthAt_0 ++ dktX4_lengthAt_1
theorem dksX4_lengthAt_0 : cX4_lengthAt.data.toList.drop 0 = dktX4_lengthAt_0 := by decide +kernel
theorem dksX4_lengthAt_1 : cX4_lengthAt.data.toList.drop 23 = dktX4_lengthAt_1 := dk_seg dksX4_lengthAt_0 23 rfl rfl
theorem dX4_lengthAt_0 : decode cX4_lengthAt 0 = .ok (.sipush 1000, 3) := dk_17 3 232 (dk_at dksX4_lengthAt_0 0 rfl rfl)
theorem dX4_lengthAt_3 : decode cX4_lengthAt 3 = .ok (.aload_n 0, 1) := dk_42 (dk_at dksX4_lengthAt_0 3 rfl rfl)
theorem dX4_lengthAt_4 : decode cX4_lengthAt 4 = .ok (.getfield 15, 3) := dk_180 0 15 (dk_at dksX4_lengthAt_0 4 rfl rfl)
theorem dX4_lengthAt_7 : decode cX4_lengthAt 7 = .ok (.imul, 1) := dk_104 (dk_at dksX4_lengthAt_0 7 rfl rfl)
theorem dX4_lengthAt_8 : decode cX4_lengthAt 8 = .ok (.aload_n 0, 1) := dk_42 (dk_at dksX4_lengthAt_0 8 rfl rfl)
theorem dX4_lengthAt_9 : decode cX4_lengthAt 9 = .ok (.invokevirtual 33, 3) := dk_182 0 33 (dk_at dksX4_lengthAt_0 9 rfl rfl)
theorem dX4_lengthAt_12 : decode cX4_lengthAt 12 = .ok (.iadd, 1) := dk_96 (dk_at dksX4_lengthAt_0 12 rfl rfl)
theorem dX4_lengthAt_13 : decode cX4_lengthAt 13 = .ok (.aload_n 0, 1) := dk_42 (dk_at dksX4_lengthAt_0 13 rfl rfl)
theorem dX4_lengthAt_14 : decode cX4_lengthAt 14 = .ok (.getfield 15, 3) := dk_180 0 15 (dk_at dksX4_lengthAt_0 14 rfl rfl)
theorem dX4_lengthAt_17 : decode cX4_lengthAt 17 = .ok (.iload_n 1, 1) := dk_27 (dk_at dksX4_lengthAt_0 17 rfl rfl)
theorem dX4_lengthAt_18 : decode cX4_lengthAt 18 = .ok (.imul, 1) := dk_104 (dk_at dksX4_lengthAt_0 18 rfl rfl)
theorem dX4_lengthAt_19 : decode cX4_lengthAt 19 = .ok (.sipush 1000, 3) := dk_17 3 232 (dk_at dksX4_lengthAt_0 19 rfl rfl)
theorem dX4_lengthAt_22 : decode cX4_lengthAt 22 = .ok (.idiv, 1) := dk_108 (dk_at dksX4_lengthAt_0 22 rfl rfl)
theorem dX4_lengthAt_23 : decode cX4_lengthAt 23 = .ok (.bipush 115, 2) := dk_16 115 (dk_at dksX4_lengthAt_1 0 rfl rfl)
theorem dX4_lengthAt_25 : decode cX4_lengthAt 25 = .ok (.imul, 1) := dk_104 (dk_at dksX4_lengthAt_1 2 rfl rfl)
theorem dX4_lengthAt_26 : decode cX4_lengthAt 26 = .ok (.sipush 1000, 3) := dk_17 3 232 (dk_at dksX4_lengthAt_1 3 rfl rfl)
theorem dX4_lengthAt_29 : decode cX4_lengthAt 29 = .ok (.idiv, 1) := dk_108 (dk_at dksX4_lengthAt_1 6 rfl rfl)
theorem dX4_lengthAt_30 : decode cX4_lengthAt 30 = .ok (.iadd, 1) := dk_96 (dk_at dksX4_lengthAt_1 7 rfl rfl)
theorem dX4_lengthAt_31 : decode cX4_lengthAt 31 = .ok (.ireturn, 1) := dk_172 (dk_at dksX4_lengthAt_1 8 rfl rfl)
theorem q98 : (Jvm.Cond.initialized "GaugeBlocks$Block") ∈ lw_all := lw_g (lw_at lw_m1 23 rfl) rfl
theorem q201 : (Jvm.Cond.selects "GaugeBlocks$Block" ({ cls := "java/lang/Object", name := "getClass", desc := "()Ljava/lang/Class;" } : Jvm.MethodName) ({ cls := "java/lang/Object", name := "getClass", desc := "()Ljava/lang/Class;" } : Jvm.MethodName)) ∈ lw_all := lw_g (lw_at lw_m1 126 rfl) rfl
theorem q850 : (Jvm.Cond.instanceMethod ({ cls := "GaugeBlocks$Block", name := "error", desc := "()I" } : Jvm.MethodName)) ∈ lw_all := lw_g (lw_at lw_m4 55 rfl) rfl
theorem q851 : (Jvm.Cond.selects "GaugeBlocks$Block" ({ cls := "GaugeBlocks$Block", name := "error", desc := "()I" } : Jvm.MethodName) ({ cls := "GaugeBlocks$Block", name := "error", desc := "()I" } : Jvm.MethodName)) ∈ lw_all := lw_g (lw_at lw_m4 56 rfl) rfl
theorem q852 : (Jvm.Cond.code ({ cls := "GaugeBlocks$Block", name := "error", desc := "()I" } : Jvm.MethodName) prog_2_method_3_code (1 : Nat) (Option.some Jvm.ClassFile.FieldType.int)) ∈ lw_all := lw_g (lw_at lw_m4 57 rfl) rfl
theorem q950 : (Jvm.Cond.instanceMethod ({ cls := "GaugeBlocks$Block", name := "copy", desc := "()LGaugeBlocks$Block;" } : Jvm.MethodName)) ∈ lw_all := lw_g (lw_at lw_m4 155 rfl) rfl
theorem q951 : (Jvm.Cond.selects "GaugeBlocks$Block" ({ cls := "GaugeBlocks$Block", name := "copy", desc := "()LGaugeBlocks$Block;" } : Jvm.MethodName) ({ cls := "GaugeBlocks$Block", name := "copy", desc := "()LGaugeBlocks$Block;" } : Jvm.MethodName)) ∈ lw_all := lw_g (lw_at lw_m4 156 rfl) rfl
theorem q952 : (Jvm.Cond.code ({ cls := "GaugeBlocks$Block", name := "copy", desc := "()LGaugeBlocks$Block;" } : Jvm.MethodName) prog_2_method_2_code (2 : Nat) (Option.some (Jvm.ClassFile.FieldType.object "GaugeBlocks$Block"))) ∈ lw_all := lw_g (lw_at lw_m4 157 rfl) rfl
theorem q953 : (Jvm.Cond.classLink "GaugeBlocks$Block" (10 : Nat) "GaugeBlocks$Block") ∈ lw_all := lw_g (lw_at lw_m4 158 rfl) rfl
theorem q954 : (Jvm.Cond.instantiable "GaugeBlocks$Block" (6 : Nat)) ∈ lw_all := lw_g (lw_at lw_m4 159 rfl) rfl
theorem q955 : (Jvm.Cond.methodLink "GaugeBlocks$Block" (21 : Nat) ({ cls := "GaugeBlocks$Block", name := "<init>", desc := "(II)V" } : Jvm.MethodName)) ∈ lw_all := lw_g (lw_at lw_m4 160 rfl) rfl
theorem q956 : (Jvm.Cond.instanceMethod ({ cls := "GaugeBlocks$Block", name := "<init>", desc := "(II)V" } : Jvm.MethodName)) ∈ lw_all := lw_g (lw_at lw_m4 161 rfl) rfl
theorem q957 : (Jvm.Cond.code ({ cls := "GaugeBlocks$Block", name := "<init>", desc := "(II)V" } : Jvm.MethodName) prog_2_method_1_code (3 : Nat) (Option.none : Option Jvm.ClassFile.FieldType)) ∈ lw_all := lw_g (lw_at lw_m4 162 rfl) rfl
theorem q958 : (Jvm.Cond.methodLink "GaugeBlocks$Block" (3 : Nat) ({ cls := "java/lang/Object", name := "<init>", desc := "()V" } : Jvm.MethodName)) ∈ lw_all := lw_g (lw_at lw_m4 163 rfl) rfl
theorem q959 : (Jvm.Cond.fieldLink "GaugeBlocks$Block" (15 : Nat) "GaugeBlocks$Block" "nominal" "I") ∈ lw_all := lw_g (lw_at lw_m4 164 rfl) rfl
theorem q964 : (Jvm.Cond.fieldLink "GaugeBlocks$Block" (18 : Nat) "GaugeBlocks$Block" "deviation" "I") ∈ lw_all := lw_g (lw_at lw_m4 169 rfl) rfl
theorem q965 : (Jvm.Cond.fieldLink "GaugeBlocks$Block" (24 : Nat) "GaugeBlocks$Block" "wear" "I") ∈ lw_all := lw_g (lw_at lw_m4 170 rfl) rfl
theorem q969 : (Jvm.Cond.fieldLink "GaugeBlocks$Block" (27 : Nat) "GaugeBlocks$Block" "warmth" "I") ∈ lw_all := lw_g (lw_at lw_m4 174 rfl) rfl
theorem q972 : (Jvm.Cond.fieldLink "GaugeBlocks$Block" (30 : Nat) "GaugeBlocks$Block" "wrung" "I") ∈ lw_all := lw_g (lw_at lw_m4 177 rfl) rfl
theorem q975 : (Jvm.Cond.fieldLink "GaugeBlocks$Block" (9 : Nat) "GaugeBlocks$Block" "stack" "I") ∈ lw_all := lw_g (lw_at lw_m4 180 rfl) rfl
theorem q978 : (Jvm.Cond.laysFinal "GaugeBlocks$Block" "GaugeBlocks$Block" "nominal" "I") ∈ lw_all := lw_g (lw_at lw_m4 183 rfl) rfl
theorem q979 : (Jvm.Cond.soleField "GaugeBlocks$Block" "nominal") ∈ lw_all := lw_g (lw_at lw_m4 184 rfl) rfl
theorem q980 : (Jvm.Cond.lays "GaugeBlocks$Block" "GaugeBlocks$Block" "deviation" "I") ∈ lw_all := lw_g (lw_at lw_m4 185 rfl) rfl
theorem q981 : (Jvm.Cond.soleField "GaugeBlocks$Block" "deviation") ∈ lw_all := lw_g (lw_at lw_m4 186 rfl) rfl
theorem q982 : (Jvm.Cond.lays "GaugeBlocks$Block" "GaugeBlocks$Block" "wear" "I") ∈ lw_all := lw_g (lw_at lw_m4 187 rfl) rfl
theorem q983 : (Jvm.Cond.soleField "GaugeBlocks$Block" "wear") ∈ lw_all := lw_g (lw_at lw_m4 188 rfl) rfl
theorem q984 : (Jvm.Cond.lays "GaugeBlocks$Block" "GaugeBlocks$Block" "warmth" "I") ∈ lw_all := lw_g (lw_at lw_m4 189 rfl) rfl
theorem q985 : (Jvm.Cond.soleField "GaugeBlocks$Block" "warmth") ∈ lw_all := lw_g (lw_at lw_m4 190 rfl) rfl
theorem q986 : (Jvm.Cond.lays "GaugeBlocks$Block" "GaugeBlocks$Block" "wrung" "I") ∈ lw_all := lw_g (lw_at lw_m4 191 rfl) rfl
theorem q987 : (Jvm.Cond.soleField "GaugeBlocks$Block" "wrung") ∈ lw_all := lw_g (lw_at lw_m4 192 rfl) rfl
theorem q988 : (Jvm.Cond.lays "GaugeBlocks$Block" "GaugeBlocks$Block" "stack" "I") ∈ lw_all := lw_g (lw_at lw_m4 193 rfl) rfl
theorem q989 : (Jvm.Cond.soleField "GaugeBlocks$Block" "stack") ∈ lw_all := lw_g (lw_at lw_m4 194 rfl) rfl
theorem q990 : (Jvm.Cond.superclass "GaugeBlocks$Block" "java/lang/Object") ∈ lw_all := lw_g (lw_at lw_m4 195 rfl) rfl
theorem q1056 : (Jvm.Cond.instanceMethod ({ cls := "GaugeBlocks$Block", name := "isFree", desc := "()Z" } : Jvm.MethodName)) ∈ lw_all := lw_g (lw_at lw_m5 21 rfl) rfl
theorem q1057 : (Jvm.Cond.selects "GaugeBlocks$Block" ({ cls := "GaugeBlocks$Block", name := "isFree", desc := "()Z" } : Jvm.MethodName) ({ cls := "GaugeBlocks$Block", name := "isFree", desc := "()Z" } : Jvm.MethodName)) ∈ lw_all := lw_g (lw_at lw_m5 22 rfl) rfl
theorem q1058 : (Jvm.Cond.code ({ cls := "GaugeBlocks$Block", name := "isFree", desc := "()Z" } : Jvm.MethodName) prog_2_method_6_code (1 : Nat) (Option.some Jvm.ClassFile.FieldType.boolean)) ∈ lw_all := lw_g (lw_at lw_m5 23 rfl) rfl
theorem q1076 : (Jvm.Cond.instanceMethod ({ cls := "GaugeBlocks$Block", name := "calibrate", desc := "()V" } : Jvm.MethodName)) ∈ lw_all := lw_g (lw_at lw_m5 41 rfl) rfl
theorem q1077 : (Jvm.Cond.selects "GaugeBlocks$Block" ({ cls := "GaugeBlocks$Block", name := "calibrate", desc := "()V" } : Jvm.MethodName) ({ cls := "GaugeBlocks$Block", name := "calibrate", desc := "()V" } : Jvm.MethodName)) ∈ lw_all := lw_g (lw_at lw_m5 42 rfl) rfl
theorem q1078 : (Jvm.Cond.code ({ cls := "GaugeBlocks$Block", name := "calibrate", desc := "()V" } : Jvm.MethodName) prog_2_method_8_code (1 : Nat) (Option.none : Option Jvm.ClassFile.FieldType)) ∈ lw_all := lw_g (lw_at lw_m5 43 rfl) rfl
theorem q1079 : (Jvm.Cond.methodLink "GaugeBlocks$Block" (33 : Nat) ({ cls := "GaugeBlocks$Block", name := "error", desc := "()I" } : Jvm.MethodName)) ∈ lw_all := lw_g (lw_at lw_m5 44 rfl) rfl
theorem q1080 : (Jvm.Cond.methodLink "GaugeBlocks$Block" (47 : Nat) ({ cls := "java/lang/Math", name := "max", desc := "(II)I" } : Jvm.MethodName)) ∈ lw_all := lw_g (lw_at lw_m5 45 rfl) rfl
theorem q1082 : (Jvm.Cond.instanceMethod ({ cls := "GaugeBlocks$Block", name := "grade", desc := "()I" } : Jvm.MethodName)) ∈ lw_all := lw_g (lw_at lw_m5 47 rfl) rfl
theorem q1083 : (Jvm.Cond.selects "GaugeBlocks$Block" ({ cls := "GaugeBlocks$Block", name := "grade", desc := "()I" } : Jvm.MethodName) ({ cls := "GaugeBlocks$Block", name := "grade", desc := "()I" } : Jvm.MethodName)) ∈ lw_all := lw_g (lw_at lw_m5 48 rfl) rfl
theorem q1084 : (Jvm.Cond.code ({ cls := "GaugeBlocks$Block", name := "grade", desc := "()I" } : Jvm.MethodName) prog_2_method_4_code (2 : Nat) (Option.some Jvm.ClassFile.FieldType.int)) ∈ lw_all := lw_g (lw_at lw_m5 49 rfl) rfl
theorem q1085 : (Jvm.Cond.methodLink "GaugeBlocks$Block" (37 : Nat) ({ cls := "java/lang/Math", name := "abs", desc := "(I)I" } : Jvm.MethodName)) ∈ lw_all := lw_g (lw_at lw_m5 50 rfl) rfl
theorem q1094 : (Jvm.Cond.instanceMethod ({ cls := "GaugeBlocks$Block", name := "warm", desc := "(I)V" } : Jvm.MethodName)) ∈ lw_all := lw_g (lw_at lw_m5 59 rfl) rfl
theorem q1095 : (Jvm.Cond.selects "GaugeBlocks$Block" ({ cls := "GaugeBlocks$Block", name := "warm", desc := "(I)V" } : Jvm.MethodName) ({ cls := "GaugeBlocks$Block", name := "warm", desc := "(I)V" } : Jvm.MethodName)) ∈ lw_all := lw_g (lw_at lw_m5 60 rfl) rfl
theorem q1096 : (Jvm.Cond.code ({ cls := "GaugeBlocks$Block", name := "warm", desc := "(I)V" } : Jvm.MethodName) prog_2_method_7_code (2 : Nat) (Option.none : Option Jvm.ClassFile.FieldType)) ∈ lw_all := lw_g (lw_at lw_m5 61 rfl) rfl
theorem q1097 : (Jvm.Cond.methodLink "GaugeBlocks$Block" (43 : Nat) ({ cls := "java/lang/Math", name := "min", desc := "(II)I" } : Jvm.MethodName)) ∈ lw_all := lw_g (lw_at lw_m5 62 rfl) rfl
theorem q1297 : (Jvm.Cond.instanceMethod ({ cls := "GaugeBlocks$Block", name := "lengthAt", desc := "(I)I" } : Jvm.MethodName)) ∈ lw_all := lw_g (lw_at lw_m6 22 rfl) rfl
theorem q1298 : (Jvm.Cond.selects "GaugeBlocks$Block" ({ cls := "GaugeBlocks$Block", name := "lengthAt", desc := "(I)I" } : Jvm.MethodName) ({ cls := "GaugeBlocks$Block", name := "lengthAt", desc := "(I)I" } : Jvm.MethodName)) ∈ lw_all := lw_g (lw_at lw_m6 23 rfl) rfl
theorem q1299 : (Jvm.Cond.code ({ cls := "GaugeBlocks$Block", name := "lengthAt", desc := "(I)I" } : Jvm.MethodName) prog_2_method_5_code (2 : Nat) (Option.some Jvm.ClassFile.FieldType.int)) ∈ lw_all := lw_g (lw_at lw_m6 24 rfl) rfl
theorem q2419 : (Jvm.Cond.castable "GaugeBlocks$Block" "java/lang/Object") ∈ lw_tbl := lw_at lw_m10 184 rfl
theorem in_X4 : ∀ w ∈ wsX40, w ∈ lw_all := lw_in wsX40 [978, 980, 982, 984, 986, 988] (by decide +kernel) (by decide +kernel)

/-! GaugeBlocks$Finder -/
set_option maxRecDepth 100000
def RX5 : String := "GaugeBlocks$Finder"
def TX5 : u_T := fun k => match k with
  | 0 => ("GaugeBlocks$Finder", "lengths", "[I", true)
  | 1 => ("GaugeBlocks$Finder", "length", "I", true)
  | 2 => ("GaugeBlocks$Finder", "free", "I", true)
  | 3 => ("GaugeBlocks$Finder", "best", "I", false)
  | _ => ("GaugeBlocks$Finder", "fewest", "I", false)
def tyX5 : Nat → FieldType := fun k => match k with
  | 0 => .array .int
  | 1 => .int
  | 2 => .int
  | 3 => .int
  | _ => .int
abbrev wsX50 : List Cond := u_ws RX5 TX5 5
theorem nmX5 : ∀ a, a < 5 → ∀ b, b < 5 → a ≠ b → (TX5 a).2.1 ≠ (TX5 b).2.1 := by decide +kernel
theorem tyX5_ok : ∀ k, k < 5 → parseFieldDescriptor (TX5 k).2.2.1 = some (tyX5 k) := by decide +kernel
abbrev cX5_init : ByteArray := prog_4_method_1_code
def yX5_init : MethodName := ⟨RX5, "<init>", "(LGaugeBlocks$State;I)V"⟩
def dkwX5_init_3 : List UInt8 := [167, 255, 224, 177]
abbrev dktX5_init_3 : List UInt8 := dkwX5_init_3 ++ []
def dkwX5_init_2 : List UInt8 := [180, 0, 35, 29, 43, 180, 0, 26, 29, 182, 0, 39, 192, 0, 43, 180, 0, 45, 79, 132, 3, 1]
abbrev dktX5_init_2 : List UInt8 := dkwX5_init_2 ++ dktX5_init_3
def dkwX5_init_1 : List UInt8 := [43, 180, 0, 26, 182, 0, 30, 188, 10, 181, 0, 35, 3, 62, 29, 42, 180, 0, 35, 190, 162, 0, 29, 42]
abbrev dktX5_init_1 : List UInt8 := dkwX5_init_1 ++ dktX5_init_2
def dkwX5_init_0 : List UInt8 := [42, 183, 0, 3, 42, 16, 7, 181, 0, 9, 42, 28, 181, 0, 15, 42, 43, 182, 0, 18, 181, 0, 24, 42]
abbrev dktX5_init_0 : List UInt8 := dkwX5_init_0 ++ dktX5_init_1
theorem dksX5_init_0 : cX5_init.data.toList.drop 0 = dktX5_init_0 := by decide +kernel
theorem dksX5_init_1 : cX5_init.data.toList.drop 24 = dktX5_init_1 := dk_seg dksX5_init_0 24 rfl rfl
theorem dksX5_init_2 : cX5_init.data.toList.drop 48 = dktX5_init_2 := dk_seg dksX5_init_1 24 rfl rfl
theorem dksX5_init_3 : cX5_init.data.toList.drop 70 = dktX5_init_3 := dk_seg dksX5_init_2 22 rfl rfl
theorem dX5_init_0 : decode cX5_init 0 = .ok (.aload_n 0, 1) := dk_42 (dk_at dksX5_init_0 0 rfl rfl)
theorem dX5_init_1 : decode cX5_init 1 = .ok (.invokespecial 3, 3) := dk_183 0 3 (dk_at dksX5_init_0 1 rfl rfl)
theorem dX5_init_4 : decode cX5_init 4 = .ok (.aload_n 0, 1) := dk_42 (dk_at dksX5_init_0 4 rfl rfl)
theorem dX5_init_5 : decode cX5_init 5 = .ok (.bipush 7, 2) := dk_16 7 (dk_at dksX5_init_0 5 rfl rfl)
theorem dX5_init_7 : decode cX5_init 7 = .ok (.putfield 9, 3) := dk_181 0 9 (dk_at dksX5_init_0 7 rfl rfl)
theorem dX5_init_10 : decode cX5_init 10 = .ok (.aload_n 0, 1) := dk_42 (dk_at dksX5_init_0 10 rfl rfl)
theorem dX5_init_11 : decode cX5_init 11 = .ok (.iload_n 2, 1) := dk_28 (dk_at dksX5_init_0 11 rfl rfl)
theorem dX5_init_12 : decode cX5_init 12 = .ok (.putfield 15, 3) := dk_181 0 15 (dk_at dksX5_init_0 12 rfl rfl)
theorem dX5_init_15 : decode cX5_init 15 = .ok (.aload_n 0, 1) := dk_42 (dk_at dksX5_init_0 15 rfl rfl)
theorem dX5_init_16 : decode cX5_init 16 = .ok (.aload_n 1, 1) := dk_43 (dk_at dksX5_init_0 16 rfl rfl)
theorem dX5_init_17 : decode cX5_init 17 = .ok (.invokevirtual 18, 3) := dk_182 0 18 (dk_at dksX5_init_0 17 rfl rfl)
theorem dX5_init_20 : decode cX5_init 20 = .ok (.putfield 24, 3) := dk_181 0 24 (dk_at dksX5_init_0 20 rfl rfl)
theorem dX5_init_23 : decode cX5_init 23 = .ok (.aload_n 0, 1) := dk_42 (dk_at dksX5_init_0 23 rfl rfl)
theorem dX5_init_24 : decode cX5_init 24 = .ok (.aload_n 1, 1) := dk_43 (dk_at dksX5_init_1 0 rfl rfl)
theorem dX5_init_25 : decode cX5_init 25 = .ok (.getfield 26, 3) := dk_180 0 26 (dk_at dksX5_init_1 1 rfl rfl)
theorem dX5_init_28 : decode cX5_init 28 = .ok (.invokevirtual 30, 3) := dk_182 0 30 (dk_at dksX5_init_1 4 rfl rfl)
theorem dX5_init_31 : decode cX5_init 31 = .ok (.newarray .int, 2) := dk_188_10 (dk_at dksX5_init_1 7 rfl rfl)
theorem dX5_init_33 : decode cX5_init 33 = .ok (.putfield 35, 3) := dk_181 0 35 (dk_at dksX5_init_1 9 rfl rfl)
theorem dX5_init_36 : decode cX5_init 36 = .ok (.iconst 0, 1) := dk_3 (dk_at dksX5_init_1 12 rfl rfl)
theorem dX5_init_37 : decode cX5_init 37 = .ok (.istore_n 3, 1) := dk_62 (dk_at dksX5_init_1 13 rfl rfl)
theorem dX5_init_38 : decode cX5_init 38 = .ok (.iload_n 3, 1) := dk_29 (dk_at dksX5_init_1 14 rfl rfl)
theorem dX5_init_39 : decode cX5_init 39 = .ok (.aload_n 0, 1) := dk_42 (dk_at dksX5_init_1 15 rfl rfl)
theorem dX5_init_40 : decode cX5_init 40 = .ok (.getfield 35, 3) := dk_180 0 35 (dk_at dksX5_init_1 16 rfl rfl)
theorem dX5_init_43 : decode cX5_init 43 = .ok (.arraylength, 1) := dk_190 (dk_at dksX5_init_1 19 rfl rfl)
theorem dX5_init_44 : decode cX5_init 44 = .ok (.if_icmp .ge 29, 3) := dk_162 0 29 (dk_at dksX5_init_1 20 rfl rfl)
theorem dX5_init_47 : decode cX5_init 47 = .ok (.aload_n 0, 1) := dk_42 (dk_at dksX5_init_1 23 rfl rfl)
theorem dX5_init_48 : decode cX5_init 48 = .ok (.getfield 35, 3) := dk_180 0 35 (dk_at dksX5_init_2 0 rfl rfl)
theorem dX5_init_51 : decode cX5_init 51 = .ok (.iload_n 3, 1) := dk_29 (dk_at dksX5_init_2 3 rfl rfl)
theorem dX5_init_52 : decode cX5_init 52 = .ok (.aload_n 1, 1) := dk_43 (dk_at dksX5_init_2 4 rfl rfl)
theorem dX5_init_53 : decode cX5_init 53 = .ok (.getfield 26, 3) := dk_180 0 26 (dk_at dksX5_init_2 5 rfl rfl)
theorem dX5_init_56 : decode cX5_init 56 = .ok (.iload_n 3, 1) := dk_29 (dk_at dksX5_init_2 8 rfl rfl)
theorem dX5_init_57 : decode cX5_init 57 = .ok (.invokevirtual 39, 3) := dk_182 0 39 (dk_at dksX5_init_2 9 rfl rfl)
theorem dX5_init_60 : decode cX5_init 60 = .ok (.checkcast 43, 3) := dk_192 0 43 (dk_at dksX5_init_2 12 rfl rfl)
theorem dX5_init_63 : decode cX5_init 63 = .ok (.getfield 45, 3) := dk_180 0 45 (dk_at dksX5_init_2 15 rfl rfl)
theorem dX5_init_66 : decode cX5_init 66 = .ok (.iastore, 1) := dk_79 (dk_at dksX5_init_2 18 rfl rfl)
theorem dX5_init_67 : decode cX5_init 67 = .ok (.iinc 3 1, 3) := dk_132 3 1 (dk_at dksX5_init_2 19 rfl rfl)
theorem dX5_init_70 : decode cX5_init 70 = .ok (.goto (-32), 3) := dk_167 255 224 (dk_at dksX5_init_3 0 rfl rfl)
theorem dX5_init_73 : decode cX5_init 73 = .ok (.return_, 1) := dk_177 (dk_at dksX5_init_3 3 rfl rfl)
abbrev cX5_fewest : ByteArray := prog_4_method_2_code
def yX5_fewest : MethodName := ⟨RX5, "fewest", "()I"⟩
def dkwX5_fewest_0 : List UInt8 := [42, 42, 180, 0, 35, 190, 4, 100, 42, 180, 0, 15, 3, 3, 182, 0, 48, 42, 180, 0, 52, 172]
abbrev dktX5_fewest_0 : List UInt8 := dkwX5_fewest_0 ++ []
theorem dksX5_fewest_0 : cX5_fewest.data.toList.drop 0 = dktX5_fewest_0 := by decide +kernel
theorem dX5_fewest_0 : decode cX5_fewest 0 = .ok (.aload_n 0, 1) := dk_42 (dk_at dksX5_fewest_0 0 rfl rfl)
theorem dX5_fewest_1 : decode cX5_fewest 1 = .ok (.aload_n 0, 1) := dk_42 (dk_at dksX5_fewest_0 1 rfl rfl)
theorem dX5_fewest_2 : decode cX5_fewest 2 = .ok (.getfield 35, 3) := dk_180 0 35 (dk_at dksX5_fewest_0 2 rfl rfl)
theorem dX5_fewest_5 : decode cX5_fewest 5 = .ok (.arraylength, 1) := dk_190 (dk_at dksX5_fewest_0 5 rfl rfl)
theorem dX5_fewest_6 : decode cX5_fewest 6 = .ok (.iconst 1, 1) := dk_4 (dk_at dksX5_fewest_0 6 rfl rfl)
theorem dX5_fewest_7 : decode cX5_fewest 7 = .ok (.isub, 1) := dk_100 (dk_at dksX5_fewest_0 7 rfl rfl)
theorem dX5_fewest_8 : decode cX5_fewest 8 = .ok (.aload_n 0, 1) := dk_42 (dk_at dksX5_fewest_0 8 rfl rfl)
theorem dX5_fewest_9 : decode cX5_fewest 9 = .ok (.getfield 15, 3) := dk_180 0 15 (dk_at dksX5_fewest_0 9 rfl rfl)
theorem dX5_fewest_12 : decode cX5_fewest 12 = .ok (.iconst 0, 1) := dk_3 (dk_at dksX5_fewest_0 12 rfl rfl)
theorem dX5_fewest_13 : decode cX5_fewest 13 = .ok (.iconst 0, 1) := dk_3 (dk_at dksX5_fewest_0 13 rfl rfl)
theorem dX5_fewest_14 : decode cX5_fewest 14 = .ok (.invokevirtual 48, 3) := dk_182 0 48 (dk_at dksX5_fewest_0 14 rfl rfl)
theorem dX5_fewest_17 : decode cX5_fewest 17 = .ok (.aload_n 0, 1) := dk_42 (dk_at dksX5_fewest_0 17 rfl rfl)
theorem dX5_fewest_18 : decode cX5_fewest 18 = .ok (.getfield 52, 3) := dk_180 0 52 (dk_at dksX5_fewest_0 18 rfl rfl)
theorem dX5_fewest_21 : decode cX5_fewest 21 = .ok (.ireturn, 1) := dk_172 (dk_at dksX5_fewest_0 21 rfl rfl)
abbrev cX5_search : ByteArray := prog_4_method_3_code
def yX5_search : MethodName := ⟨RX5, "search", "(IIII)V"⟩
def dkwX5_search_5 : List UInt8 := [100, 29, 4, 27, 120, 128, 21, 4, 4, 96, 182, 0, 48, 177]
abbrev dktX5_search_5 : List UInt8 := dkwX5_search_5 ++ []
def dkwX5_search_4 : List UInt8 := [160, 0, 37, 42, 180, 0, 35, 27, 46, 28, 163, 0, 27, 42, 27, 4, 100, 28, 42, 180, 0, 35, 27, 46]
abbrev dktX5_search_4 : List UInt8 := dkwX5_search_4 ++ dktX5_search_5
def dkwX5_search_3 : List UInt8 := [160, 0, 4, 177, 42, 27, 4, 100, 28, 29, 21, 4, 182, 0, 48, 42, 180, 0, 24, 27, 122, 4, 126, 4]
abbrev dktX5_search_3 : List UInt8 := dkwX5_search_3 ++ dktX5_search_4
def dkwX5_search_2 : List UInt8 := [21, 4, 181, 0, 9, 177, 27, 155, 0, 19, 21, 4, 42, 180, 0, 9, 159, 0, 10, 21, 4, 16, 6]
abbrev dktX5_search_2 : List UInt8 := dkwX5_search_2 ++ dktX5_search_3
def dkwX5_search_1 : List UInt8 := [167, 0, 4, 3, 54, 5, 42, 21, 5, 153, 0, 7, 29, 167, 0, 7, 42, 180, 0, 52, 181, 0, 52, 42]
abbrev dktX5_search_1 : List UInt8 := dkwX5_search_1 ++ dktX5_search_2
def dkwX5_search_0 : List UInt8 := [28, 154, 0, 51, 21, 4, 42, 180, 0, 9, 161, 0, 11, 29, 42, 180, 0, 52, 162, 0, 7, 4]
abbrev dktX5_search_0 : List UInt8 := dkwX5_search_0 ++ dktX5_search_1
theorem dksX5_search_0 : cX5_search.data.toList.drop 0 = dktX5_search_0 := by decide +kernel
theorem dksX5_search_1 : cX5_search.data.toList.drop 22 = dktX5_search_1 := dk_seg dksX5_search_0 22 rfl rfl
theorem dksX5_search_2 : cX5_search.data.toList.drop 46 = dktX5_search_2 := dk_seg dksX5_search_1 24 rfl rfl
theorem dksX5_search_3 : cX5_search.data.toList.drop 69 = dktX5_search_3 := dk_seg dksX5_search_2 23 rfl rfl
theorem dksX5_search_4 : cX5_search.data.toList.drop 93 = dktX5_search_4 := dk_seg dksX5_search_3 24 rfl rfl
theorem dksX5_search_5 : cX5_search.data.toList.drop 117 = dktX5_search_5 := dk_seg dksX5_search_4 24 rfl rfl
theorem dX5_search_0 : decode cX5_search 0 = .ok (.iload_n 2, 1) := dk_28 (dk_at dksX5_search_0 0 rfl rfl)
theorem dX5_search_1 : decode cX5_search 1 = .ok (.ifCond .ne 51, 3) := dk_154 0 51 (dk_at dksX5_search_0 1 rfl rfl)
theorem dX5_search_4 : decode cX5_search 4 = .ok (.iload 4, 2) := dk_21 4 (dk_at dksX5_search_0 4 rfl rfl)
theorem dX5_search_6 : decode cX5_search 6 = .ok (.aload_n 0, 1) := dk_42 (dk_at dksX5_search_0 6 rfl rfl)
theorem dX5_search_7 : decode cX5_search 7 = .ok (.getfield 9, 3) := dk_180 0 9 (dk_at dksX5_search_0 7 rfl rfl)
theorem dX5_search_10 : decode cX5_search 10 = .ok (.if_icmp .lt 11, 3) := dk_161 0 11 (dk_at dksX5_search_0 10 rfl rfl)
theorem dX5_search_13 : decode cX5_search 13 = .ok (.iload_n 3, 1) := dk_29 (dk_at dksX5_search_0 13 rfl rfl)
theorem dX5_search_14 : decode cX5_search 14 = .ok (.aload_n 0, 1) := dk_42 (dk_at dksX5_search_0 14 rfl rfl)
theorem dX5_search_15 : decode cX5_search 15 = .ok (.getfield 52, 3) := dk_180 0 52 (dk_at dksX5_search_0 15 rfl rfl)
theorem dX5_search_18 : decode cX5_search 18 = .ok (.if_icmp .ge 7, 3) := dk_162 0 7 (dk_at dksX5_search_0 18 rfl rfl)
theorem dX5_search_21 : decode cX5_search 21 = .ok (.iconst 1, 1) := dk_4 (dk_at dksX5_search_0 21 rfl rfl)
theorem dX5_search_22 : decode cX5_search 22 = .ok (.goto 4, 3) := dk_167 0 4 (dk_at dksX5_search_1 0 rfl rfl)
theorem dX5_search_25 : decode cX5_search 25 = .ok (.iconst 0, 1) := dk_3 (dk_at dksX5_search_1 3 rfl rfl)
theorem dX5_search_26 : decode cX5_search 26 = .ok (.istore 5, 2) := dk_54 5 (dk_at dksX5_search_1 4 rfl rfl)
theorem dX5_search_28 : decode cX5_search 28 = .ok (.aload_n 0, 1) := dk_42 (dk_at dksX5_search_1 6 rfl rfl)
theorem dX5_search_29 : decode cX5_search 29 = .ok (.iload 5, 2) := dk_21 5 (dk_at dksX5_search_1 7 rfl rfl)
theorem dX5_search_31 : decode cX5_search 31 = .ok (.ifCond .eq 7, 3) := dk_153 0 7 (dk_at dksX5_search_1 9 rfl rfl)
theorem dX5_search_34 : decode cX5_search 34 = .ok (.iload_n 3, 1) := dk_29 (dk_at dksX5_search_1 12 rfl rfl)
theorem dX5_search_35 : decode cX5_search 35 = .ok (.goto 7, 3) := dk_167 0 7 (dk_at dksX5_search_1 13 rfl rfl)
theorem dX5_search_38 : decode cX5_search 38 = .ok (.aload_n 0, 1) := dk_42 (dk_at dksX5_search_1 16 rfl rfl)
theorem dX5_search_39 : decode cX5_search 39 = .ok (.getfield 52, 3) := dk_180 0 52 (dk_at dksX5_search_1 17 rfl rfl)
theorem dX5_search_42 : decode cX5_search 42 = .ok (.putfield 52, 3) := dk_181 0 52 (dk_at dksX5_search_1 20 rfl rfl)
theorem dX5_search_45 : decode cX5_search 45 = .ok (.aload_n 0, 1) := dk_42 (dk_at dksX5_search_1 23 rfl rfl)
theorem dX5_search_46 : decode cX5_search 46 = .ok (.iload 4, 2) := dk_21 4 (dk_at dksX5_search_2 0 rfl rfl)
theorem dX5_search_48 : decode cX5_search 48 = .ok (.putfield 9, 3) := dk_181 0 9 (dk_at dksX5_search_2 2 rfl rfl)
theorem dX5_search_51 : decode cX5_search 51 = .ok (.return_, 1) := dk_177 (dk_at dksX5_search_2 5 rfl rfl)
theorem dX5_search_52 : decode cX5_search 52 = .ok (.iload_n 1, 1) := dk_27 (dk_at dksX5_search_2 6 rfl rfl)
theorem dX5_search_53 : decode cX5_search 53 = .ok (.ifCond .lt 19, 3) := dk_155 0 19 (dk_at dksX5_search_2 7 rfl rfl)
theorem dX5_search_56 : decode cX5_search 56 = .ok (.iload 4, 2) := dk_21 4 (dk_at dksX5_search_2 10 rfl rfl)
theorem dX5_search_58 : decode cX5_search 58 = .ok (.aload_n 0, 1) := dk_42 (dk_at dksX5_search_2 12 rfl rfl)
theorem dX5_search_59 : decode cX5_search 59 = .ok (.getfield 9, 3) := dk_180 0 9 (dk_at dksX5_search_2 13 rfl rfl)
theorem dX5_search_62 : decode cX5_search 62 = .ok (.if_icmp .eq 10, 3) := dk_159 0 10 (dk_at dksX5_search_2 16 rfl rfl)
theorem dX5_search_65 : decode cX5_search 65 = .ok (.iload 4, 2) := dk_21 4 (dk_at dksX5_search_2 19 rfl rfl)
theorem dX5_search_67 : decode cX5_search 67 = .ok (.bipush 6, 2) := dk_16 6 (dk_at dksX5_search_2 21 rfl rfl)
theorem dX5_search_69 : decode cX5_search 69 = .ok (.if_icmp .ne 4, 3) := dk_160 0 4 (dk_at dksX5_search_3 0 rfl rfl)
theorem dX5_search_72 : decode cX5_search 72 = .ok (.return_, 1) := dk_177 (dk_at dksX5_search_3 3 rfl rfl)
theorem dX5_search_73 : decode cX5_search 73 = .ok (.aload_n 0, 1) := dk_42 (dk_at dksX5_search_3 4 rfl rfl)
theorem dX5_search_74 : decode cX5_search 74 = .ok (.iload_n 1, 1) := dk_27 (dk_at dksX5_search_3 5 rfl rfl)
theorem dX5_search_75 : decode cX5_search 75 = .ok (.iconst 1, 1) := dk_4 (dk_at dksX5_search_3 6 rfl rfl)
theorem dX5_search_76 : decode cX5_search 76 = .ok (.isub, 1) := dk_100 (dk_at dksX5_search_3 7 rfl rfl)
theorem dX5_search_77 : decode cX5_search 77 = .ok (.iload_n 2, 1) := dk_28 (dk_at dksX5_search_3 8 rfl rfl)
theorem dX5_search_78 : decode cX5_search 78 = .ok (.iload_n 3, 1) := dk_29 (dk_at dksX5_search_3 9 rfl rfl)
theorem dX5_search_79 : decode cX5_search 79 = .ok (.iload 4, 2) := dk_21 4 (dk_at dksX5_search_3 10 rfl rfl)
theorem dX5_search_81 : decode cX5_search 81 = .ok (.invokevirtual 48, 3) := dk_182 0 48 (dk_at dksX5_search_3 12 rfl rfl)
theorem dX5_search_84 : decode cX5_search 84 = .ok (.aload_n 0, 1) := dk_42 (dk_at dksX5_search_3 15 rfl rfl)
theorem dX5_search_85 : decode cX5_search 85 = .ok (.getfield 24, 3) := dk_180 0 24 (dk_at dksX5_search_3 16 rfl rfl)
theorem dX5_search_88 : decode cX5_search 88 = .ok (.iload_n 1, 1) := dk_27 (dk_at dksX5_search_3 19 rfl rfl)
theorem dX5_search_89 : decode cX5_search 89 = .ok (.ishr, 1) := dk_122 (dk_at dksX5_search_3 20 rfl rfl)
theorem dX5_search_90 : decode cX5_search 90 = .ok (.iconst 1, 1) := dk_4 (dk_at dksX5_search_3 21 rfl rfl)
theorem dX5_search_91 : decode cX5_search 91 = .ok (.iand, 1) := dk_126 (dk_at dksX5_search_3 22 rfl rfl)
theorem dX5_search_92 : decode cX5_search 92 = .ok (.iconst 1, 1) := dk_4 (dk_at dksX5_search_3 23 rfl rfl)
theorem dX5_search_93 : decode cX5_search 93 = .ok (.if_icmp .ne 37, 3) := dk_160 0 37 (dk_at dksX5_search_4 0 rfl rfl)
theorem dX5_search_96 : decode cX5_search 96 = .ok (.aload_n 0, 1) := dk_42 (dk_at dksX5_search_4 3 rfl rfl)
theorem dX5_search_97 : decode cX5_search 97 = .ok (.getfield 35, 3) := dk_180 0 35 (dk_at dksX5_search_4 4 rfl rfl)
theorem dX5_search_100 : decode cX5_search 100 = .ok (.iload_n 1, 1) := dk_27 (dk_at dksX5_search_4 7 rfl rfl)
theorem dX5_search_101 : decode cX5_search 101 = .ok (.iaload, 1) := dk_46 (dk_at dksX5_search_4 8 rfl rfl)
theorem dX5_search_102 : decode cX5_search 102 = .ok (.iload_n 2, 1) := dk_28 (dk_at dksX5_search_4 9 rfl rfl)
theorem dX5_search_103 : decode cX5_search 103 = .ok (.if_icmp .gt 27, 3) := dk_163 0 27 (dk_at dksX5_search_4 10 rfl rfl)
theorem dX5_search_106 : decode cX5_search 106 = .ok (.aload_n 0, 1) := dk_42 (dk_at dksX5_search_4 13 rfl rfl)
theorem dX5_search_107 : decode cX5_search 107 = .ok (.iload_n 1, 1) := dk_27 (dk_at dksX5_search_4 14 rfl rfl)
theorem dX5_search_108 : decode cX5_search 108 = .ok (.iconst 1, 1) := dk_4 (dk_at dksX5_search_4 15 rfl rfl)
theorem dX5_search_109 : decode cX5_search 109 = .ok (.isub, 1) := dk_100 (dk_at dksX5_search_4 16 rfl rfl)
theorem dX5_search_110 : decode cX5_search 110 = .ok (.iload_n 2, 1) := dk_28 (dk_at dksX5_search_4 17 rfl rfl)
theorem dX5_search_111 : decode cX5_search 111 = .ok (.aload_n 0, 1) := dk_42 (dk_at dksX5_search_4 18 rfl rfl)
theorem dX5_search_112 : decode cX5_search 112 = .ok (.getfield 35, 3) := dk_180 0 35 (dk_at dksX5_search_4 19 rfl rfl)
theorem dX5_search_115 : decode cX5_search 115 = .ok (.iload_n 1, 1) := dk_27 (dk_at dksX5_search_4 22 rfl rfl)
theorem dX5_search_116 : decode cX5_search 116 = .ok (.iaload, 1) := dk_46 (dk_at dksX5_search_4 23 rfl rfl)
theorem dX5_search_117 : decode cX5_search 117 = .ok (.isub, 1) := dk_100 (dk_at dksX5_search_5 0 rfl rfl)
theorem dX5_search_118 : decode cX5_search 118 = .ok (.iload_n 3, 1) := dk_29 (dk_at dksX5_search_5 1 rfl rfl)
theorem dX5_search_119 : decode cX5_search 119 = .ok (.iconst 1, 1) := dk_4 (dk_at dksX5_search_5 2 rfl rfl)
theorem dX5_search_120 : decode cX5_search 120 = .ok (.iload_n 1, 1) := dk_27 (dk_at dksX5_search_5 3 rfl rfl)
theorem dX5_search_121 : decode cX5_search 121 = .ok (.ishl, 1) := dk_120 (dk_at dksX5_search_5 4 rfl rfl)
theorem dX5_search_122 : decode cX5_search 122 = .ok (.ior, 1) := dk_128 (dk_at dksX5_search_5 5 rfl rfl)
theorem dX5_search_123 : decode cX5_search 123 = .ok (.iload 4, 2) := dk_21 4 (dk_at dksX5_search_5 6 rfl rfl)
theorem dX5_search_125 : decode cX5_search 125 = .ok (.iconst 1, 1) := dk_4 (dk_at dksX5_search_5 8 rfl rfl)
theorem dX5_search_126 : decode cX5_search 126 = .ok (.iadd, 1) := dk_96 (dk_at dksX5_search_5 9 rfl rfl)
theorem dX5_search_127 : decode cX5_search 127 = .ok (.invokevirtual 48, 3) := dk_182 0 48 (dk_at dksX5_search_5 10 rfl rfl)
theorem dX5_search_130 : decode cX5_search 130 = .ok (.return_, 1) := dk_177 (dk_at dksX5_search_5 13 rfl rfl)
abbrev cX5_oldWay : ByteArray := prog_4_method_5_code
def yX5_oldWay : MethodName := ⟨RX5, "oldWay", "(Z)I"⟩
def dkwX5_oldWay_3 : List UInt8 := [28, 167, 0, 12, 28, 154, 0, 7, 29, 167, 0, 4, 2, 172]
abbrev dktX5_oldWay_3 : List UInt8 := dkwX5_oldWay_3 ++ []
def dkwX5_oldWay_2 : List UInt8 := [16, 6, 160, 0, 7, 2, 167, 0, 9, 42, 28, 29, 182, 0, 55, 54, 4, 167, 255, 208, 27, 153, 0, 7]
abbrev dktX5_oldWay_2 : List UInt8 := dkwX5_oldWay_2 ++ dktX5_oldWay_3
def dkwX5_oldWay_1 : List UInt8 := [21, 4, 120, 128, 62, 28, 42, 180, 0, 35, 21, 4, 46, 100, 61, 28, 153, 0, 12, 29, 184, 0, 59]
abbrev dktX5_oldWay_1 : List UInt8 := dkwX5_oldWay_1 ++ dktX5_oldWay_2
def dkwX5_oldWay_0 : List UInt8 := [42, 180, 0, 15, 61, 3, 62, 42, 28, 29, 182, 0, 55, 54, 4, 21, 4, 2, 159, 0, 48, 29, 4]
abbrev dktX5_oldWay_0 : List UInt8 := dkwX5_oldWay_0 ++ dktX5_oldWay_1
theorem dksX5_oldWay_0 : cX5_oldWay.data.toList.drop 0 = dktX5_oldWay_0 := by decide +kernel
theorem dksX5_oldWay_1 : cX5_oldWay.data.toList.drop 23 = dktX5_oldWay_1 := dk_seg dksX5_oldWay_0 23 rfl rfl
theorem dksX5_oldWay_2 : cX5_oldWay.data.toList.drop 46 = dktX5_oldWay_2 := dk_seg dksX5_oldWay_1 23 rfl rfl
theorem dksX5_oldWay_3 : cX5_oldWay.data.toList.drop 70 = dktX5_oldWay_3 := dk_seg dksX5_oldWay_2 24 rfl rfl
theorem dX5_oldWay_0 : decode cX5_oldWay 0 = .ok (.aload_n 0, 1) := dk_42 (dk_at dksX5_oldWay_0 0 rfl rfl)
theorem dX5_oldWay_1 : decode cX5_oldWay 1 = .ok (.getfield 15, 3) := dk_180 0 15 (dk_at dksX5_oldWay_0 1 rfl rfl)
theorem dX5_oldWay_4 : decode cX5_oldWay 4 = .ok (.istore_n 2, 1) := dk_61 (dk_at dksX5_oldWay_0 4 rfl rfl)
theorem dX5_oldWay_5 : decode cX5_oldWay 5 = .ok (.iconst 0, 1) := dk_3 (dk_at dksX5_oldWay_0 5 rfl rfl)
theorem dX5_oldWay_6 : decode cX5_oldWay 6 = .ok (.istore_n 3, 1) := dk_62 (dk_at dksX5_oldWay_0 6 rfl rfl)
theorem dX5_oldWay_7 : decode cX5_oldWay 7 = .ok (.aload_n 0, 1) := dk_42 (dk_at dksX5_oldWay_0 7 rfl rfl)
theorem dX5_oldWay_8 : decode cX5_oldWay 8 = .ok (.iload_n 2, 1) := dk_28 (dk_at dksX5_oldWay_0 8 rfl rfl)
theorem dX5_oldWay_9 : decode cX5_oldWay 9 = .ok (.iload_n 3, 1) := dk_29 (dk_at dksX5_oldWay_0 9 rfl rfl)
theorem dX5_oldWay_10 : decode cX5_oldWay 10 = .ok (.invokevirtual 55, 3) := dk_182 0 55 (dk_at dksX5_oldWay_0 10 rfl rfl)
theorem dX5_oldWay_13 : decode cX5_oldWay 13 = .ok (.istore 4, 2) := dk_54 4 (dk_at dksX5_oldWay_0 13 rfl rfl)
theorem dX5_oldWay_15 : decode cX5_oldWay 15 = .ok (.iload 4, 2) := dk_21 4 (dk_at dksX5_oldWay_0 15 rfl rfl)
theorem dX5_oldWay_17 : decode cX5_oldWay 17 = .ok (.iconst (-1), 1) := dk_2 (dk_at dksX5_oldWay_0 17 rfl rfl)
theorem dX5_oldWay_18 : decode cX5_oldWay 18 = .ok (.if_icmp .eq 48, 3) := dk_159 0 48 (dk_at dksX5_oldWay_0 18 rfl rfl)
theorem dX5_oldWay_21 : decode cX5_oldWay 21 = .ok (.iload_n 3, 1) := dk_29 (dk_at dksX5_oldWay_0 21 rfl rfl)
theorem dX5_oldWay_22 : decode cX5_oldWay 22 = .ok (.iconst 1, 1) := dk_4 (dk_at dksX5_oldWay_0 22 rfl rfl)
theorem dX5_oldWay_23 : decode cX5_oldWay 23 = .ok (.iload 4, 2) := dk_21 4 (dk_at dksX5_oldWay_1 0 rfl rfl)
theorem dX5_oldWay_25 : decode cX5_oldWay 25 = .ok (.ishl, 1) := dk_120 (dk_at dksX5_oldWay_1 2 rfl rfl)
theorem dX5_oldWay_26 : decode cX5_oldWay 26 = .ok (.ior, 1) := dk_128 (dk_at dksX5_oldWay_1 3 rfl rfl)
theorem dX5_oldWay_27 : decode cX5_oldWay 27 = .ok (.istore_n 3, 1) := dk_62 (dk_at dksX5_oldWay_1 4 rfl rfl)
theorem dX5_oldWay_28 : decode cX5_oldWay 28 = .ok (.iload_n 2, 1) := dk_28 (dk_at dksX5_oldWay_1 5 rfl rfl)
theorem dX5_oldWay_29 : decode cX5_oldWay 29 = .ok (.aload_n 0, 1) := dk_42 (dk_at dksX5_oldWay_1 6 rfl rfl)
theorem dX5_oldWay_30 : decode cX5_oldWay 30 = .ok (.getfield 35, 3) := dk_180 0 35 (dk_at dksX5_oldWay_1 7 rfl rfl)
theorem dX5_oldWay_33 : decode cX5_oldWay 33 = .ok (.iload 4, 2) := dk_21 4 (dk_at dksX5_oldWay_1 10 rfl rfl)
theorem dX5_oldWay_35 : decode cX5_oldWay 35 = .ok (.iaload, 1) := dk_46 (dk_at dksX5_oldWay_1 12 rfl rfl)
theorem dX5_oldWay_36 : decode cX5_oldWay 36 = .ok (.isub, 1) := dk_100 (dk_at dksX5_oldWay_1 13 rfl rfl)
theorem dX5_oldWay_37 : decode cX5_oldWay 37 = .ok (.istore_n 2, 1) := dk_61 (dk_at dksX5_oldWay_1 14 rfl rfl)
theorem dX5_oldWay_38 : decode cX5_oldWay 38 = .ok (.iload_n 2, 1) := dk_28 (dk_at dksX5_oldWay_1 15 rfl rfl)
theorem dX5_oldWay_39 : decode cX5_oldWay 39 = .ok (.ifCond .eq 12, 3) := dk_153 0 12 (dk_at dksX5_oldWay_1 16 rfl rfl)
theorem dX5_oldWay_42 : decode cX5_oldWay 42 = .ok (.iload_n 3, 1) := dk_29 (dk_at dksX5_oldWay_1 19 rfl rfl)
theorem dX5_oldWay_43 : decode cX5_oldWay 43 = .ok (.invokestatic 59, 3) := dk_184 0 59 (dk_at dksX5_oldWay_1 20 rfl rfl)
theorem dX5_oldWay_46 : decode cX5_oldWay 46 = .ok (.bipush 6, 2) := dk_16 6 (dk_at dksX5_oldWay_2 0 rfl rfl)
theorem dX5_oldWay_48 : decode cX5_oldWay 48 = .ok (.if_icmp .ne 7, 3) := dk_160 0 7 (dk_at dksX5_oldWay_2 2 rfl rfl)
theorem dX5_oldWay_51 : decode cX5_oldWay 51 = .ok (.iconst (-1), 1) := dk_2 (dk_at dksX5_oldWay_2 5 rfl rfl)
theorem dX5_oldWay_52 : decode cX5_oldWay 52 = .ok (.goto 9, 3) := dk_167 0 9 (dk_at dksX5_oldWay_2 6 rfl rfl)
theorem dX5_oldWay_55 : decode cX5_oldWay 55 = .ok (.aload_n 0, 1) := dk_42 (dk_at dksX5_oldWay_2 9 rfl rfl)
theorem dX5_oldWay_56 : decode cX5_oldWay 56 = .ok (.iload_n 2, 1) := dk_28 (dk_at dksX5_oldWay_2 10 rfl rfl)
theorem dX5_oldWay_57 : decode cX5_oldWay 57 = .ok (.iload_n 3, 1) := dk_29 (dk_at dksX5_oldWay_2 11 rfl rfl)
theorem dX5_oldWay_58 : decode cX5_oldWay 58 = .ok (.invokevirtual 55, 3) := dk_182 0 55 (dk_at dksX5_oldWay_2 12 rfl rfl)
theorem dX5_oldWay_61 : decode cX5_oldWay 61 = .ok (.istore 4, 2) := dk_54 4 (dk_at dksX5_oldWay_2 15 rfl rfl)
theorem dX5_oldWay_63 : decode cX5_oldWay 63 = .ok (.goto (-48), 3) := dk_167 255 208 (dk_at dksX5_oldWay_2 17 rfl rfl)
theorem dX5_oldWay_66 : decode cX5_oldWay 66 = .ok (.iload_n 1, 1) := dk_27 (dk_at dksX5_oldWay_2 20 rfl rfl)
theorem dX5_oldWay_67 : decode cX5_oldWay 67 = .ok (.ifCond .eq 7, 3) := dk_153 0 7 (dk_at dksX5_oldWay_2 21 rfl rfl)
theorem dX5_oldWay_70 : decode cX5_oldWay 70 = .ok (.iload_n 2, 1) := dk_28 (dk_at dksX5_oldWay_3 0 rfl rfl)
theorem dX5_oldWay_71 : decode cX5_oldWay 71 = .ok (.goto 12, 3) := dk_167 0 12 (dk_at dksX5_oldWay_3 1 rfl rfl)
theorem dX5_oldWay_74 : decode cX5_oldWay 74 = .ok (.iload_n 2, 1) := dk_28 (dk_at dksX5_oldWay_3 4 rfl rfl)
theorem dX5_oldWay_75 : decode cX5_oldWay 75 = .ok (.ifCond .ne 7, 3) := dk_154 0 7 (dk_at dksX5_oldWay_3 5 rfl rfl)
theorem dX5_oldWay_78 : decode cX5_oldWay 78 = .ok (.iload_n 3, 1) := dk_29 (dk_at dksX5_oldWay_3 8 rfl rfl)
theorem dX5_oldWay_79 : decode cX5_oldWay 79 = .ok (.goto 4, 3) := dk_167 0 4 (dk_at dksX5_oldWay_3 9 rfl rfl)
theorem dX5_oldWay_82 : decode cX5_oldWay 82 = .ok (.iconst (-1), 1) := dk_2 (dk_at dksX5_oldWay_3 12 rfl rfl)
theorem dX5_oldWay_83 : decode cX5_oldWay 83 = .ok (.ireturn, 1) := dk_172 (dk_at dksX5_oldWay_3 13 rfl rfl)
abbrev cX5_next : ByteArray := prog_4_method_4_code
def yX5_next : MethodName := ⟨RX5, "next", "(II)I"⟩
def dkwX5_next_5 : List UInt8 := [46, 164, 0, 8, 21, 5, 167, 0, 5, 21, 4, 54, 4, 132, 5, 1, 167, 255, 149, 21, 4, 172]
abbrev dktX5_next_5 : List UInt8 := dkwX5_next_5 ++ []
def dkwX5_next_4 : List UInt8 := [21, 6, 153, 0, 31, 21, 4, 2, 159, 0, 20, 42, 180, 0, 35, 21, 5, 46, 42, 180, 0, 35, 21, 4]
abbrev dktX5_next_4 : List UInt8 := dkwX5_next_4 ++ dktX5_next_5
def dkwX5_next_3 : List UInt8 := [42, 180, 0, 35, 21, 5, 46, 100, 16, 10, 29, 104, 112, 154, 0, 7, 4, 167, 0, 4, 3, 54, 6]
abbrev dktX5_next_3 : List UInt8 := dkwX5_next_3 ++ dktX5_next_4
def dkwX5_next_2 : List UInt8 := [160, 0, 44, 28, 21, 5, 122, 4, 126, 154, 0, 35, 42, 180, 0, 35, 21, 5, 46, 27, 163, 0, 24, 27]
abbrev dktX5_next_2 : List UInt8 := dkwX5_next_2 ++ dktX5_next_3
def dkwX5_next_1 : List UInt8 := [54, 5, 21, 5, 42, 180, 0, 35, 190, 162, 0, 103, 42, 180, 0, 24, 21, 5, 122, 4, 126, 4]
abbrev dktX5_next_1 : List UInt8 := dkwX5_next_1 ++ dktX5_next_2
def dkwX5_next_0 : List UInt8 := [4, 62, 27, 29, 108, 16, 10, 112, 154, 0, 11, 29, 16, 10, 104, 62, 167, 255, 242, 2, 54, 4, 3]
abbrev dktX5_next_0 : List UInt8 := dkwX5_next_0 ++ dktX5_next_1
theorem dksX5_next_0 : cX5_next.data.toList.drop 0 = dktX5_next_0 := by decide +kernel
theorem dksX5_next_1 : cX5_next.data.toList.drop 23 = dktX5_next_1 := dk_seg dksX5_next_0 23 rfl rfl
theorem dksX5_next_2 : cX5_next.data.toList.drop 45 = dktX5_next_2 := dk_seg dksX5_next_1 22 rfl rfl
theorem dksX5_next_3 : cX5_next.data.toList.drop 69 = dktX5_next_3 := dk_seg dksX5_next_2 24 rfl rfl
theorem dksX5_next_4 : cX5_next.data.toList.drop 92 = dktX5_next_4 := dk_seg dksX5_next_3 23 rfl rfl
theorem dksX5_next_5 : cX5_next.data.toList.drop 116 = dktX5_next_5 := dk_seg dksX5_next_4 24 rfl rfl
theorem dX5_next_0 : decode cX5_next 0 = .ok (.iconst 1, 1) := dk_4 (dk_at dksX5_next_0 0 rfl rfl)
theorem dX5_next_1 : decode cX5_next 1 = .ok (.istore_n 3, 1) := dk_62 (dk_at dksX5_next_0 1 rfl rfl)
theorem dX5_next_2 : decode cX5_next 2 = .ok (.iload_n 1, 1) := dk_27 (dk_at dksX5_next_0 2 rfl rfl)
theorem dX5_next_3 : decode cX5_next 3 = .ok (.iload_n 3, 1) := dk_29 (dk_at dksX5_next_0 3 rfl rfl)
theorem dX5_next_4 : decode cX5_next 4 = .ok (.idiv, 1) := dk_108 (dk_at dksX5_next_0 4 rfl rfl)
theorem dX5_next_5 : decode cX5_next 5 = .ok (.bipush 10, 2) := dk_16 10 (dk_at dksX5_next_0 5 rfl rfl)
theorem dX5_next_7 : decode cX5_next 7 = .ok (.irem, 1) := dk_112 (dk_at dksX5_next_0 7 rfl rfl)
theorem dX5_next_8 : decode cX5_next 8 = .ok (.ifCond .ne 11, 3) := dk_154 0 11 (dk_at dksX5_next_0 8 rfl rfl)
theorem dX5_next_11 : decode cX5_next 11 = .ok (.iload_n 3, 1) := dk_29 (dk_at dksX5_next_0 11 rfl rfl)
theorem dX5_next_12 : decode cX5_next 12 = .ok (.bipush 10, 2) := dk_16 10 (dk_at dksX5_next_0 12 rfl rfl)
theorem dX5_next_14 : decode cX5_next 14 = .ok (.imul, 1) := dk_104 (dk_at dksX5_next_0 14 rfl rfl)
theorem dX5_next_15 : decode cX5_next 15 = .ok (.istore_n 3, 1) := dk_62 (dk_at dksX5_next_0 15 rfl rfl)
theorem dX5_next_16 : decode cX5_next 16 = .ok (.goto (-14), 3) := dk_167 255 242 (dk_at dksX5_next_0 16 rfl rfl)
theorem dX5_next_19 : decode cX5_next 19 = .ok (.iconst (-1), 1) := dk_2 (dk_at dksX5_next_0 19 rfl rfl)
theorem dX5_next_20 : decode cX5_next 20 = .ok (.istore 4, 2) := dk_54 4 (dk_at dksX5_next_0 20 rfl rfl)
theorem dX5_next_22 : decode cX5_next 22 = .ok (.iconst 0, 1) := dk_3 (dk_at dksX5_next_0 22 rfl rfl)
theorem dX5_next_23 : decode cX5_next 23 = .ok (.istore 5, 2) := dk_54 5 (dk_at dksX5_next_1 0 rfl rfl)
theorem dX5_next_25 : decode cX5_next 25 = .ok (.iload 5, 2) := dk_21 5 (dk_at dksX5_next_1 2 rfl rfl)
theorem dX5_next_27 : decode cX5_next 27 = .ok (.aload_n 0, 1) := dk_42 (dk_at dksX5_next_1 4 rfl rfl)
theorem dX5_next_28 : decode cX5_next 28 = .ok (.getfield 35, 3) := dk_180 0 35 (dk_at dksX5_next_1 5 rfl rfl)
theorem dX5_next_31 : decode cX5_next 31 = .ok (.arraylength, 1) := dk_190 (dk_at dksX5_next_1 8 rfl rfl)
theorem dX5_next_32 : decode cX5_next 32 = .ok (.if_icmp .ge 103, 3) := dk_162 0 103 (dk_at dksX5_next_1 9 rfl rfl)
theorem dX5_next_35 : decode cX5_next 35 = .ok (.aload_n 0, 1) := dk_42 (dk_at dksX5_next_1 12 rfl rfl)
theorem dX5_next_36 : decode cX5_next 36 = .ok (.getfield 24, 3) := dk_180 0 24 (dk_at dksX5_next_1 13 rfl rfl)
theorem dX5_next_39 : decode cX5_next 39 = .ok (.iload 5, 2) := dk_21 5 (dk_at dksX5_next_1 16 rfl rfl)
theorem dX5_next_41 : decode cX5_next 41 = .ok (.ishr, 1) := dk_122 (dk_at dksX5_next_1 18 rfl rfl)
theorem dX5_next_42 : decode cX5_next 42 = .ok (.iconst 1, 1) := dk_4 (dk_at dksX5_next_1 19 rfl rfl)
theorem dX5_next_43 : decode cX5_next 43 = .ok (.iand, 1) := dk_126 (dk_at dksX5_next_1 20 rfl rfl)
theorem dX5_next_44 : decode cX5_next 44 = .ok (.iconst 1, 1) := dk_4 (dk_at dksX5_next_1 21 rfl rfl)
theorem dX5_next_45 : decode cX5_next 45 = .ok (.if_icmp .ne 44, 3) := dk_160 0 44 (dk_at dksX5_next_2 0 rfl rfl)
theorem dX5_next_48 : decode cX5_next 48 = .ok (.iload_n 2, 1) := dk_28 (dk_at dksX5_next_2 3 rfl rfl)
theorem dX5_next_49 : decode cX5_next 49 = .ok (.iload 5, 2) := dk_21 5 (dk_at dksX5_next_2 4 rfl rfl)
theorem dX5_next_51 : decode cX5_next 51 = .ok (.ishr, 1) := dk_122 (dk_at dksX5_next_2 6 rfl rfl)
theorem dX5_next_52 : decode cX5_next 52 = .ok (.iconst 1, 1) := dk_4 (dk_at dksX5_next_2 7 rfl rfl)
theorem dX5_next_53 : decode cX5_next 53 = .ok (.iand, 1) := dk_126 (dk_at dksX5_next_2 8 rfl rfl)
theorem dX5_next_54 : decode cX5_next 54 = .ok (.ifCond .ne 35, 3) := dk_154 0 35 (dk_at dksX5_next_2 9 rfl rfl)
theorem dX5_next_57 : decode cX5_next 57 = .ok (.aload_n 0, 1) := dk_42 (dk_at dksX5_next_2 12 rfl rfl)
theorem dX5_next_58 : decode cX5_next 58 = .ok (.getfield 35, 3) := dk_180 0 35 (dk_at dksX5_next_2 13 rfl rfl)
theorem dX5_next_61 : decode cX5_next 61 = .ok (.iload 5, 2) := dk_21 5 (dk_at dksX5_next_2 16 rfl rfl)
theorem dX5_next_63 : decode cX5_next 63 = .ok (.iaload, 1) := dk_46 (dk_at dksX5_next_2 18 rfl rfl)
theorem dX5_next_64 : decode cX5_next 64 = .ok (.iload_n 1, 1) := dk_27 (dk_at dksX5_next_2 19 rfl rfl)
theorem dX5_next_65 : decode cX5_next 65 = .ok (.if_icmp .gt 24, 3) := dk_163 0 24 (dk_at dksX5_next_2 20 rfl rfl)
theorem dX5_next_68 : decode cX5_next 68 = .ok (.iload_n 1, 1) := dk_27 (dk_at dksX5_next_2 23 rfl rfl)
theorem dX5_next_69 : decode cX5_next 69 = .ok (.aload_n 0, 1) := dk_42 (dk_at dksX5_next_3 0 rfl rfl)
theorem dX5_next_70 : decode cX5_next 70 = .ok (.getfield 35, 3) := dk_180 0 35 (dk_at dksX5_next_3 1 rfl rfl)
theorem dX5_next_73 : decode cX5_next 73 = .ok (.iload 5, 2) := dk_21 5 (dk_at dksX5_next_3 4 rfl rfl)
theorem dX5_next_75 : decode cX5_next 75 = .ok (.iaload, 1) := dk_46 (dk_at dksX5_next_3 6 rfl rfl)
theorem dX5_next_76 : decode cX5_next 76 = .ok (.isub, 1) := dk_100 (dk_at dksX5_next_3 7 rfl rfl)
theorem dX5_next_77 : decode cX5_next 77 = .ok (.bipush 10, 2) := dk_16 10 (dk_at dksX5_next_3 8 rfl rfl)
theorem dX5_next_79 : decode cX5_next 79 = .ok (.iload_n 3, 1) := dk_29 (dk_at dksX5_next_3 10 rfl rfl)
theorem dX5_next_80 : decode cX5_next 80 = .ok (.imul, 1) := dk_104 (dk_at dksX5_next_3 11 rfl rfl)
theorem dX5_next_81 : decode cX5_next 81 = .ok (.irem, 1) := dk_112 (dk_at dksX5_next_3 12 rfl rfl)
theorem dX5_next_82 : decode cX5_next 82 = .ok (.ifCond .ne 7, 3) := dk_154 0 7 (dk_at dksX5_next_3 13 rfl rfl)
theorem dX5_next_85 : decode cX5_next 85 = .ok (.iconst 1, 1) := dk_4 (dk_at dksX5_next_3 16 rfl rfl)
theorem dX5_next_86 : decode cX5_next 86 = .ok (.goto 4, 3) := dk_167 0 4 (dk_at dksX5_next_3 17 rfl rfl)
theorem dX5_next_89 : decode cX5_next 89 = .ok (.iconst 0, 1) := dk_3 (dk_at dksX5_next_3 20 rfl rfl)
theorem dX5_next_90 : decode cX5_next 90 = .ok (.istore 6, 2) := dk_54 6 (dk_at dksX5_next_3 21 rfl rfl)
theorem dX5_next_92 : decode cX5_next 92 = .ok (.iload 6, 2) := dk_21 6 (dk_at dksX5_next_4 0 rfl rfl)
theorem dX5_next_94 : decode cX5_next 94 = .ok (.ifCond .eq 31, 3) := dk_153 0 31 (dk_at dksX5_next_4 2 rfl rfl)
theorem dX5_next_97 : decode cX5_next 97 = .ok (.iload 4, 2) := dk_21 4 (dk_at dksX5_next_4 5 rfl rfl)
theorem dX5_next_99 : decode cX5_next 99 = .ok (.iconst (-1), 1) := dk_2 (dk_at dksX5_next_4 7 rfl rfl)
theorem dX5_next_100 : decode cX5_next 100 = .ok (.if_icmp .eq 20, 3) := dk_159 0 20 (dk_at dksX5_next_4 8 rfl rfl)
theorem dX5_next_103 : decode cX5_next 103 = .ok (.aload_n 0, 1) := dk_42 (dk_at dksX5_next_4 11 rfl rfl)
theorem dX5_next_104 : decode cX5_next 104 = .ok (.getfield 35, 3) := dk_180 0 35 (dk_at dksX5_next_4 12 rfl rfl)
theorem dX5_next_107 : decode cX5_next 107 = .ok (.iload 5, 2) := dk_21 5 (dk_at dksX5_next_4 15 rfl rfl)
theorem dX5_next_109 : decode cX5_next 109 = .ok (.iaload, 1) := dk_46 (dk_at dksX5_next_4 17 rfl rfl)
theorem dX5_next_110 : decode cX5_next 110 = .ok (.aload_n 0, 1) := dk_42 (dk_at dksX5_next_4 18 rfl rfl)
theorem dX5_next_111 : decode cX5_next 111 = .ok (.getfield 35, 3) := dk_180 0 35 (dk_at dksX5_next_4 19 rfl rfl)
theorem dX5_next_114 : decode cX5_next 114 = .ok (.iload 4, 2) := dk_21 4 (dk_at dksX5_next_4 22 rfl rfl)
theorem dX5_next_116 : decode cX5_next 116 = .ok (.iaload, 1) := dk_46 (dk_at dksX5_next_5 0 rfl rfl)
theorem dX5_next_117 : decode cX5_next 117 = .ok (.if_icmp .le 8, 3) := dk_164 0 8 (dk_at dksX5_next_5 1 rfl rfl)
theorem dX5_next_120 : decode cX5_next 120 = .ok (.iload 5, 2) := dk_21 5 (dk_at dksX5_next_5 4 rfl rfl)
theorem dX5_next_122 : decode cX5_next 122 = .ok (.goto 5, 3) := dk_167 0 5 (dk_at dksX5_next_5 6 rfl rfl)
theorem dX5_next_125 : decode cX5_next 125 = .ok (.iload 4, 2) := dk_21 4 (dk_at dksX5_next_5 9 rfl rfl)
theorem dX5_next_127 : decode cX5_next 127 = .ok (.istore 4, 2) := dk_54 4 (dk_at dksX5_next_5 11 rfl rfl)
theorem dX5_next_129 : decode cX5_next 129 = .ok (.iinc 5 1, 3) := dk_132 5 1 (dk_at dksX5_next_5 13 rfl rfl)
theorem dX5_next_132 : decode cX5_next 132 = .ok (.goto (-107), 3) := dk_167 255 149 (dk_at dksX5_next_5 16 rfl rfl)
theorem dX5_next_135 : decode cX5_next 135 = .ok (.iload 4, 2) := dk_21 4 (dk_at dksX5_next_5 19 rfl rfl)
theorem dX5_next_137 : decode cX5_next 137 = .ok (.ireturn, 1) := dk_172 (dk_at dksX5_next_5 21 rfl rfl)
abbrev cX5_nearest : ByteArray := prog_4_method_6_code
def yX5_nearest : MethodName := ⟨RX5, "nearest", "()I"⟩
def dkwX5_nearest_6 : List UInt8 := [172]
abbrev dktX5_nearest_6 : List UInt8 := dkwX5_nearest_6 ++ []
def dkwX5_nearest_5 : List UInt8 := [27, 162, 0, 8, 21, 5, 167, 0, 4, 27, 60, 132, 3, 1, 167, 255, 138, 132, 2, 1, 167, 255, 121, 27]
abbrev dktX5_nearest_5 : List UInt8 := dkwX5_nearest_5 ++ dktX5_nearest_6
def dkwX5_nearest_4 : List UInt8 := [54, 6, 21, 4, 153, 0, 29, 27, 2, 159, 0, 19, 21, 6, 155, 0, 14, 21, 6, 154, 0, 14, 21, 5]
abbrev dktX5_nearest_4 : List UInt8 := dkwX5_nearest_4 ++ dktX5_nearest_5
def dkwX5_nearest_3 : List UInt8 := [96, 54, 5, 21, 5, 42, 180, 0, 15, 100, 184, 0, 65, 27, 42, 180, 0, 15, 100, 184, 0, 65, 100]
abbrev dktX5_nearest_3 : List UInt8 := dkwX5_nearest_3 ++ dktX5_nearest_4
def dkwX5_nearest_2 : List UInt8 := [3, 54, 4, 42, 180, 0, 35, 28, 46, 29, 28, 162, 0, 12, 42, 180, 0, 35, 29, 46, 167, 0, 4, 3]
abbrev dktX5_nearest_2 : List UInt8 := dkwX5_nearest_2 ++ dktX5_nearest_3
def dkwX5_nearest_1 : List UInt8 := [28, 122, 4, 126, 4, 160, 0, 19, 42, 180, 0, 24, 29, 122, 4, 126, 4, 160, 0, 7, 4, 167, 0, 4]
abbrev dktX5_nearest_1 : List UInt8 := dkwX5_nearest_1 ++ dktX5_nearest_2
def dkwX5_nearest_0 : List UInt8 := [2, 60, 3, 61, 28, 42, 180, 0, 35, 190, 162, 0, 132, 3, 62, 29, 28, 163, 0, 119, 42, 180, 0, 24]
abbrev dktX5_nearest_0 : List UInt8 := dkwX5_nearest_0 ++ dktX5_nearest_1
theorem dksX5_nearest_0 : cX5_nearest.data.toList.drop 0 = dktX5_nearest_0 := by decide +kernel
theorem dksX5_nearest_1 : cX5_nearest.data.toList.drop 24 = dktX5_nearest_1 := dk_seg dksX5_nearest_0 24 rfl rfl
theorem dksX5_nearest_2 : cX5_nearest.data.toList.drop 48 = dktX5_nearest_2 := dk_seg dksX5_nearest_1 24 rfl rfl
theorem dksX5_nearest_3 : cX5_nearest.data.toList.drop 72 = dktX5_nearest_3 := dk_seg dksX5_nearest_2 24 rfl rfl
theorem dksX5_nearest_4 : cX5_nearest.data.toList.drop 95 = dktX5_nearest_4 := dk_seg dksX5_nearest_3 23 rfl rfl
theorem dksX5_nearest_5 : cX5_nearest.data.toList.drop 119 = dktX5_nearest_5 := dk_seg dksX5_nearest_4 24 rfl rfl
theorem dksX5_nearest_6 : cX5_nearest.data.toList.drop 143 = dktX5_nearest_6 := dk_seg dksX5_nearest_5 24 rfl rfl
theorem dX5_nearest_0 : decode cX5_nearest 0 = .ok (.iconst (-1), 1) := dk_2 (dk_at dksX5_nearest_0 0 rfl rfl)
theorem dX5_nearest_1 : decode cX5_nearest 1 = .ok (.istore_n 1, 1) := dk_60 (dk_at dksX5_nearest_0 1 rfl rfl)
theorem dX5_nearest_2 : decode cX5_nearest 2 = .ok (.iconst 0, 1) := dk_3 (dk_at dksX5_nearest_0 2 rfl rfl)
theorem dX5_nearest_3 : decode cX5_nearest 3 = .ok (.istore_n 2, 1) := dk_61 (dk_at dksX5_nearest_0 3 rfl rfl)
theorem dX5_nearest_4 : decode cX5_nearest 4 = .ok (.iload_n 2, 1) := dk_28 (dk_at dksX5_nearest_0 4 rfl rfl)
theorem dX5_nearest_5 : decode cX5_nearest 5 = .ok (.aload_n 0, 1) := dk_42 (dk_at dksX5_nearest_0 5 rfl rfl)
theorem dX5_nearest_6 : decode cX5_nearest 6 = .ok (.getfield 35, 3) := dk_180 0 35 (dk_at dksX5_nearest_0 6 rfl rfl)
theorem dX5_nearest_9 : decode cX5_nearest 9 = .ok (.arraylength, 1) := dk_190 (dk_at dksX5_nearest_0 9 rfl rfl)
theorem dX5_nearest_10 : decode cX5_nearest 10 = .ok (.if_icmp .ge 132, 3) := dk_162 0 132 (dk_at dksX5_nearest_0 10 rfl rfl)
theorem dX5_nearest_13 : decode cX5_nearest 13 = .ok (.iconst 0, 1) := dk_3 (dk_at dksX5_nearest_0 13 rfl rfl)
theorem dX5_nearest_14 : decode cX5_nearest 14 = .ok (.istore_n 3, 1) := dk_62 (dk_at dksX5_nearest_0 14 rfl rfl)
theorem dX5_nearest_15 : decode cX5_nearest 15 = .ok (.iload_n 3, 1) := dk_29 (dk_at dksX5_nearest_0 15 rfl rfl)
theorem dX5_nearest_16 : decode cX5_nearest 16 = .ok (.iload_n 2, 1) := dk_28 (dk_at dksX5_nearest_0 16 rfl rfl)
theorem dX5_nearest_17 : decode cX5_nearest 17 = .ok (.if_icmp .gt 119, 3) := dk_163 0 119 (dk_at dksX5_nearest_0 17 rfl rfl)
theorem dX5_nearest_20 : decode cX5_nearest 20 = .ok (.aload_n 0, 1) := dk_42 (dk_at dksX5_nearest_0 20 rfl rfl)
theorem dX5_nearest_21 : decode cX5_nearest 21 = .ok (.getfield 24, 3) := dk_180 0 24 (dk_at dksX5_nearest_0 21 rfl rfl)
theorem dX5_nearest_24 : decode cX5_nearest 24 = .ok (.iload_n 2, 1) := dk_28 (dk_at dksX5_nearest_1 0 rfl rfl)
theorem dX5_nearest_25 : decode cX5_nearest 25 = .ok (.ishr, 1) := dk_122 (dk_at dksX5_nearest_1 1 rfl rfl)
theorem dX5_nearest_26 : decode cX5_nearest 26 = .ok (.iconst 1, 1) := dk_4 (dk_at dksX5_nearest_1 2 rfl rfl)
theorem dX5_nearest_27 : decode cX5_nearest 27 = .ok (.iand, 1) := dk_126 (dk_at dksX5_nearest_1 3 rfl rfl)
theorem dX5_nearest_28 : decode cX5_nearest 28 = .ok (.iconst 1, 1) := dk_4 (dk_at dksX5_nearest_1 4 rfl rfl)
theorem dX5_nearest_29 : decode cX5_nearest 29 = .ok (.if_icmp .ne 19, 3) := dk_160 0 19 (dk_at dksX5_nearest_1 5 rfl rfl)
theorem dX5_nearest_32 : decode cX5_nearest 32 = .ok (.aload_n 0, 1) := dk_42 (dk_at dksX5_nearest_1 8 rfl rfl)
theorem dX5_nearest_33 : decode cX5_nearest 33 = .ok (.getfield 24, 3) := dk_180 0 24 (dk_at dksX5_nearest_1 9 rfl rfl)
theorem dX5_nearest_36 : decode cX5_nearest 36 = .ok (.iload_n 3, 1) := dk_29 (dk_at dksX5_nearest_1 12 rfl rfl)
theorem dX5_nearest_37 : decode cX5_nearest 37 = .ok (.ishr, 1) := dk_122 (dk_at dksX5_nearest_1 13 rfl rfl)
theorem dX5_nearest_38 : decode cX5_nearest 38 = .ok (.iconst 1, 1) := dk_4 (dk_at dksX5_nearest_1 14 rfl rfl)
theorem dX5_nearest_39 : decode cX5_nearest 39 = .ok (.iand, 1) := dk_126 (dk_at dksX5_nearest_1 15 rfl rfl)
theorem dX5_nearest_40 : decode cX5_nearest 40 = .ok (.iconst 1, 1) := dk_4 (dk_at dksX5_nearest_1 16 rfl rfl)
theorem dX5_nearest_41 : decode cX5_nearest 41 = .ok (.if_icmp .ne 7, 3) := dk_160 0 7 (dk_at dksX5_nearest_1 17 rfl rfl)
theorem dX5_nearest_44 : decode cX5_nearest 44 = .ok (.iconst 1, 1) := dk_4 (dk_at dksX5_nearest_1 20 rfl rfl)
theorem dX5_nearest_45 : decode cX5_nearest 45 = .ok (.goto 4, 3) := dk_167 0 4 (dk_at dksX5_nearest_1 21 rfl rfl)
theorem dX5_nearest_48 : decode cX5_nearest 48 = .ok (.iconst 0, 1) := dk_3 (dk_at dksX5_nearest_2 0 rfl rfl)
theorem dX5_nearest_49 : decode cX5_nearest 49 = .ok (.istore 4, 2) := dk_54 4 (dk_at dksX5_nearest_2 1 rfl rfl)
theorem dX5_nearest_51 : decode cX5_nearest 51 = .ok (.aload_n 0, 1) := dk_42 (dk_at dksX5_nearest_2 3 rfl rfl)
theorem dX5_nearest_52 : decode cX5_nearest 52 = .ok (.getfield 35, 3) := dk_180 0 35 (dk_at dksX5_nearest_2 4 rfl rfl)
theorem dX5_nearest_55 : decode cX5_nearest 55 = .ok (.iload_n 2, 1) := dk_28 (dk_at dksX5_nearest_2 7 rfl rfl)
theorem dX5_nearest_56 : decode cX5_nearest 56 = .ok (.iaload, 1) := dk_46 (dk_at dksX5_nearest_2 8 rfl rfl)
theorem dX5_nearest_57 : decode cX5_nearest 57 = .ok (.iload_n 3, 1) := dk_29 (dk_at dksX5_nearest_2 9 rfl rfl)
theorem dX5_nearest_58 : decode cX5_nearest 58 = .ok (.iload_n 2, 1) := dk_28 (dk_at dksX5_nearest_2 10 rfl rfl)
theorem dX5_nearest_59 : decode cX5_nearest 59 = .ok (.if_icmp .ge 12, 3) := dk_162 0 12 (dk_at dksX5_nearest_2 11 rfl rfl)
theorem dX5_nearest_62 : decode cX5_nearest 62 = .ok (.aload_n 0, 1) := dk_42 (dk_at dksX5_nearest_2 14 rfl rfl)
theorem dX5_nearest_63 : decode cX5_nearest 63 = .ok (.getfield 35, 3) := dk_180 0 35 (dk_at dksX5_nearest_2 15 rfl rfl)
theorem dX5_nearest_66 : decode cX5_nearest 66 = .ok (.iload_n 3, 1) := dk_29 (dk_at dksX5_nearest_2 18 rfl rfl)
theorem dX5_nearest_67 : decode cX5_nearest 67 = .ok (.iaload, 1) := dk_46 (dk_at dksX5_nearest_2 19 rfl rfl)
theorem dX5_nearest_68 : decode cX5_nearest 68 = .ok (.goto 4, 3) := dk_167 0 4 (dk_at dksX5_nearest_2 20 rfl rfl)
theorem dX5_nearest_71 : decode cX5_nearest 71 = .ok (.iconst 0, 1) := dk_3 (dk_at dksX5_nearest_2 23 rfl rfl)
theorem dX5_nearest_72 : decode cX5_nearest 72 = .ok (.iadd, 1) := dk_96 (dk_at dksX5_nearest_3 0 rfl rfl)
theorem dX5_nearest_73 : decode cX5_nearest 73 = .ok (.istore 5, 2) := dk_54 5 (dk_at dksX5_nearest_3 1 rfl rfl)
theorem dX5_nearest_75 : decode cX5_nearest 75 = .ok (.iload 5, 2) := dk_21 5 (dk_at dksX5_nearest_3 3 rfl rfl)
theorem dX5_nearest_77 : decode cX5_nearest 77 = .ok (.aload_n 0, 1) := dk_42 (dk_at dksX5_nearest_3 5 rfl rfl)
theorem dX5_nearest_78 : decode cX5_nearest 78 = .ok (.getfield 15, 3) := dk_180 0 15 (dk_at dksX5_nearest_3 6 rfl rfl)
theorem dX5_nearest_81 : decode cX5_nearest 81 = .ok (.isub, 1) := dk_100 (dk_at dksX5_nearest_3 9 rfl rfl)
theorem dX5_nearest_82 : decode cX5_nearest 82 = .ok (.invokestatic 65, 3) := dk_184 0 65 (dk_at dksX5_nearest_3 10 rfl rfl)
theorem dX5_nearest_85 : decode cX5_nearest 85 = .ok (.iload_n 1, 1) := dk_27 (dk_at dksX5_nearest_3 13 rfl rfl)
theorem dX5_nearest_86 : decode cX5_nearest 86 = .ok (.aload_n 0, 1) := dk_42 (dk_at dksX5_nearest_3 14 rfl rfl)
theorem dX5_nearest_87 : decode cX5_nearest 87 = .ok (.getfield 15, 3) := dk_180 0 15 (dk_at dksX5_nearest_3 15 rfl rfl)
theorem dX5_nearest_90 : decode cX5_nearest 90 = .ok (.isub, 1) := dk_100 (dk_at dksX5_nearest_3 18 rfl rfl)
theorem dX5_nearest_91 : decode cX5_nearest 91 = .ok (.invokestatic 65, 3) := dk_184 0 65 (dk_at dksX5_nearest_3 19 rfl rfl)
theorem dX5_nearest_94 : decode cX5_nearest 94 = .ok (.isub, 1) := dk_100 (dk_at dksX5_nearest_3 22 rfl rfl)
theorem dX5_nearest_95 : decode cX5_nearest 95 = .ok (.istore 6, 2) := dk_54 6 (dk_at dksX5_nearest_4 0 rfl rfl)
theorem dX5_nearest_97 : decode cX5_nearest 97 = .ok (.iload 4, 2) := dk_21 4 (dk_at dksX5_nearest_4 2 rfl rfl)
theorem dX5_nearest_99 : decode cX5_nearest 99 = .ok (.ifCond .eq 29, 3) := dk_153 0 29 (dk_at dksX5_nearest_4 4 rfl rfl)
theorem dX5_nearest_102 : decode cX5_nearest 102 = .ok (.iload_n 1, 1) := dk_27 (dk_at dksX5_nearest_4 7 rfl rfl)
theorem dX5_nearest_103 : decode cX5_nearest 103 = .ok (.iconst (-1), 1) := dk_2 (dk_at dksX5_nearest_4 8 rfl rfl)
theorem dX5_nearest_104 : decode cX5_nearest 104 = .ok (.if_icmp .eq 19, 3) := dk_159 0 19 (dk_at dksX5_nearest_4 9 rfl rfl)
theorem dX5_nearest_107 : decode cX5_nearest 107 = .ok (.iload 6, 2) := dk_21 6 (dk_at dksX5_nearest_4 12 rfl rfl)
theorem dX5_nearest_109 : decode cX5_nearest 109 = .ok (.ifCond .lt 14, 3) := dk_155 0 14 (dk_at dksX5_nearest_4 14 rfl rfl)
theorem dX5_nearest_112 : decode cX5_nearest 112 = .ok (.iload 6, 2) := dk_21 6 (dk_at dksX5_nearest_4 17 rfl rfl)
theorem dX5_nearest_114 : decode cX5_nearest 114 = .ok (.ifCond .ne 14, 3) := dk_154 0 14 (dk_at dksX5_nearest_4 19 rfl rfl)
theorem dX5_nearest_117 : decode cX5_nearest 117 = .ok (.iload 5, 2) := dk_21 5 (dk_at dksX5_nearest_4 22 rfl rfl)
theorem dX5_nearest_119 : decode cX5_nearest 119 = .ok (.iload_n 1, 1) := dk_27 (dk_at dksX5_nearest_5 0 rfl rfl)
theorem dX5_nearest_120 : decode cX5_nearest 120 = .ok (.if_icmp .ge 8, 3) := dk_162 0 8 (dk_at dksX5_nearest_5 1 rfl rfl)
theorem dX5_nearest_123 : decode cX5_nearest 123 = .ok (.iload 5, 2) := dk_21 5 (dk_at dksX5_nearest_5 4 rfl rfl)
theorem dX5_nearest_125 : decode cX5_nearest 125 = .ok (.goto 4, 3) := dk_167 0 4 (dk_at dksX5_nearest_5 6 rfl rfl)
theorem dX5_nearest_128 : decode cX5_nearest 128 = .ok (.iload_n 1, 1) := dk_27 (dk_at dksX5_nearest_5 9 rfl rfl)
theorem dX5_nearest_129 : decode cX5_nearest 129 = .ok (.istore_n 1, 1) := dk_60 (dk_at dksX5_nearest_5 10 rfl rfl)
theorem dX5_nearest_130 : decode cX5_nearest 130 = .ok (.iinc 3 1, 3) := dk_132 3 1 (dk_at dksX5_nearest_5 11 rfl rfl)
theorem dX5_nearest_133 : decode cX5_nearest 133 = .ok (.goto (-118), 3) := dk_167 255 138 (dk_at dksX5_nearest_5 14 rfl rfl)
theorem dX5_nearest_136 : decode cX5_nearest 136 = .ok (.iinc 2 1, 3) := dk_132 2 1 (dk_at dksX5_nearest_5 17 rfl rfl)
theorem dX5_nearest_139 : decode cX5_nearest 139 = .ok (.goto (-135), 3) := dk_167 255 121 (dk_at dksX5_nearest_5 20 rfl rfl)
theorem dX5_nearest_142 : decode cX5_nearest 142 = .ok (.iload_n 1, 1) := dk_27 (dk_at dksX5_nearest_5 23 rfl rfl)
theorem dX5_nearest_143 : decode cX5_nearest 143 = .ok (.ireturn, 1) := dk_172 (dk_at dksX5_nearest_6 0 rfl rfl)
theorem q101 : (Jvm.Cond.initialized "GaugeBlocks$Finder") ∈ lw_all := lw_g (lw_at lw_m1 26 rfl) rfl
theorem q203 : (Jvm.Cond.selects "GaugeBlocks$Finder" ({ cls := "java/lang/Object", name := "getClass", desc := "()Ljava/lang/Class;" } : Jvm.MethodName) ({ cls := "java/lang/Object", name := "getClass", desc := "()Ljava/lang/Class;" } : Jvm.MethodName)) ∈ lw_all := lw_g (lw_at lw_m1 128 rfl) rfl
theorem q243 : (Jvm.Cond.fieldLink "GaugeBlocks$Finder" (26 : Nat) "GaugeBlocks$State" "blocks" "Ljava/util/ArrayList;") ∈ lw_all := lw_g (lw_at lw_m1 168 rfl) rfl
theorem q960 : (Jvm.Cond.fieldLink "GaugeBlocks$Finder" (45 : Nat) "GaugeBlocks$Block" "nominal" "I") ∈ lw_all := lw_g (lw_at lw_m4 165 rfl) rfl
theorem q1180 : (Jvm.Cond.instantiable "GaugeBlocks$Finder" (5 : Nat)) ∈ lw_all := lw_g (lw_at lw_m5 145 rfl) rfl
theorem q1182 : (Jvm.Cond.instanceMethod ({ cls := "GaugeBlocks$Finder", name := "<init>", desc := "(LGaugeBlocks$State;I)V" } : Jvm.MethodName)) ∈ lw_all := lw_g (lw_at lw_m5 147 rfl) rfl
theorem q1183 : (Jvm.Cond.code ({ cls := "GaugeBlocks$Finder", name := "<init>", desc := "(LGaugeBlocks$State;I)V" } : Jvm.MethodName) prog_4_method_1_code (4 : Nat) (Option.none : Option Jvm.ClassFile.FieldType)) ∈ lw_all := lw_g (lw_at lw_m5 148 rfl) rfl
theorem q1184 : (Jvm.Cond.methodLink "GaugeBlocks$Finder" (3 : Nat) ({ cls := "java/lang/Object", name := "<init>", desc := "()V" } : Jvm.MethodName)) ∈ lw_all := lw_g (lw_at lw_m5 149 rfl) rfl
theorem q1185 : (Jvm.Cond.methodLink "GaugeBlocks$Finder" (18 : Nat) ({ cls := "GaugeBlocks$State", name := "free", desc := "()I" } : Jvm.MethodName)) ∈ lw_all := lw_g (lw_at lw_m5 150 rfl) rfl
theorem q1189 : (Jvm.Cond.methodLink "GaugeBlocks$Finder" (30 : Nat) ({ cls := "java/util/ArrayList", name := "size", desc := "()I" } : Jvm.MethodName)) ∈ lw_all := lw_g (lw_at lw_m5 154 rfl) rfl
theorem q1190 : (Jvm.Cond.methodLink "GaugeBlocks$Finder" (39 : Nat) ({ cls := "java/util/ArrayList", name := "get", desc := "(I)Ljava/lang/Object;" } : Jvm.MethodName)) ∈ lw_all := lw_g (lw_at lw_m5 155 rfl) rfl
theorem q1191 : (Jvm.Cond.classLink "GaugeBlocks$Finder" (43 : Nat) "GaugeBlocks$Block") ∈ lw_all := lw_g (lw_at lw_m5 156 rfl) rfl
theorem q1192 : (Jvm.Cond.fieldLink "GaugeBlocks$Finder" (35 : Nat) "GaugeBlocks$Finder" "lengths" "[I") ∈ lw_all := lw_g (lw_at lw_m5 157 rfl) rfl
theorem q1193 : (Jvm.Cond.fieldLink "GaugeBlocks$Finder" (15 : Nat) "GaugeBlocks$Finder" "length" "I") ∈ lw_all := lw_g (lw_at lw_m5 158 rfl) rfl
theorem q1194 : (Jvm.Cond.fieldLink "GaugeBlocks$Finder" (24 : Nat) "GaugeBlocks$Finder" "free" "I") ∈ lw_all := lw_g (lw_at lw_m5 159 rfl) rfl
theorem q1195 : (Jvm.Cond.fieldLink "GaugeBlocks$Finder" (52 : Nat) "GaugeBlocks$Finder" "best" "I") ∈ lw_all := lw_g (lw_at lw_m5 160 rfl) rfl
theorem q1196 : (Jvm.Cond.fieldLink "GaugeBlocks$Finder" (9 : Nat) "GaugeBlocks$Finder" "fewest" "I") ∈ lw_all := lw_g (lw_at lw_m5 161 rfl) rfl
theorem q1197 : (Jvm.Cond.laysFinal "GaugeBlocks$Finder" "GaugeBlocks$Finder" "lengths" "[I") ∈ lw_all := lw_g (lw_at lw_m5 162 rfl) rfl
theorem q1198 : (Jvm.Cond.soleField "GaugeBlocks$Finder" "lengths") ∈ lw_all := lw_g (lw_at lw_m5 163 rfl) rfl
theorem q1199 : (Jvm.Cond.laysFinal "GaugeBlocks$Finder" "GaugeBlocks$Finder" "length" "I") ∈ lw_all := lw_g (lw_at lw_m5 164 rfl) rfl
theorem q1200 : (Jvm.Cond.soleField "GaugeBlocks$Finder" "length") ∈ lw_all := lw_g (lw_at lw_m5 165 rfl) rfl
theorem q1201 : (Jvm.Cond.laysFinal "GaugeBlocks$Finder" "GaugeBlocks$Finder" "free" "I") ∈ lw_all := lw_g (lw_at lw_m5 166 rfl) rfl
theorem q1202 : (Jvm.Cond.soleField "GaugeBlocks$Finder" "free") ∈ lw_all := lw_g (lw_at lw_m5 167 rfl) rfl
theorem q1203 : (Jvm.Cond.lays "GaugeBlocks$Finder" "GaugeBlocks$Finder" "best" "I") ∈ lw_all := lw_g (lw_at lw_m5 168 rfl) rfl
theorem q1204 : (Jvm.Cond.soleField "GaugeBlocks$Finder" "best") ∈ lw_all := lw_g (lw_at lw_m5 169 rfl) rfl
theorem q1205 : (Jvm.Cond.lays "GaugeBlocks$Finder" "GaugeBlocks$Finder" "fewest" "I") ∈ lw_all := lw_g (lw_at lw_m5 170 rfl) rfl
theorem q1206 : (Jvm.Cond.soleField "GaugeBlocks$Finder" "fewest") ∈ lw_all := lw_g (lw_at lw_m5 171 rfl) rfl
theorem q1207 : (Jvm.Cond.superclass "GaugeBlocks$Finder" "java/lang/Object") ∈ lw_all := lw_g (lw_at lw_m5 172 rfl) rfl
theorem q1209 : (Jvm.Cond.instanceMethod ({ cls := "GaugeBlocks$Finder", name := "fewest", desc := "()I" } : Jvm.MethodName)) ∈ lw_all := lw_g (lw_at lw_m5 174 rfl) rfl
theorem q1210 : (Jvm.Cond.selects "GaugeBlocks$Finder" ({ cls := "GaugeBlocks$Finder", name := "fewest", desc := "()I" } : Jvm.MethodName) ({ cls := "GaugeBlocks$Finder", name := "fewest", desc := "()I" } : Jvm.MethodName)) ∈ lw_all := lw_g (lw_at lw_m5 175 rfl) rfl
theorem q1211 : (Jvm.Cond.code ({ cls := "GaugeBlocks$Finder", name := "fewest", desc := "()I" } : Jvm.MethodName) prog_4_method_2_code (1 : Nat) (Option.some Jvm.ClassFile.FieldType.int)) ∈ lw_all := lw_g (lw_at lw_m5 176 rfl) rfl
theorem q1212 : (Jvm.Cond.methodLink "GaugeBlocks$Finder" (48 : Nat) ({ cls := "GaugeBlocks$Finder", name := "search", desc := "(IIII)V" } : Jvm.MethodName)) ∈ lw_all := lw_g (lw_at lw_m5 177 rfl) rfl
theorem q1213 : (Jvm.Cond.privateMethod ({ cls := "GaugeBlocks$Finder", name := "search", desc := "(IIII)V" } : Jvm.MethodName)) ∈ lw_tbl := lw_at lw_m5 178 rfl
theorem q1214 : (Jvm.Cond.instanceMethod ({ cls := "GaugeBlocks$Finder", name := "search", desc := "(IIII)V" } : Jvm.MethodName)) ∈ lw_all := lw_g (lw_at lw_m5 179 rfl) rfl
theorem q1215 : (Jvm.Cond.code ({ cls := "GaugeBlocks$Finder", name := "search", desc := "(IIII)V" } : Jvm.MethodName) prog_4_method_3_code (6 : Nat) (Option.none : Option Jvm.ClassFile.FieldType)) ∈ lw_all := lw_g (lw_at lw_m5 180 rfl) rfl
theorem q1957 : (Jvm.Cond.instanceMethod ({ cls := "GaugeBlocks$Finder", name := "oldWay", desc := "(Z)I" } : Jvm.MethodName)) ∈ lw_all := lw_g (lw_at lw_m8 202 rfl) rfl
theorem q1958 : (Jvm.Cond.selects "GaugeBlocks$Finder" ({ cls := "GaugeBlocks$Finder", name := "oldWay", desc := "(Z)I" } : Jvm.MethodName) ({ cls := "GaugeBlocks$Finder", name := "oldWay", desc := "(Z)I" } : Jvm.MethodName)) ∈ lw_all := lw_g (lw_at lw_m8 203 rfl) rfl
theorem q1959 : (Jvm.Cond.code ({ cls := "GaugeBlocks$Finder", name := "oldWay", desc := "(Z)I" } : Jvm.MethodName) prog_4_method_5_code (5 : Nat) (Option.some Jvm.ClassFile.FieldType.int)) ∈ lw_all := lw_g (lw_at lw_m8 204 rfl) rfl
theorem q1960 : (Jvm.Cond.methodLink "GaugeBlocks$Finder" (55 : Nat) ({ cls := "GaugeBlocks$Finder", name := "next", desc := "(II)I" } : Jvm.MethodName)) ∈ lw_all := lw_g (lw_at lw_m8 205 rfl) rfl
theorem q1961 : (Jvm.Cond.privateMethod ({ cls := "GaugeBlocks$Finder", name := "next", desc := "(II)I" } : Jvm.MethodName)) ∈ lw_tbl := lw_at lw_m8 206 rfl
theorem q1962 : (Jvm.Cond.instanceMethod ({ cls := "GaugeBlocks$Finder", name := "next", desc := "(II)I" } : Jvm.MethodName)) ∈ lw_all := lw_g (lw_at lw_m8 207 rfl) rfl
theorem q1963 : (Jvm.Cond.code ({ cls := "GaugeBlocks$Finder", name := "next", desc := "(II)I" } : Jvm.MethodName) prog_4_method_4_code (7 : Nat) (Option.some Jvm.ClassFile.FieldType.int)) ∈ lw_all := lw_g (lw_at lw_m8 208 rfl) rfl
theorem q1964 : (Jvm.Cond.methodLink "GaugeBlocks$Finder" (59 : Nat) ({ cls := "java/lang/Integer", name := "bitCount", desc := "(I)I" } : Jvm.MethodName)) ∈ lw_all := lw_g (lw_at lw_m8 209 rfl) rfl
theorem q1973 : (Jvm.Cond.instanceMethod ({ cls := "GaugeBlocks$Finder", name := "nearest", desc := "()I" } : Jvm.MethodName)) ∈ lw_all := lw_g (lw_at lw_m8 218 rfl) rfl
theorem q1974 : (Jvm.Cond.selects "GaugeBlocks$Finder" ({ cls := "GaugeBlocks$Finder", name := "nearest", desc := "()I" } : Jvm.MethodName) ({ cls := "GaugeBlocks$Finder", name := "nearest", desc := "()I" } : Jvm.MethodName)) ∈ lw_all := lw_g (lw_at lw_m8 219 rfl) rfl
theorem q1975 : (Jvm.Cond.code ({ cls := "GaugeBlocks$Finder", name := "nearest", desc := "()I" } : Jvm.MethodName) prog_4_method_6_code (7 : Nat) (Option.some Jvm.ClassFile.FieldType.int)) ∈ lw_all := lw_g (lw_at lw_m8 220 rfl) rfl
theorem q1976 : (Jvm.Cond.methodLink "GaugeBlocks$Finder" (65 : Nat) ({ cls := "java/lang/Math", name := "abs", desc := "(I)I" } : Jvm.MethodName)) ∈ lw_all := lw_g (lw_at lw_m8 221 rfl) rfl
theorem q2422 : (Jvm.Cond.castable "GaugeBlocks$Finder" "java/lang/Object") ∈ lw_tbl := lw_at lw_m10 187 rfl
theorem in_X5 : ∀ w ∈ wsX50, w ∈ lw_all := lw_in wsX50 [1197, 1199, 1201, 1203, 1205] (by decide +kernel) (by decide +kernel)

