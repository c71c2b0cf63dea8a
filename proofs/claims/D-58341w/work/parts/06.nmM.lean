/-! GaugeBlocksModel -/
set_option maxRecDepth 100000
def RX3 : String := "GaugeBlocksModel"
def TX3 : u_T := fun k => match k with
  | 0 => ("GaugeBlocksModel", "row", "[I", true)
  | 1 => ("GaugeBlocksModel", "saved", "[I", true)
  | 2 => ("GaugeBlocksModel", "savedMany", "I", false)
  | 3 => ("GaugeBlocksModel", "snapshots", "[I", true)
  | 4 => ("GaugeBlocksModel", "isKept", "[Z", true)
  | 5 => ("GaugeBlocksModel", "thrown", "I", false)
  | 6 => ("GaugeBlocksModel", "free", "[I", true)
  | 7 => ("GaugeBlocksModel", "freeMany", "I", false)
  | 8 => ("GaugeBlocksModel", "buffer", "[I", true)
  | 9 => ("GaugeBlocksModel", "length", "I", false)
  | 10 => ("GaugeBlocksModel", "spot", "I", false)
  | 11 => ("GaugeBlocksModel", "number", "I", false)
  | 12 => ("GaugeBlocksModel", "orders", "I", false)
  | 13 => ("GaugeBlocksModel", "letter", "[I", true)
  | 14 => ("GaugeBlocksModel", "first", "[I", true)
  | 15 => ("GaugeBlocksModel", "second", "[I", true)
  | 16 => ("GaugeBlocksModel", "took", "I", false)
  | _ => ("GaugeBlocksModel", "left", "I", false)
def tyX3 : Nat → FieldType := fun k => match k with
  | 0 => .array .int
  | 1 => .array .int
  | 2 => .int
  | 3 => .array .int
  | 4 => .array .boolean
  | 5 => .int
  | 6 => .array .int
  | 7 => .int
  | 8 => .array .int
  | 9 => .int
  | 10 => .int
  | 11 => .int
  | 12 => .int
  | 13 => .array .int
  | 14 => .array .int
  | 15 => .array .int
  | 16 => .int
  | _ => .int
abbrev wsX30 : List Cond := u_ws RX3 TX3 18
set_option maxRecDepth 100000 in
theorem nmX3 : ∀ a, a < 18 → ∀ b, b < 18 → a ≠ b → (TX3 a).2.1 ≠ (TX3 b).2.1 := by decide +kernel
set_option maxRecDepth 100000 in
theorem tyX3_ok : ∀ k, k < 18 → parseFieldDescriptor (TX3 k).2.2.1 = some (tyX3 k) := by decide +kernel
abbrev cX3_init : ByteArray := prog_11_method_1_code
def yX3_init : MethodName := ⟨RX3, "<init>", "()V"⟩
def dkwX3_init_4 : List UInt8 := [42, 180, 0, 7, 5, 6, 79, 42, 180, 0, 7, 6, 16, 40, 79, 177]
abbrev dktX3_init_4 : List UInt8 := dkwX3_init_4 ++ []
def dkwX3_init_3 : List UInt8 := [16, 24, 188, 10, 181, 0, 35, 42, 180, 0, 7, 3, 16, 10, 79, 42, 180, 0, 7, 4, 17, 1, 44, 79]
abbrev dktX3_init_3 : List UInt8 := dkwX3_init_3 ++ dktX3_init_4
def dkwX3_init_2 : List UInt8 := [16, 60, 188, 10, 181, 0, 26, 42, 16, 24, 188, 10, 181, 0, 29, 42, 16, 24, 188, 10, 181, 0, 32, 42]
abbrev dktX3_init_2 : List UInt8 := dkwX3_init_2 ++ dktX3_init_3
def dkwX3_init_1 : List UInt8 := [17, 1, 42, 188, 10, 181, 0, 16, 42, 5, 188, 4, 181, 0, 19, 42, 16, 20, 188, 10, 181, 0, 23, 42]
abbrev dktX3_init_1 : List UInt8 := dkwX3_init_1 ++ dktX3_init_2
def dkwX3_init_0 : List UInt8 := [42, 183, 0, 1, 42, 17, 0, 149, 188, 10, 181, 0, 7, 42, 17, 3, 126, 188, 10, 181, 0, 13, 42]
abbrev dktX3_init_0 : List UInt8 := dkwX3_init_0 ++ dktX3_init_1
theorem dksX3_init_0 : cX3_init.data.toList.drop 0 = dktX3_init_0 := by decide +kernel
theorem dksX3_init_1 : cX3_init.data.toList.drop 23 = dktX3_init_1 := dk_seg dksX3_init_0 23 rfl rfl
theorem dksX3_init_2 : cX3_init.data.toList.drop 47 = dktX3_init_2 := dk_seg dksX3_init_1 24 rfl rfl
theorem dksX3_init_3 : cX3_init.data.toList.drop 71 = dktX3_init_3 := dk_seg dksX3_init_2 24 rfl rfl
theorem dksX3_init_4 : cX3_init.data.toList.drop 95 = dktX3_init_4 := dk_seg dksX3_init_3 24 rfl rfl
theorem dX3_init_0 : decode cX3_init 0 = .ok (.aload_n 0, 1) := dk_42 (dk_at dksX3_init_0 0 rfl rfl)
theorem dX3_init_1 : decode cX3_init 1 = .ok (.invokespecial 1, 3) := dk_183 0 1 (dk_at dksX3_init_0 1 rfl rfl)
theorem dX3_init_4 : decode cX3_init 4 = .ok (.aload_n 0, 1) := dk_42 (dk_at dksX3_init_0 4 rfl rfl)
theorem dX3_init_5 : decode cX3_init 5 = .ok (.sipush 149, 3) := dk_17 0 149 (dk_at dksX3_init_0 5 rfl rfl)
theorem dX3_init_8 : decode cX3_init 8 = .ok (.newarray .int, 2) := dk_188_10 (dk_at dksX3_init_0 8 rfl rfl)
theorem dX3_init_10 : decode cX3_init 10 = .ok (.putfield 7, 3) := dk_181 0 7 (dk_at dksX3_init_0 10 rfl rfl)
theorem dX3_init_13 : decode cX3_init 13 = .ok (.aload_n 0, 1) := dk_42 (dk_at dksX3_init_0 13 rfl rfl)
theorem dX3_init_14 : decode cX3_init 14 = .ok (.sipush 894, 3) := dk_17 3 126 (dk_at dksX3_init_0 14 rfl rfl)
theorem dX3_init_17 : decode cX3_init 17 = .ok (.newarray .int, 2) := dk_188_10 (dk_at dksX3_init_0 17 rfl rfl)
theorem dX3_init_19 : decode cX3_init 19 = .ok (.putfield 13, 3) := dk_181 0 13 (dk_at dksX3_init_0 19 rfl rfl)
theorem dX3_init_22 : decode cX3_init 22 = .ok (.aload_n 0, 1) := dk_42 (dk_at dksX3_init_0 22 rfl rfl)
theorem dX3_init_23 : decode cX3_init 23 = .ok (.sipush 298, 3) := dk_17 1 42 (dk_at dksX3_init_1 0 rfl rfl)
theorem dX3_init_26 : decode cX3_init 26 = .ok (.newarray .int, 2) := dk_188_10 (dk_at dksX3_init_1 3 rfl rfl)
theorem dX3_init_28 : decode cX3_init 28 = .ok (.putfield 16, 3) := dk_181 0 16 (dk_at dksX3_init_1 5 rfl rfl)
theorem dX3_init_31 : decode cX3_init 31 = .ok (.aload_n 0, 1) := dk_42 (dk_at dksX3_init_1 8 rfl rfl)
theorem dX3_init_32 : decode cX3_init 32 = .ok (.iconst 2, 1) := dk_5 (dk_at dksX3_init_1 9 rfl rfl)
theorem dX3_init_33 : decode cX3_init 33 = .ok (.newarray .boolean, 2) := dk_188_4 (dk_at dksX3_init_1 10 rfl rfl)
theorem dX3_init_35 : decode cX3_init 35 = .ok (.putfield 19, 3) := dk_181 0 19 (dk_at dksX3_init_1 12 rfl rfl)
theorem dX3_init_38 : decode cX3_init 38 = .ok (.aload_n 0, 1) := dk_42 (dk_at dksX3_init_1 15 rfl rfl)
theorem dX3_init_39 : decode cX3_init 39 = .ok (.bipush 20, 2) := dk_16 20 (dk_at dksX3_init_1 16 rfl rfl)
theorem dX3_init_41 : decode cX3_init 41 = .ok (.newarray .int, 2) := dk_188_10 (dk_at dksX3_init_1 18 rfl rfl)
theorem dX3_init_43 : decode cX3_init 43 = .ok (.putfield 23, 3) := dk_181 0 23 (dk_at dksX3_init_1 20 rfl rfl)
theorem dX3_init_46 : decode cX3_init 46 = .ok (.aload_n 0, 1) := dk_42 (dk_at dksX3_init_1 23 rfl rfl)
theorem dX3_init_47 : decode cX3_init 47 = .ok (.bipush 60, 2) := dk_16 60 (dk_at dksX3_init_2 0 rfl rfl)
theorem dX3_init_49 : decode cX3_init 49 = .ok (.newarray .int, 2) := dk_188_10 (dk_at dksX3_init_2 2 rfl rfl)
theorem dX3_init_51 : decode cX3_init 51 = .ok (.putfield 26, 3) := dk_181 0 26 (dk_at dksX3_init_2 4 rfl rfl)
theorem dX3_init_54 : decode cX3_init 54 = .ok (.aload_n 0, 1) := dk_42 (dk_at dksX3_init_2 7 rfl rfl)
theorem dX3_init_55 : decode cX3_init 55 = .ok (.bipush 24, 2) := dk_16 24 (dk_at dksX3_init_2 8 rfl rfl)
theorem dX3_init_57 : decode cX3_init 57 = .ok (.newarray .int, 2) := dk_188_10 (dk_at dksX3_init_2 10 rfl rfl)
theorem dX3_init_59 : decode cX3_init 59 = .ok (.putfield 29, 3) := dk_181 0 29 (dk_at dksX3_init_2 12 rfl rfl)
theorem dX3_init_62 : decode cX3_init 62 = .ok (.aload_n 0, 1) := dk_42 (dk_at dksX3_init_2 15 rfl rfl)
theorem dX3_init_63 : decode cX3_init 63 = .ok (.bipush 24, 2) := dk_16 24 (dk_at dksX3_init_2 16 rfl rfl)
theorem dX3_init_65 : decode cX3_init 65 = .ok (.newarray .int, 2) := dk_188_10 (dk_at dksX3_init_2 18 rfl rfl)
theorem dX3_init_67 : decode cX3_init 67 = .ok (.putfield 32, 3) := dk_181 0 32 (dk_at dksX3_init_2 20 rfl rfl)
theorem dX3_init_70 : decode cX3_init 70 = .ok (.aload_n 0, 1) := dk_42 (dk_at dksX3_init_2 23 rfl rfl)
theorem dX3_init_71 : decode cX3_init 71 = .ok (.bipush 24, 2) := dk_16 24 (dk_at dksX3_init_3 0 rfl rfl)
theorem dX3_init_73 : decode cX3_init 73 = .ok (.newarray .int, 2) := dk_188_10 (dk_at dksX3_init_3 2 rfl rfl)
theorem dX3_init_75 : decode cX3_init 75 = .ok (.putfield 35, 3) := dk_181 0 35 (dk_at dksX3_init_3 4 rfl rfl)
theorem dX3_init_78 : decode cX3_init 78 = .ok (.aload_n 0, 1) := dk_42 (dk_at dksX3_init_3 7 rfl rfl)
theorem dX3_init_79 : decode cX3_init 79 = .ok (.getfield 7, 3) := dk_180 0 7 (dk_at dksX3_init_3 8 rfl rfl)
theorem dX3_init_82 : decode cX3_init 82 = .ok (.iconst 0, 1) := dk_3 (dk_at dksX3_init_3 11 rfl rfl)
theorem dX3_init_83 : decode cX3_init 83 = .ok (.bipush 10, 2) := dk_16 10 (dk_at dksX3_init_3 12 rfl rfl)
theorem dX3_init_85 : decode cX3_init 85 = .ok (.iastore, 1) := dk_79 (dk_at dksX3_init_3 14 rfl rfl)
theorem dX3_init_86 : decode cX3_init 86 = .ok (.aload_n 0, 1) := dk_42 (dk_at dksX3_init_3 15 rfl rfl)
theorem dX3_init_87 : decode cX3_init 87 = .ok (.getfield 7, 3) := dk_180 0 7 (dk_at dksX3_init_3 16 rfl rfl)
theorem dX3_init_90 : decode cX3_init 90 = .ok (.iconst 1, 1) := dk_4 (dk_at dksX3_init_3 19 rfl rfl)
theorem dX3_init_91 : decode cX3_init 91 = .ok (.sipush 300, 3) := dk_17 1 44 (dk_at dksX3_init_3 20 rfl rfl)
theorem dX3_init_94 : decode cX3_init 94 = .ok (.iastore, 1) := dk_79 (dk_at dksX3_init_3 23 rfl rfl)
theorem dX3_init_95 : decode cX3_init 95 = .ok (.aload_n 0, 1) := dk_42 (dk_at dksX3_init_4 0 rfl rfl)
theorem dX3_init_96 : decode cX3_init 96 = .ok (.getfield 7, 3) := dk_180 0 7 (dk_at dksX3_init_4 1 rfl rfl)
theorem dX3_init_99 : decode cX3_init 99 = .ok (.iconst 2, 1) := dk_5 (dk_at dksX3_init_4 4 rfl rfl)
theorem dX3_init_100 : decode cX3_init 100 = .ok (.iconst 3, 1) := dk_6 (dk_at dksX3_init_4 5 rfl rfl)
theorem dX3_init_101 : decode cX3_init 101 = .ok (.iastore, 1) := dk_79 (dk_at dksX3_init_4 6 rfl rfl)
theorem dX3_init_102 : decode cX3_init 102 = .ok (.aload_n 0, 1) := dk_42 (dk_at dksX3_init_4 7 rfl rfl)
theorem dX3_init_103 : decode cX3_init 103 = .ok (.getfield 7, 3) := dk_180 0 7 (dk_at dksX3_init_4 8 rfl rfl)
theorem dX3_init_106 : decode cX3_init 106 = .ok (.iconst 3, 1) := dk_6 (dk_at dksX3_init_4 11 rfl rfl)
theorem dX3_init_107 : decode cX3_init 107 = .ok (.bipush 40, 2) := dk_16 40 (dk_at dksX3_init_4 12 rfl rfl)
theorem dX3_init_109 : decode cX3_init 109 = .ok (.iastore, 1) := dk_79 (dk_at dksX3_init_4 14 rfl rfl)
theorem dX3_init_110 : decode cX3_init 110 = .ok (.return_, 1) := dk_177 (dk_at dksX3_init_4 15 rfl rfl)
abbrev cX3_thrown : ByteArray := prog_11_method_2_code
def yX3_thrown : MethodName := ⟨RX3, "thrown", "()I"⟩
theorem dX3_thrown_0 : decode cX3_thrown 0 = .ok (.aload_n 0, 1) := by decide +kernel
theorem dX3_thrown_1 : decode cX3_thrown 1 = .ok (.getfield 38, 3) := by decide +kernel
theorem dX3_thrown_4 : decode cX3_thrown 4 = .ok (.ireturn, 1) := by decide +kernel
abbrev cX3_undo : ByteArray := prog_11_method_12_code
def yX3_undo : MethodName := ⟨RX3, "undo", "()I"⟩
def dkwX3_undo_2 : List UInt8 := [17, 0, 149, 42, 180, 0, 47, 104, 27, 96, 46, 79, 132, 1, 1, 167, 255, 225, 42, 180, 0, 47, 172]
abbrev dktX3_undo_2 : List UInt8 := dkwX3_undo_2 ++ []
def dkwX3_undo_1 : List UInt8 := [100, 181, 0, 47, 3, 60, 27, 17, 0, 149, 162, 0, 30, 42, 180, 0, 7, 27, 42, 180, 0, 13]
abbrev dktX3_undo_1 : List UInt8 := dkwX3_undo_1 ++ dktX3_undo_2
def dkwX3_undo_0 : List UInt8 := [42, 3, 181, 0, 38, 42, 180, 0, 47, 154, 0, 9, 42, 4, 182, 0, 50, 172, 42, 89, 180, 0, 47, 4]
abbrev dktX3_undo_0 : List UInt8 := dkwX3_undo_0 ++ dktX3_undo_1
theorem dksX3_undo_0 : cX3_undo.data.toList.drop 0 = dktX3_undo_0 := by decide +kernel
theorem dksX3_undo_1 : cX3_undo.data.toList.drop 24 = dktX3_undo_1 := dk_seg dksX3_undo_0 24 rfl rfl
theorem dksX3_undo_2 : cX3_undo.data.toList.drop 46 = dktX3_undo_2 := dk_seg dksX3_undo_1 22 rfl rfl
theorem dX3_undo_0 : decode cX3_undo 0 = .ok (.aload_n 0, 1) := dk_42 (dk_at dksX3_undo_0 0 rfl rfl)
theorem dX3_undo_1 : decode cX3_undo 1 = .ok (.iconst 0, 1) := dk_3 (dk_at dksX3_undo_0 1 rfl rfl)
theorem dX3_undo_2 : decode cX3_undo 2 = .ok (.putfield 38, 3) := dk_181 0 38 (dk_at dksX3_undo_0 2 rfl rfl)
theorem dX3_undo_5 : decode cX3_undo 5 = .ok (.aload_n 0, 1) := dk_42 (dk_at dksX3_undo_0 5 rfl rfl)
theorem dX3_undo_6 : decode cX3_undo 6 = .ok (.getfield 47, 3) := dk_180 0 47 (dk_at dksX3_undo_0 6 rfl rfl)
theorem dX3_undo_9 : decode cX3_undo 9 = .ok (.ifCond .ne 9, 3) := dk_154 0 9 (dk_at dksX3_undo_0 9 rfl rfl)
theorem dX3_undo_12 : decode cX3_undo 12 = .ok (.aload_n 0, 1) := dk_42 (dk_at dksX3_undo_0 12 rfl rfl)
theorem dX3_undo_13 : decode cX3_undo 13 = .ok (.iconst 1, 1) := dk_4 (dk_at dksX3_undo_0 13 rfl rfl)
theorem dX3_undo_14 : decode cX3_undo 14 = .ok (.invokevirtual 50, 3) := dk_182 0 50 (dk_at dksX3_undo_0 14 rfl rfl)
theorem dX3_undo_17 : decode cX3_undo 17 = .ok (.ireturn, 1) := dk_172 (dk_at dksX3_undo_0 17 rfl rfl)
theorem dX3_undo_18 : decode cX3_undo 18 = .ok (.aload_n 0, 1) := dk_42 (dk_at dksX3_undo_0 18 rfl rfl)
theorem dX3_undo_19 : decode cX3_undo 19 = .ok (.dup, 1) := dk_89 (dk_at dksX3_undo_0 19 rfl rfl)
theorem dX3_undo_20 : decode cX3_undo 20 = .ok (.getfield 47, 3) := dk_180 0 47 (dk_at dksX3_undo_0 20 rfl rfl)
theorem dX3_undo_23 : decode cX3_undo 23 = .ok (.iconst 1, 1) := dk_4 (dk_at dksX3_undo_0 23 rfl rfl)
theorem dX3_undo_24 : decode cX3_undo 24 = .ok (.isub, 1) := dk_100 (dk_at dksX3_undo_1 0 rfl rfl)
theorem dX3_undo_25 : decode cX3_undo 25 = .ok (.putfield 47, 3) := dk_181 0 47 (dk_at dksX3_undo_1 1 rfl rfl)
theorem dX3_undo_28 : decode cX3_undo 28 = .ok (.iconst 0, 1) := dk_3 (dk_at dksX3_undo_1 4 rfl rfl)
theorem dX3_undo_29 : decode cX3_undo 29 = .ok (.istore_n 1, 1) := dk_60 (dk_at dksX3_undo_1 5 rfl rfl)
theorem dX3_undo_30 : decode cX3_undo 30 = .ok (.iload_n 1, 1) := dk_27 (dk_at dksX3_undo_1 6 rfl rfl)
theorem dX3_undo_31 : decode cX3_undo 31 = .ok (.sipush 149, 3) := dk_17 0 149 (dk_at dksX3_undo_1 7 rfl rfl)
theorem dX3_undo_34 : decode cX3_undo 34 = .ok (.if_icmp .ge 30, 3) := dk_162 0 30 (dk_at dksX3_undo_1 10 rfl rfl)
theorem dX3_undo_37 : decode cX3_undo 37 = .ok (.aload_n 0, 1) := dk_42 (dk_at dksX3_undo_1 13 rfl rfl)
theorem dX3_undo_38 : decode cX3_undo 38 = .ok (.getfield 7, 3) := dk_180 0 7 (dk_at dksX3_undo_1 14 rfl rfl)
theorem dX3_undo_41 : decode cX3_undo 41 = .ok (.iload_n 1, 1) := dk_27 (dk_at dksX3_undo_1 17 rfl rfl)
theorem dX3_undo_42 : decode cX3_undo 42 = .ok (.aload_n 0, 1) := dk_42 (dk_at dksX3_undo_1 18 rfl rfl)
theorem dX3_undo_43 : decode cX3_undo 43 = .ok (.getfield 13, 3) := dk_180 0 13 (dk_at dksX3_undo_1 19 rfl rfl)
theorem dX3_undo_46 : decode cX3_undo 46 = .ok (.sipush 149, 3) := dk_17 0 149 (dk_at dksX3_undo_2 0 rfl rfl)
theorem dX3_undo_49 : decode cX3_undo 49 = .ok (.aload_n 0, 1) := dk_42 (dk_at dksX3_undo_2 3 rfl rfl)
theorem dX3_undo_50 : decode cX3_undo 50 = .ok (.getfield 47, 3) := dk_180 0 47 (dk_at dksX3_undo_2 4 rfl rfl)
theorem dX3_undo_53 : decode cX3_undo 53 = .ok (.imul, 1) := dk_104 (dk_at dksX3_undo_2 7 rfl rfl)
theorem dX3_undo_54 : decode cX3_undo 54 = .ok (.iload_n 1, 1) := dk_27 (dk_at dksX3_undo_2 8 rfl rfl)
theorem dX3_undo_55 : decode cX3_undo 55 = .ok (.iadd, 1) := dk_96 (dk_at dksX3_undo_2 9 rfl rfl)
theorem dX3_undo_56 : decode cX3_undo 56 = .ok (.iaload, 1) := dk_46 (dk_at dksX3_undo_2 10 rfl rfl)
theorem dX3_undo_57 : decode cX3_undo 57 = .ok (.iastore, 1) := dk_79 (dk_at dksX3_undo_2 11 rfl rfl)
theorem dX3_undo_58 : decode cX3_undo 58 = .ok (.iinc 1 1, 3) := dk_132 1 1 (dk_at dksX3_undo_2 12 rfl rfl)
theorem dX3_undo_61 : decode cX3_undo 61 = .ok (.goto (-31), 3) := dk_167 255 225 (dk_at dksX3_undo_2 15 rfl rfl)
theorem dX3_undo_64 : decode cX3_undo 64 = .ok (.aload_n 0, 1) := dk_42 (dk_at dksX3_undo_2 18 rfl rfl)
theorem dX3_undo_65 : decode cX3_undo 65 = .ok (.getfield 47, 3) := dk_180 0 47 (dk_at dksX3_undo_2 19 rfl rfl)
theorem dX3_undo_68 : decode cX3_undo 68 = .ok (.ireturn, 1) := dk_172 (dk_at dksX3_undo_2 22 rfl rfl)
abbrev cX3_fails : ByteArray := prog_11_method_3_code
def yX3_fails : MethodName := ⟨RX3, "fails", "(I)I"⟩
def dkwX3_fails_0 : List UInt8 := [42, 27, 181, 0, 38, 3, 172]
abbrev dktX3_fails_0 : List UInt8 := dkwX3_fails_0 ++ []
theorem dksX3_fails_0 : cX3_fails.data.toList.drop 0 = dktX3_fails_0 := by decide +kernel
theorem dX3_fails_0 : decode cX3_fails 0 = .ok (.aload_n 0, 1) := dk_42 (dk_at dksX3_fails_0 0 rfl rfl)
theorem dX3_fails_1 : decode cX3_fails 1 = .ok (.iload_n 1, 1) := dk_27 (dk_at dksX3_fails_0 1 rfl rfl)
theorem dX3_fails_2 : decode cX3_fails 2 = .ok (.putfield 38, 3) := dk_181 0 38 (dk_at dksX3_fails_0 2 rfl rfl)
theorem dX3_fails_5 : decode cX3_fails 5 = .ok (.iconst 0, 1) := dk_3 (dk_at dksX3_fails_0 5 rfl rfl)
theorem dX3_fails_6 : decode cX3_fails 6 = .ok (.ireturn, 1) := dk_172 (dk_at dksX3_fails_0 6 rfl rfl)
abbrev cX3_keep : ByteArray := prog_11_method_13_code
def yX3_keep : MethodName := ⟨RX3, "keep", "(I)I"⟩
def dkwX3_keep_2 : List UInt8 := [132, 2, 1, 167, 255, 228, 42, 180, 0, 19, 27, 4, 84, 42, 180, 0, 7, 16, 8, 46, 172]
abbrev dktX3_keep_2 : List UInt8 := dkwX3_keep_2 ++ []
def dkwX3_keep_1 : List UInt8 := [17, 0, 149, 162, 0, 27, 42, 180, 0, 16, 17, 0, 149, 27, 104, 28, 96, 42, 180, 0, 7, 28, 46, 79]
abbrev dktX3_keep_1 : List UInt8 := dkwX3_keep_1 ++ dktX3_keep_2
def dkwX3_keep_0 : List UInt8 := [42, 3, 181, 0, 38, 27, 3, 4, 184, 0, 42, 154, 0, 9, 42, 4, 182, 0, 50, 172, 3, 61, 28]
abbrev dktX3_keep_0 : List UInt8 := dkwX3_keep_0 ++ dktX3_keep_1
theorem dksX3_keep_0 : cX3_keep.data.toList.drop 0 = dktX3_keep_0 := by decide +kernel
theorem dksX3_keep_1 : cX3_keep.data.toList.drop 23 = dktX3_keep_1 := dk_seg dksX3_keep_0 23 rfl rfl
theorem dksX3_keep_2 : cX3_keep.data.toList.drop 47 = dktX3_keep_2 := dk_seg dksX3_keep_1 24 rfl rfl
theorem dX3_keep_0 : decode cX3_keep 0 = .ok (.aload_n 0, 1) := dk_42 (dk_at dksX3_keep_0 0 rfl rfl)
theorem dX3_keep_1 : decode cX3_keep 1 = .ok (.iconst 0, 1) := dk_3 (dk_at dksX3_keep_0 1 rfl rfl)
theorem dX3_keep_2 : decode cX3_keep 2 = .ok (.putfield 38, 3) := dk_181 0 38 (dk_at dksX3_keep_0 2 rfl rfl)
theorem dX3_keep_5 : decode cX3_keep 5 = .ok (.iload_n 1, 1) := dk_27 (dk_at dksX3_keep_0 5 rfl rfl)
theorem dX3_keep_6 : decode cX3_keep 6 = .ok (.iconst 0, 1) := dk_3 (dk_at dksX3_keep_0 6 rfl rfl)
theorem dX3_keep_7 : decode cX3_keep 7 = .ok (.iconst 1, 1) := dk_4 (dk_at dksX3_keep_0 7 rfl rfl)
theorem dX3_keep_8 : decode cX3_keep 8 = .ok (.invokestatic 42, 3) := dk_184 0 42 (dk_at dksX3_keep_0 8 rfl rfl)
theorem dX3_keep_11 : decode cX3_keep 11 = .ok (.ifCond .ne 9, 3) := dk_154 0 9 (dk_at dksX3_keep_0 11 rfl rfl)
theorem dX3_keep_14 : decode cX3_keep 14 = .ok (.aload_n 0, 1) := dk_42 (dk_at dksX3_keep_0 14 rfl rfl)
theorem dX3_keep_15 : decode cX3_keep 15 = .ok (.iconst 1, 1) := dk_4 (dk_at dksX3_keep_0 15 rfl rfl)
theorem dX3_keep_16 : decode cX3_keep 16 = .ok (.invokevirtual 50, 3) := dk_182 0 50 (dk_at dksX3_keep_0 16 rfl rfl)
theorem dX3_keep_19 : decode cX3_keep 19 = .ok (.ireturn, 1) := dk_172 (dk_at dksX3_keep_0 19 rfl rfl)
theorem dX3_keep_20 : decode cX3_keep 20 = .ok (.iconst 0, 1) := dk_3 (dk_at dksX3_keep_0 20 rfl rfl)
theorem dX3_keep_21 : decode cX3_keep 21 = .ok (.istore_n 2, 1) := dk_61 (dk_at dksX3_keep_0 21 rfl rfl)
theorem dX3_keep_22 : decode cX3_keep 22 = .ok (.iload_n 2, 1) := dk_28 (dk_at dksX3_keep_0 22 rfl rfl)
theorem dX3_keep_23 : decode cX3_keep 23 = .ok (.sipush 149, 3) := dk_17 0 149 (dk_at dksX3_keep_1 0 rfl rfl)
theorem dX3_keep_26 : decode cX3_keep 26 = .ok (.if_icmp .ge 27, 3) := dk_162 0 27 (dk_at dksX3_keep_1 3 rfl rfl)
theorem dX3_keep_29 : decode cX3_keep 29 = .ok (.aload_n 0, 1) := dk_42 (dk_at dksX3_keep_1 6 rfl rfl)
theorem dX3_keep_30 : decode cX3_keep 30 = .ok (.getfield 16, 3) := dk_180 0 16 (dk_at dksX3_keep_1 7 rfl rfl)
theorem dX3_keep_33 : decode cX3_keep 33 = .ok (.sipush 149, 3) := dk_17 0 149 (dk_at dksX3_keep_1 10 rfl rfl)
theorem dX3_keep_36 : decode cX3_keep 36 = .ok (.iload_n 1, 1) := dk_27 (dk_at dksX3_keep_1 13 rfl rfl)
theorem dX3_keep_37 : decode cX3_keep 37 = .ok (.imul, 1) := dk_104 (dk_at dksX3_keep_1 14 rfl rfl)
theorem dX3_keep_38 : decode cX3_keep 38 = .ok (.iload_n 2, 1) := dk_28 (dk_at dksX3_keep_1 15 rfl rfl)
theorem dX3_keep_39 : decode cX3_keep 39 = .ok (.iadd, 1) := dk_96 (dk_at dksX3_keep_1 16 rfl rfl)
theorem dX3_keep_40 : decode cX3_keep 40 = .ok (.aload_n 0, 1) := dk_42 (dk_at dksX3_keep_1 17 rfl rfl)
theorem dX3_keep_41 : decode cX3_keep 41 = .ok (.getfield 7, 3) := dk_180 0 7 (dk_at dksX3_keep_1 18 rfl rfl)
theorem dX3_keep_44 : decode cX3_keep 44 = .ok (.iload_n 2, 1) := dk_28 (dk_at dksX3_keep_1 21 rfl rfl)
theorem dX3_keep_45 : decode cX3_keep 45 = .ok (.iaload, 1) := dk_46 (dk_at dksX3_keep_1 22 rfl rfl)
theorem dX3_keep_46 : decode cX3_keep 46 = .ok (.iastore, 1) := dk_79 (dk_at dksX3_keep_1 23 rfl rfl)
theorem dX3_keep_47 : decode cX3_keep 47 = .ok (.iinc 2 1, 3) := dk_132 2 1 (dk_at dksX3_keep_2 0 rfl rfl)
theorem dX3_keep_50 : decode cX3_keep 50 = .ok (.goto (-28), 3) := dk_167 255 228 (dk_at dksX3_keep_2 3 rfl rfl)
theorem dX3_keep_53 : decode cX3_keep 53 = .ok (.aload_n 0, 1) := dk_42 (dk_at dksX3_keep_2 6 rfl rfl)
theorem dX3_keep_54 : decode cX3_keep 54 = .ok (.getfield 19, 3) := dk_180 0 19 (dk_at dksX3_keep_2 7 rfl rfl)
theorem dX3_keep_57 : decode cX3_keep 57 = .ok (.iload_n 1, 1) := dk_27 (dk_at dksX3_keep_2 10 rfl rfl)
theorem dX3_keep_58 : decode cX3_keep 58 = .ok (.iconst 1, 1) := dk_4 (dk_at dksX3_keep_2 11 rfl rfl)
theorem dX3_keep_59 : decode cX3_keep 59 = .ok (.bastore, 1) := dk_84 (dk_at dksX3_keep_2 12 rfl rfl)
theorem dX3_keep_60 : decode cX3_keep 60 = .ok (.aload_n 0, 1) := dk_42 (dk_at dksX3_keep_2 13 rfl rfl)
theorem dX3_keep_61 : decode cX3_keep 61 = .ok (.getfield 7, 3) := dk_180 0 7 (dk_at dksX3_keep_2 14 rfl rfl)
theorem dX3_keep_64 : decode cX3_keep 64 = .ok (.bipush 8, 2) := dk_16 8 (dk_at dksX3_keep_2 17 rfl rfl)
theorem dX3_keep_66 : decode cX3_keep 66 = .ok (.iaload, 1) := dk_46 (dk_at dksX3_keep_2 19 rfl rfl)
theorem dX3_keep_67 : decode cX3_keep 67 = .ok (.ireturn, 1) := dk_172 (dk_at dksX3_keep_2 20 rfl rfl)
abbrev cX3_in : ByteArray := prog_11_method_4_code
def yX3_in : MethodName := ⟨RX3, "in", "(III)Z"⟩
def dkwX3_in_0 : List UInt8 := [26, 27, 161, 0, 12, 26, 28, 163, 0, 7, 4, 167, 0, 4, 3, 172]
abbrev dktX3_in_0 : List UInt8 := dkwX3_in_0 ++ []
theorem dksX3_in_0 : cX3_in.data.toList.drop 0 = dktX3_in_0 := by decide +kernel
theorem dX3_in_0 : decode cX3_in 0 = .ok (.iload_n 0, 1) := dk_26 (dk_at dksX3_in_0 0 rfl rfl)
theorem dX3_in_1 : decode cX3_in 1 = .ok (.iload_n 1, 1) := dk_27 (dk_at dksX3_in_0 1 rfl rfl)
theorem dX3_in_2 : decode cX3_in 2 = .ok (.if_icmp .lt 12, 3) := dk_161 0 12 (dk_at dksX3_in_0 2 rfl rfl)
theorem dX3_in_5 : decode cX3_in 5 = .ok (.iload_n 0, 1) := dk_26 (dk_at dksX3_in_0 5 rfl rfl)
theorem dX3_in_6 : decode cX3_in 6 = .ok (.iload_n 2, 1) := dk_28 (dk_at dksX3_in_0 6 rfl rfl)
theorem dX3_in_7 : decode cX3_in 7 = .ok (.if_icmp .gt 7, 3) := dk_163 0 7 (dk_at dksX3_in_0 7 rfl rfl)
theorem dX3_in_10 : decode cX3_in 10 = .ok (.iconst 1, 1) := dk_4 (dk_at dksX3_in_0 10 rfl rfl)
theorem dX3_in_11 : decode cX3_in 11 = .ok (.goto 4, 3) := dk_167 0 4 (dk_at dksX3_in_0 11 rfl rfl)
theorem dX3_in_14 : decode cX3_in 14 = .ok (.iconst 0, 1) := dk_3 (dk_at dksX3_in_0 14 rfl rfl)
theorem dX3_in_15 : decode cX3_in 15 = .ok (.ireturn, 1) := dk_172 (dk_at dksX3_in_0 15 rfl rfl)
abbrev cX3_goBack : ByteArray := prog_11_method_14_code
def yX3_goBack : MethodName := ⟨RX3, "goBack", "(I)I"⟩
def dkwX3_goBack_3 : List UInt8 := [42, 180, 0, 7, 16, 8, 46, 172]
abbrev dktX3_goBack_3 : List UInt8 := dkwX3_goBack_3 ++ []
def dkwX3_goBack_2 : List UInt8 := [42, 180, 0, 7, 28, 42, 180, 0, 16, 17, 0, 149, 27, 104, 28, 96, 46, 79, 132, 2, 1, 167, 255, 228]
abbrev dktX3_goBack_2 : List UInt8 := dkwX3_goBack_2 ++ dktX3_goBack_3
def dkwX3_goBack_1 : List UInt8 := [27, 51, 154, 0, 9, 42, 5, 182, 0, 50, 172, 42, 182, 0, 54, 3, 61, 28, 17, 0, 149, 162, 0, 27]
abbrev dktX3_goBack_1 : List UInt8 := dkwX3_goBack_1 ++ dktX3_goBack_2
def dkwX3_goBack_0 : List UInt8 := [42, 3, 181, 0, 38, 27, 3, 4, 184, 0, 42, 154, 0, 9, 42, 4, 182, 0, 50, 172, 42, 180, 0, 19]
abbrev dktX3_goBack_0 : List UInt8 := dkwX3_goBack_0 ++ dktX3_goBack_1
theorem dksX3_goBack_0 : cX3_goBack.data.toList.drop 0 = dktX3_goBack_0 := by decide +kernel
theorem dksX3_goBack_1 : cX3_goBack.data.toList.drop 24 = dktX3_goBack_1 := dk_seg dksX3_goBack_0 24 rfl rfl
theorem dksX3_goBack_2 : cX3_goBack.data.toList.drop 48 = dktX3_goBack_2 := dk_seg dksX3_goBack_1 24 rfl rfl
theorem dksX3_goBack_3 : cX3_goBack.data.toList.drop 72 = dktX3_goBack_3 := dk_seg dksX3_goBack_2 24 rfl rfl
theorem dX3_goBack_0 : decode cX3_goBack 0 = .ok (.aload_n 0, 1) := dk_42 (dk_at dksX3_goBack_0 0 rfl rfl)
theorem dX3_goBack_1 : decode cX3_goBack 1 = .ok (.iconst 0, 1) := dk_3 (dk_at dksX3_goBack_0 1 rfl rfl)
theorem dX3_goBack_2 : decode cX3_goBack 2 = .ok (.putfield 38, 3) := dk_181 0 38 (dk_at dksX3_goBack_0 2 rfl rfl)
theorem dX3_goBack_5 : decode cX3_goBack 5 = .ok (.iload_n 1, 1) := dk_27 (dk_at dksX3_goBack_0 5 rfl rfl)
theorem dX3_goBack_6 : decode cX3_goBack 6 = .ok (.iconst 0, 1) := dk_3 (dk_at dksX3_goBack_0 6 rfl rfl)
theorem dX3_goBack_7 : decode cX3_goBack 7 = .ok (.iconst 1, 1) := dk_4 (dk_at dksX3_goBack_0 7 rfl rfl)
theorem dX3_goBack_8 : decode cX3_goBack 8 = .ok (.invokestatic 42, 3) := dk_184 0 42 (dk_at dksX3_goBack_0 8 rfl rfl)
theorem dX3_goBack_11 : decode cX3_goBack 11 = .ok (.ifCond .ne 9, 3) := dk_154 0 9 (dk_at dksX3_goBack_0 11 rfl rfl)
theorem dX3_goBack_14 : decode cX3_goBack 14 = .ok (.aload_n 0, 1) := dk_42 (dk_at dksX3_goBack_0 14 rfl rfl)
theorem dX3_goBack_15 : decode cX3_goBack 15 = .ok (.iconst 1, 1) := dk_4 (dk_at dksX3_goBack_0 15 rfl rfl)
theorem dX3_goBack_16 : decode cX3_goBack 16 = .ok (.invokevirtual 50, 3) := dk_182 0 50 (dk_at dksX3_goBack_0 16 rfl rfl)
theorem dX3_goBack_19 : decode cX3_goBack 19 = .ok (.ireturn, 1) := dk_172 (dk_at dksX3_goBack_0 19 rfl rfl)
theorem dX3_goBack_20 : decode cX3_goBack 20 = .ok (.aload_n 0, 1) := dk_42 (dk_at dksX3_goBack_0 20 rfl rfl)
theorem dX3_goBack_21 : decode cX3_goBack 21 = .ok (.getfield 19, 3) := dk_180 0 19 (dk_at dksX3_goBack_0 21 rfl rfl)
theorem dX3_goBack_24 : decode cX3_goBack 24 = .ok (.iload_n 1, 1) := dk_27 (dk_at dksX3_goBack_1 0 rfl rfl)
theorem dX3_goBack_25 : decode cX3_goBack 25 = .ok (.baload, 1) := dk_51 (dk_at dksX3_goBack_1 1 rfl rfl)
theorem dX3_goBack_26 : decode cX3_goBack 26 = .ok (.ifCond .ne 9, 3) := dk_154 0 9 (dk_at dksX3_goBack_1 2 rfl rfl)
theorem dX3_goBack_29 : decode cX3_goBack 29 = .ok (.aload_n 0, 1) := dk_42 (dk_at dksX3_goBack_1 5 rfl rfl)
theorem dX3_goBack_30 : decode cX3_goBack 30 = .ok (.iconst 2, 1) := dk_5 (dk_at dksX3_goBack_1 6 rfl rfl)
theorem dX3_goBack_31 : decode cX3_goBack 31 = .ok (.invokevirtual 50, 3) := dk_182 0 50 (dk_at dksX3_goBack_1 7 rfl rfl)
theorem dX3_goBack_34 : decode cX3_goBack 34 = .ok (.ireturn, 1) := dk_172 (dk_at dksX3_goBack_1 10 rfl rfl)
theorem dX3_goBack_35 : decode cX3_goBack 35 = .ok (.aload_n 0, 1) := dk_42 (dk_at dksX3_goBack_1 11 rfl rfl)
theorem dX3_goBack_36 : decode cX3_goBack 36 = .ok (.invokevirtual 54, 3) := dk_182 0 54 (dk_at dksX3_goBack_1 12 rfl rfl)
theorem dX3_goBack_39 : decode cX3_goBack 39 = .ok (.iconst 0, 1) := dk_3 (dk_at dksX3_goBack_1 15 rfl rfl)
theorem dX3_goBack_40 : decode cX3_goBack 40 = .ok (.istore_n 2, 1) := dk_61 (dk_at dksX3_goBack_1 16 rfl rfl)
theorem dX3_goBack_41 : decode cX3_goBack 41 = .ok (.iload_n 2, 1) := dk_28 (dk_at dksX3_goBack_1 17 rfl rfl)
theorem dX3_goBack_42 : decode cX3_goBack 42 = .ok (.sipush 149, 3) := dk_17 0 149 (dk_at dksX3_goBack_1 18 rfl rfl)
theorem dX3_goBack_45 : decode cX3_goBack 45 = .ok (.if_icmp .ge 27, 3) := dk_162 0 27 (dk_at dksX3_goBack_1 21 rfl rfl)
theorem dX3_goBack_48 : decode cX3_goBack 48 = .ok (.aload_n 0, 1) := dk_42 (dk_at dksX3_goBack_2 0 rfl rfl)
theorem dX3_goBack_49 : decode cX3_goBack 49 = .ok (.getfield 7, 3) := dk_180 0 7 (dk_at dksX3_goBack_2 1 rfl rfl)
theorem dX3_goBack_52 : decode cX3_goBack 52 = .ok (.iload_n 2, 1) := dk_28 (dk_at dksX3_goBack_2 4 rfl rfl)
theorem dX3_goBack_53 : decode cX3_goBack 53 = .ok (.aload_n 0, 1) := dk_42 (dk_at dksX3_goBack_2 5 rfl rfl)
theorem dX3_goBack_54 : decode cX3_goBack 54 = .ok (.getfield 16, 3) := dk_180 0 16 (dk_at dksX3_goBack_2 6 rfl rfl)
theorem dX3_goBack_57 : decode cX3_goBack 57 = .ok (.sipush 149, 3) := dk_17 0 149 (dk_at dksX3_goBack_2 9 rfl rfl)
theorem dX3_goBack_60 : decode cX3_goBack 60 = .ok (.iload_n 1, 1) := dk_27 (dk_at dksX3_goBack_2 12 rfl rfl)
theorem dX3_goBack_61 : decode cX3_goBack 61 = .ok (.imul, 1) := dk_104 (dk_at dksX3_goBack_2 13 rfl rfl)
theorem dX3_goBack_62 : decode cX3_goBack 62 = .ok (.iload_n 2, 1) := dk_28 (dk_at dksX3_goBack_2 14 rfl rfl)
theorem dX3_goBack_63 : decode cX3_goBack 63 = .ok (.iadd, 1) := dk_96 (dk_at dksX3_goBack_2 15 rfl rfl)
theorem dX3_goBack_64 : decode cX3_goBack 64 = .ok (.iaload, 1) := dk_46 (dk_at dksX3_goBack_2 16 rfl rfl)
theorem dX3_goBack_65 : decode cX3_goBack 65 = .ok (.iastore, 1) := dk_79 (dk_at dksX3_goBack_2 17 rfl rfl)
theorem dX3_goBack_66 : decode cX3_goBack 66 = .ok (.iinc 2 1, 3) := dk_132 2 1 (dk_at dksX3_goBack_2 18 rfl rfl)
theorem dX3_goBack_69 : decode cX3_goBack 69 = .ok (.goto (-28), 3) := dk_167 255 228 (dk_at dksX3_goBack_2 21 rfl rfl)
theorem dX3_goBack_72 : decode cX3_goBack 72 = .ok (.aload_n 0, 1) := dk_42 (dk_at dksX3_goBack_3 0 rfl rfl)
theorem dX3_goBack_73 : decode cX3_goBack 73 = .ok (.getfield 7, 3) := dk_180 0 7 (dk_at dksX3_goBack_3 1 rfl rfl)
theorem dX3_goBack_76 : decode cX3_goBack 76 = .ok (.bipush 8, 2) := dk_16 8 (dk_at dksX3_goBack_3 4 rfl rfl)
theorem dX3_goBack_78 : decode cX3_goBack 78 = .ok (.iaload, 1) := dk_46 (dk_at dksX3_goBack_3 6 rfl rfl)
theorem dX3_goBack_79 : decode cX3_goBack 79 = .ok (.ireturn, 1) := dk_172 (dk_at dksX3_goBack_3 7 rfl rfl)
abbrev cX3_save : ByteArray := prog_11_method_11_code
def yX3_save : MethodName := ⟨RX3, "save", "()V"⟩
def dkwX3_save_4 : List UInt8 := [181, 0, 47, 177]
abbrev dktX3_save_4 : List UInt8 := dkwX3_save_4 ++ []
def dkwX3_save_3 : List UInt8 := [27, 96, 42, 180, 0, 7, 27, 46, 79, 132, 1, 1, 167, 255, 225, 42, 89, 180, 0, 47, 4, 96]
abbrev dktX3_save_3 : List UInt8 := dkwX3_save_3 ++ dktX3_save_4
def dkwX3_save_2 : List UInt8 := [181, 0, 47, 3, 60, 27, 17, 0, 149, 162, 0, 30, 42, 180, 0, 13, 17, 0, 149, 42, 180, 0, 47, 104]
abbrev dktX3_save_2 : List UInt8 := dkwX3_save_2 ++ dktX3_save_3
def dkwX3_save_1 : List UInt8 := [180, 0, 13, 27, 17, 0, 149, 96, 46, 79, 132, 1, 1, 167, 255, 230, 42, 89, 180, 0, 47, 4, 100]
abbrev dktX3_save_1 : List UInt8 := dkwX3_save_1 ++ dktX3_save_2
def dkwX3_save_0 : List UInt8 := [42, 180, 0, 47, 16, 6, 160, 0, 44, 3, 60, 27, 17, 2, 233, 162, 0, 25, 42, 180, 0, 13, 27, 42]
abbrev dktX3_save_0 : List UInt8 := dkwX3_save_0 ++ dktX3_save_1
theorem dksX3_save_0 : cX3_save.data.toList.drop 0 = dktX3_save_0 := by decide +kernel
theorem dksX3_save_1 : cX3_save.data.toList.drop 24 = dktX3_save_1 := dk_seg dksX3_save_0 24 rfl rfl
theorem dksX3_save_2 : cX3_save.data.toList.drop 47 = dktX3_save_2 := dk_seg dksX3_save_1 23 rfl rfl
theorem dksX3_save_3 : cX3_save.data.toList.drop 71 = dktX3_save_3 := dk_seg dksX3_save_2 24 rfl rfl
theorem dksX3_save_4 : cX3_save.data.toList.drop 93 = dktX3_save_4 := dk_seg dksX3_save_3 22 rfl rfl
theorem dX3_save_0 : decode cX3_save 0 = .ok (.aload_n 0, 1) := dk_42 (dk_at dksX3_save_0 0 rfl rfl)
theorem dX3_save_1 : decode cX3_save 1 = .ok (.getfield 47, 3) := dk_180 0 47 (dk_at dksX3_save_0 1 rfl rfl)
theorem dX3_save_4 : decode cX3_save 4 = .ok (.bipush 6, 2) := dk_16 6 (dk_at dksX3_save_0 4 rfl rfl)
theorem dX3_save_6 : decode cX3_save 6 = .ok (.if_icmp .ne 44, 3) := dk_160 0 44 (dk_at dksX3_save_0 6 rfl rfl)
theorem dX3_save_9 : decode cX3_save 9 = .ok (.iconst 0, 1) := dk_3 (dk_at dksX3_save_0 9 rfl rfl)
theorem dX3_save_10 : decode cX3_save 10 = .ok (.istore_n 1, 1) := dk_60 (dk_at dksX3_save_0 10 rfl rfl)
theorem dX3_save_11 : decode cX3_save 11 = .ok (.iload_n 1, 1) := dk_27 (dk_at dksX3_save_0 11 rfl rfl)
theorem dX3_save_12 : decode cX3_save 12 = .ok (.sipush 745, 3) := dk_17 2 233 (dk_at dksX3_save_0 12 rfl rfl)
theorem dX3_save_15 : decode cX3_save 15 = .ok (.if_icmp .ge 25, 3) := dk_162 0 25 (dk_at dksX3_save_0 15 rfl rfl)
theorem dX3_save_18 : decode cX3_save 18 = .ok (.aload_n 0, 1) := dk_42 (dk_at dksX3_save_0 18 rfl rfl)
theorem dX3_save_19 : decode cX3_save 19 = .ok (.getfield 13, 3) := dk_180 0 13 (dk_at dksX3_save_0 19 rfl rfl)
theorem dX3_save_22 : decode cX3_save 22 = .ok (.iload_n 1, 1) := dk_27 (dk_at dksX3_save_0 22 rfl rfl)
theorem dX3_save_23 : decode cX3_save 23 = .ok (.aload_n 0, 1) := dk_42 (dk_at dksX3_save_0 23 rfl rfl)
theorem dX3_save_24 : decode cX3_save 24 = .ok (.getfield 13, 3) := dk_180 0 13 (dk_at dksX3_save_1 0 rfl rfl)
theorem dX3_save_27 : decode cX3_save 27 = .ok (.iload_n 1, 1) := dk_27 (dk_at dksX3_save_1 3 rfl rfl)
theorem dX3_save_28 : decode cX3_save 28 = .ok (.sipush 149, 3) := dk_17 0 149 (dk_at dksX3_save_1 4 rfl rfl)
theorem dX3_save_31 : decode cX3_save 31 = .ok (.iadd, 1) := dk_96 (dk_at dksX3_save_1 7 rfl rfl)
theorem dX3_save_32 : decode cX3_save 32 = .ok (.iaload, 1) := dk_46 (dk_at dksX3_save_1 8 rfl rfl)
theorem dX3_save_33 : decode cX3_save 33 = .ok (.iastore, 1) := dk_79 (dk_at dksX3_save_1 9 rfl rfl)
theorem dX3_save_34 : decode cX3_save 34 = .ok (.iinc 1 1, 3) := dk_132 1 1 (dk_at dksX3_save_1 10 rfl rfl)
theorem dX3_save_37 : decode cX3_save 37 = .ok (.goto (-26), 3) := dk_167 255 230 (dk_at dksX3_save_1 13 rfl rfl)
theorem dX3_save_40 : decode cX3_save 40 = .ok (.aload_n 0, 1) := dk_42 (dk_at dksX3_save_1 16 rfl rfl)
theorem dX3_save_41 : decode cX3_save 41 = .ok (.dup, 1) := dk_89 (dk_at dksX3_save_1 17 rfl rfl)
theorem dX3_save_42 : decode cX3_save 42 = .ok (.getfield 47, 3) := dk_180 0 47 (dk_at dksX3_save_1 18 rfl rfl)
theorem dX3_save_45 : decode cX3_save 45 = .ok (.iconst 1, 1) := dk_4 (dk_at dksX3_save_1 21 rfl rfl)
theorem dX3_save_46 : decode cX3_save 46 = .ok (.isub, 1) := dk_100 (dk_at dksX3_save_1 22 rfl rfl)
theorem dX3_save_47 : decode cX3_save 47 = .ok (.putfield 47, 3) := dk_181 0 47 (dk_at dksX3_save_2 0 rfl rfl)
theorem dX3_save_50 : decode cX3_save 50 = .ok (.iconst 0, 1) := dk_3 (dk_at dksX3_save_2 3 rfl rfl)
theorem dX3_save_51 : decode cX3_save 51 = .ok (.istore_n 1, 1) := dk_60 (dk_at dksX3_save_2 4 rfl rfl)
theorem dX3_save_52 : decode cX3_save 52 = .ok (.iload_n 1, 1) := dk_27 (dk_at dksX3_save_2 5 rfl rfl)
theorem dX3_save_53 : decode cX3_save 53 = .ok (.sipush 149, 3) := dk_17 0 149 (dk_at dksX3_save_2 6 rfl rfl)
theorem dX3_save_56 : decode cX3_save 56 = .ok (.if_icmp .ge 30, 3) := dk_162 0 30 (dk_at dksX3_save_2 9 rfl rfl)
theorem dX3_save_59 : decode cX3_save 59 = .ok (.aload_n 0, 1) := dk_42 (dk_at dksX3_save_2 12 rfl rfl)
theorem dX3_save_60 : decode cX3_save 60 = .ok (.getfield 13, 3) := dk_180 0 13 (dk_at dksX3_save_2 13 rfl rfl)
theorem dX3_save_63 : decode cX3_save 63 = .ok (.sipush 149, 3) := dk_17 0 149 (dk_at dksX3_save_2 16 rfl rfl)
theorem dX3_save_66 : decode cX3_save 66 = .ok (.aload_n 0, 1) := dk_42 (dk_at dksX3_save_2 19 rfl rfl)
theorem dX3_save_67 : decode cX3_save 67 = .ok (.getfield 47, 3) := dk_180 0 47 (dk_at dksX3_save_2 20 rfl rfl)
theorem dX3_save_70 : decode cX3_save 70 = .ok (.imul, 1) := dk_104 (dk_at dksX3_save_2 23 rfl rfl)
theorem dX3_save_71 : decode cX3_save 71 = .ok (.iload_n 1, 1) := dk_27 (dk_at dksX3_save_3 0 rfl rfl)
theorem dX3_save_72 : decode cX3_save 72 = .ok (.iadd, 1) := dk_96 (dk_at dksX3_save_3 1 rfl rfl)
theorem dX3_save_73 : decode cX3_save 73 = .ok (.aload_n 0, 1) := dk_42 (dk_at dksX3_save_3 2 rfl rfl)
theorem dX3_save_74 : decode cX3_save 74 = .ok (.getfield 7, 3) := dk_180 0 7 (dk_at dksX3_save_3 3 rfl rfl)
theorem dX3_save_77 : decode cX3_save 77 = .ok (.iload_n 1, 1) := dk_27 (dk_at dksX3_save_3 6 rfl rfl)
theorem dX3_save_78 : decode cX3_save 78 = .ok (.iaload, 1) := dk_46 (dk_at dksX3_save_3 7 rfl rfl)
theorem dX3_save_79 : decode cX3_save 79 = .ok (.iastore, 1) := dk_79 (dk_at dksX3_save_3 8 rfl rfl)
theorem dX3_save_80 : decode cX3_save 80 = .ok (.iinc 1 1, 3) := dk_132 1 1 (dk_at dksX3_save_3 9 rfl rfl)
theorem dX3_save_83 : decode cX3_save 83 = .ok (.goto (-31), 3) := dk_167 255 225 (dk_at dksX3_save_3 12 rfl rfl)
theorem dX3_save_86 : decode cX3_save 86 = .ok (.aload_n 0, 1) := dk_42 (dk_at dksX3_save_3 15 rfl rfl)
theorem dX3_save_87 : decode cX3_save 87 = .ok (.dup, 1) := dk_89 (dk_at dksX3_save_3 16 rfl rfl)
theorem dX3_save_88 : decode cX3_save 88 = .ok (.getfield 47, 3) := dk_180 0 47 (dk_at dksX3_save_3 17 rfl rfl)
theorem dX3_save_91 : decode cX3_save 91 = .ok (.iconst 1, 1) := dk_4 (dk_at dksX3_save_3 20 rfl rfl)
theorem dX3_save_92 : decode cX3_save 92 = .ok (.iadd, 1) := dk_96 (dk_at dksX3_save_3 21 rfl rfl)
theorem dX3_save_93 : decode cX3_save 93 = .ok (.putfield 47, 3) := dk_181 0 47 (dk_at dksX3_save_4 0 rfl rfl)
theorem dX3_save_96 : decode cX3_save 96 = .ok (.return_, 1) := dk_177 (dk_at dksX3_save_4 3 rfl rfl)
abbrev cX3_block : ByteArray := prog_11_method_36_code
def yX3_block : MethodName := ⟨RX3, "block", "(II)I"⟩
def dkwX3_block_2 : List UInt8 := [42, 5, 182, 0, 50, 172, 42, 182, 0, 54, 42, 27, 28, 182, 0, 113, 172]
abbrev dktX3_block_2 : List UInt8 := dkwX3_block_2 ++ []
def dkwX3_block_1 : List UInt8 := [184, 0, 42, 154, 0, 9, 42, 4, 182, 0, 50, 172, 42, 180, 0, 7, 16, 8, 46, 16, 20, 160, 0, 9]
abbrev dktX3_block_1 : List UInt8 := dkwX3_block_1 ++ dktX3_block_2
def dkwX3_block_0 : List UInt8 := [42, 3, 181, 0, 38, 27, 17, 1, 244, 18, 112, 184, 0, 42, 153, 0, 16, 28, 17, 252, 124, 17, 3, 132]
abbrev dktX3_block_0 : List UInt8 := dkwX3_block_0 ++ dktX3_block_1
theorem dksX3_block_0 : cX3_block.data.toList.drop 0 = dktX3_block_0 := by decide +kernel
theorem dksX3_block_1 : cX3_block.data.toList.drop 24 = dktX3_block_1 := dk_seg dksX3_block_0 24 rfl rfl
theorem dksX3_block_2 : cX3_block.data.toList.drop 48 = dktX3_block_2 := dk_seg dksX3_block_1 24 rfl rfl
theorem dX3_block_0 : decode cX3_block 0 = .ok (.aload_n 0, 1) := dk_42 (dk_at dksX3_block_0 0 rfl rfl)
theorem dX3_block_1 : decode cX3_block 1 = .ok (.iconst 0, 1) := dk_3 (dk_at dksX3_block_0 1 rfl rfl)
theorem dX3_block_2 : decode cX3_block 2 = .ok (.putfield 38, 3) := dk_181 0 38 (dk_at dksX3_block_0 2 rfl rfl)
theorem dX3_block_5 : decode cX3_block 5 = .ok (.iload_n 1, 1) := dk_27 (dk_at dksX3_block_0 5 rfl rfl)
theorem dX3_block_6 : decode cX3_block 6 = .ok (.sipush 500, 3) := dk_17 1 244 (dk_at dksX3_block_0 6 rfl rfl)
theorem dX3_block_9 : decode cX3_block 9 = .ok (.ldc 112, 2) := dk_18 112 (dk_at dksX3_block_0 9 rfl rfl)
theorem dX3_block_11 : decode cX3_block 11 = .ok (.invokestatic 42, 3) := dk_184 0 42 (dk_at dksX3_block_0 11 rfl rfl)
theorem dX3_block_14 : decode cX3_block 14 = .ok (.ifCond .eq 16, 3) := dk_153 0 16 (dk_at dksX3_block_0 14 rfl rfl)
theorem dX3_block_17 : decode cX3_block 17 = .ok (.iload_n 2, 1) := dk_28 (dk_at dksX3_block_0 17 rfl rfl)
theorem dX3_block_18 : decode cX3_block 18 = .ok (.sipush (-900), 3) := dk_17 252 124 (dk_at dksX3_block_0 18 rfl rfl)
theorem dX3_block_21 : decode cX3_block 21 = .ok (.sipush 900, 3) := dk_17 3 132 (dk_at dksX3_block_0 21 rfl rfl)
theorem dX3_block_24 : decode cX3_block 24 = .ok (.invokestatic 42, 3) := dk_184 0 42 (dk_at dksX3_block_1 0 rfl rfl)
theorem dX3_block_27 : decode cX3_block 27 = .ok (.ifCond .ne 9, 3) := dk_154 0 9 (dk_at dksX3_block_1 3 rfl rfl)
theorem dX3_block_30 : decode cX3_block 30 = .ok (.aload_n 0, 1) := dk_42 (dk_at dksX3_block_1 6 rfl rfl)
theorem dX3_block_31 : decode cX3_block 31 = .ok (.iconst 1, 1) := dk_4 (dk_at dksX3_block_1 7 rfl rfl)
theorem dX3_block_32 : decode cX3_block 32 = .ok (.invokevirtual 50, 3) := dk_182 0 50 (dk_at dksX3_block_1 8 rfl rfl)
theorem dX3_block_35 : decode cX3_block 35 = .ok (.ireturn, 1) := dk_172 (dk_at dksX3_block_1 11 rfl rfl)
theorem dX3_block_36 : decode cX3_block 36 = .ok (.aload_n 0, 1) := dk_42 (dk_at dksX3_block_1 12 rfl rfl)
theorem dX3_block_37 : decode cX3_block 37 = .ok (.getfield 7, 3) := dk_180 0 7 (dk_at dksX3_block_1 13 rfl rfl)
theorem dX3_block_40 : decode cX3_block 40 = .ok (.bipush 8, 2) := dk_16 8 (dk_at dksX3_block_1 16 rfl rfl)
theorem dX3_block_42 : decode cX3_block 42 = .ok (.iaload, 1) := dk_46 (dk_at dksX3_block_1 18 rfl rfl)
theorem dX3_block_43 : decode cX3_block 43 = .ok (.bipush 20, 2) := dk_16 20 (dk_at dksX3_block_1 19 rfl rfl)
theorem dX3_block_45 : decode cX3_block 45 = .ok (.if_icmp .ne 9, 3) := dk_160 0 9 (dk_at dksX3_block_1 21 rfl rfl)
theorem dX3_block_48 : decode cX3_block 48 = .ok (.aload_n 0, 1) := dk_42 (dk_at dksX3_block_2 0 rfl rfl)
theorem dX3_block_49 : decode cX3_block 49 = .ok (.iconst 2, 1) := dk_5 (dk_at dksX3_block_2 1 rfl rfl)
theorem dX3_block_50 : decode cX3_block 50 = .ok (.invokevirtual 50, 3) := dk_182 0 50 (dk_at dksX3_block_2 2 rfl rfl)
theorem dX3_block_53 : decode cX3_block 53 = .ok (.ireturn, 1) := dk_172 (dk_at dksX3_block_2 5 rfl rfl)
theorem dX3_block_54 : decode cX3_block 54 = .ok (.aload_n 0, 1) := dk_42 (dk_at dksX3_block_2 6 rfl rfl)
theorem dX3_block_55 : decode cX3_block 55 = .ok (.invokevirtual 54, 3) := dk_182 0 54 (dk_at dksX3_block_2 7 rfl rfl)
theorem dX3_block_58 : decode cX3_block 58 = .ok (.aload_n 0, 1) := dk_42 (dk_at dksX3_block_2 10 rfl rfl)
theorem dX3_block_59 : decode cX3_block 59 = .ok (.iload_n 1, 1) := dk_27 (dk_at dksX3_block_2 11 rfl rfl)
theorem dX3_block_60 : decode cX3_block 60 = .ok (.iload_n 2, 1) := dk_28 (dk_at dksX3_block_2 12 rfl rfl)
theorem dX3_block_61 : decode cX3_block 61 = .ok (.invokevirtual 113, 3) := dk_182 0 113 (dk_at dksX3_block_2 13 rfl rfl)
theorem dX3_block_64 : decode cX3_block 64 = .ok (.ireturn, 1) := dk_172 (dk_at dksX3_block_2 16 rfl rfl)
abbrev cX3_addBlock : ByteArray := prog_11_method_22_code
def yX3_addBlock : MethodName := ⟨RX3, "addBlock", "(II)I"⟩
def dkwX3_addBlock_3 : List UInt8 := [29, 172]
abbrev dktX3_addBlock_3 : List UInt8 := dkwX3_addBlock_3 ++ []
def dkwX3_addBlock_2 : List UInt8 := [29, 7, 2, 182, 0, 67, 42, 29, 8, 2, 182, 0, 67, 42, 180, 0, 7, 16, 8, 92, 46, 4, 96, 79]
abbrev dktX3_addBlock_2 : List UInt8 := dkwX3_addBlock_2 ++ dktX3_addBlock_3
def dkwX3_addBlock_1 : List UInt8 := [182, 0, 67, 132, 4, 1, 167, 255, 238, 42, 29, 3, 27, 182, 0, 67, 42, 29, 4, 28, 182, 0, 67, 42]
abbrev dktX3_addBlock_1 : List UInt8 := dkwX3_addBlock_1 ++ dktX3_addBlock_2
def dkwX3_addBlock_0 : List UInt8 := [42, 180, 0, 7, 16, 8, 46, 62, 3, 54, 4, 21, 4, 16, 7, 162, 0, 17, 42, 29, 21, 4, 3]
abbrev dktX3_addBlock_0 : List UInt8 := dkwX3_addBlock_0 ++ dktX3_addBlock_1
theorem dksX3_addBlock_0 : cX3_addBlock.data.toList.drop 0 = dktX3_addBlock_0 := by decide +kernel
theorem dksX3_addBlock_1 : cX3_addBlock.data.toList.drop 23 = dktX3_addBlock_1 := dk_seg dksX3_addBlock_0 23 rfl rfl
theorem dksX3_addBlock_2 : cX3_addBlock.data.toList.drop 47 = dktX3_addBlock_2 := dk_seg dksX3_addBlock_1 24 rfl rfl
theorem dksX3_addBlock_3 : cX3_addBlock.data.toList.drop 71 = dktX3_addBlock_3 := dk_seg dksX3_addBlock_2 24 rfl rfl
theorem dX3_addBlock_0 : decode cX3_addBlock 0 = .ok (.aload_n 0, 1) := dk_42 (dk_at dksX3_addBlock_0 0 rfl rfl)
theorem dX3_addBlock_1 : decode cX3_addBlock 1 = .ok (.getfield 7, 3) := dk_180 0 7 (dk_at dksX3_addBlock_0 1 rfl rfl)
theorem dX3_addBlock_4 : decode cX3_addBlock 4 = .ok (.bipush 8, 2) := dk_16 8 (dk_at dksX3_addBlock_0 4 rfl rfl)
theorem dX3_addBlock_6 : decode cX3_addBlock 6 = .ok (.iaload, 1) := dk_46 (dk_at dksX3_addBlock_0 6 rfl rfl)
theorem dX3_addBlock_7 : decode cX3_addBlock 7 = .ok (.istore_n 3, 1) := dk_62 (dk_at dksX3_addBlock_0 7 rfl rfl)
theorem dX3_addBlock_8 : decode cX3_addBlock 8 = .ok (.iconst 0, 1) := dk_3 (dk_at dksX3_addBlock_0 8 rfl rfl)
theorem dX3_addBlock_9 : decode cX3_addBlock 9 = .ok (.istore 4, 2) := dk_54 4 (dk_at dksX3_addBlock_0 9 rfl rfl)
theorem dX3_addBlock_11 : decode cX3_addBlock 11 = .ok (.iload 4, 2) := dk_21 4 (dk_at dksX3_addBlock_0 11 rfl rfl)
theorem dX3_addBlock_13 : decode cX3_addBlock 13 = .ok (.bipush 7, 2) := dk_16 7 (dk_at dksX3_addBlock_0 13 rfl rfl)
theorem dX3_addBlock_15 : decode cX3_addBlock 15 = .ok (.if_icmp .ge 17, 3) := dk_162 0 17 (dk_at dksX3_addBlock_0 15 rfl rfl)
theorem dX3_addBlock_18 : decode cX3_addBlock 18 = .ok (.aload_n 0, 1) := dk_42 (dk_at dksX3_addBlock_0 18 rfl rfl)
theorem dX3_addBlock_19 : decode cX3_addBlock 19 = .ok (.iload_n 3, 1) := dk_29 (dk_at dksX3_addBlock_0 19 rfl rfl)
theorem dX3_addBlock_20 : decode cX3_addBlock 20 = .ok (.iload 4, 2) := dk_21 4 (dk_at dksX3_addBlock_0 20 rfl rfl)
theorem dX3_addBlock_22 : decode cX3_addBlock 22 = .ok (.iconst 0, 1) := dk_3 (dk_at dksX3_addBlock_0 22 rfl rfl)
theorem dX3_addBlock_23 : decode cX3_addBlock 23 = .ok (.invokevirtual 67, 3) := dk_182 0 67 (dk_at dksX3_addBlock_1 0 rfl rfl)
theorem dX3_addBlock_26 : decode cX3_addBlock 26 = .ok (.iinc 4 1, 3) := dk_132 4 1 (dk_at dksX3_addBlock_1 3 rfl rfl)
theorem dX3_addBlock_29 : decode cX3_addBlock 29 = .ok (.goto (-18), 3) := dk_167 255 238 (dk_at dksX3_addBlock_1 6 rfl rfl)
theorem dX3_addBlock_32 : decode cX3_addBlock 32 = .ok (.aload_n 0, 1) := dk_42 (dk_at dksX3_addBlock_1 9 rfl rfl)
theorem dX3_addBlock_33 : decode cX3_addBlock 33 = .ok (.iload_n 3, 1) := dk_29 (dk_at dksX3_addBlock_1 10 rfl rfl)
theorem dX3_addBlock_34 : decode cX3_addBlock 34 = .ok (.iconst 0, 1) := dk_3 (dk_at dksX3_addBlock_1 11 rfl rfl)
theorem dX3_addBlock_35 : decode cX3_addBlock 35 = .ok (.iload_n 1, 1) := dk_27 (dk_at dksX3_addBlock_1 12 rfl rfl)
theorem dX3_addBlock_36 : decode cX3_addBlock 36 = .ok (.invokevirtual 67, 3) := dk_182 0 67 (dk_at dksX3_addBlock_1 13 rfl rfl)
theorem dX3_addBlock_39 : decode cX3_addBlock 39 = .ok (.aload_n 0, 1) := dk_42 (dk_at dksX3_addBlock_1 16 rfl rfl)
theorem dX3_addBlock_40 : decode cX3_addBlock 40 = .ok (.iload_n 3, 1) := dk_29 (dk_at dksX3_addBlock_1 17 rfl rfl)
theorem dX3_addBlock_41 : decode cX3_addBlock 41 = .ok (.iconst 1, 1) := dk_4 (dk_at dksX3_addBlock_1 18 rfl rfl)
theorem dX3_addBlock_42 : decode cX3_addBlock 42 = .ok (.iload_n 2, 1) := dk_28 (dk_at dksX3_addBlock_1 19 rfl rfl)
theorem dX3_addBlock_43 : decode cX3_addBlock 43 = .ok (.invokevirtual 67, 3) := dk_182 0 67 (dk_at dksX3_addBlock_1 20 rfl rfl)
theorem dX3_addBlock_46 : decode cX3_addBlock 46 = .ok (.aload_n 0, 1) := dk_42 (dk_at dksX3_addBlock_1 23 rfl rfl)
theorem dX3_addBlock_47 : decode cX3_addBlock 47 = .ok (.iload_n 3, 1) := dk_29 (dk_at dksX3_addBlock_2 0 rfl rfl)
theorem dX3_addBlock_48 : decode cX3_addBlock 48 = .ok (.iconst 4, 1) := dk_7 (dk_at dksX3_addBlock_2 1 rfl rfl)
theorem dX3_addBlock_49 : decode cX3_addBlock 49 = .ok (.iconst (-1), 1) := dk_2 (dk_at dksX3_addBlock_2 2 rfl rfl)
theorem dX3_addBlock_50 : decode cX3_addBlock 50 = .ok (.invokevirtual 67, 3) := dk_182 0 67 (dk_at dksX3_addBlock_2 3 rfl rfl)
theorem dX3_addBlock_53 : decode cX3_addBlock 53 = .ok (.aload_n 0, 1) := dk_42 (dk_at dksX3_addBlock_2 6 rfl rfl)
theorem dX3_addBlock_54 : decode cX3_addBlock 54 = .ok (.iload_n 3, 1) := dk_29 (dk_at dksX3_addBlock_2 7 rfl rfl)
theorem dX3_addBlock_55 : decode cX3_addBlock 55 = .ok (.iconst 5, 1) := dk_8 (dk_at dksX3_addBlock_2 8 rfl rfl)
theorem dX3_addBlock_56 : decode cX3_addBlock 56 = .ok (.iconst (-1), 1) := dk_2 (dk_at dksX3_addBlock_2 9 rfl rfl)
theorem dX3_addBlock_57 : decode cX3_addBlock 57 = .ok (.invokevirtual 67, 3) := dk_182 0 67 (dk_at dksX3_addBlock_2 10 rfl rfl)
theorem dX3_addBlock_60 : decode cX3_addBlock 60 = .ok (.aload_n 0, 1) := dk_42 (dk_at dksX3_addBlock_2 13 rfl rfl)
theorem dX3_addBlock_61 : decode cX3_addBlock 61 = .ok (.getfield 7, 3) := dk_180 0 7 (dk_at dksX3_addBlock_2 14 rfl rfl)
theorem dX3_addBlock_64 : decode cX3_addBlock 64 = .ok (.bipush 8, 2) := dk_16 8 (dk_at dksX3_addBlock_2 17 rfl rfl)
theorem dX3_addBlock_66 : decode cX3_addBlock 66 = .ok (.dup2, 1) := dk_92 (dk_at dksX3_addBlock_2 19 rfl rfl)
theorem dX3_addBlock_67 : decode cX3_addBlock 67 = .ok (.iaload, 1) := dk_46 (dk_at dksX3_addBlock_2 20 rfl rfl)
theorem dX3_addBlock_68 : decode cX3_addBlock 68 = .ok (.iconst 1, 1) := dk_4 (dk_at dksX3_addBlock_2 21 rfl rfl)
theorem dX3_addBlock_69 : decode cX3_addBlock 69 = .ok (.iadd, 1) := dk_96 (dk_at dksX3_addBlock_2 22 rfl rfl)
theorem dX3_addBlock_70 : decode cX3_addBlock 70 = .ok (.iastore, 1) := dk_79 (dk_at dksX3_addBlock_2 23 rfl rfl)
theorem dX3_addBlock_71 : decode cX3_addBlock 71 = .ok (.iload_n 3, 1) := dk_29 (dk_at dksX3_addBlock_3 0 rfl rfl)
theorem dX3_addBlock_72 : decode cX3_addBlock 72 = .ok (.ireturn, 1) := dk_172 (dk_at dksX3_addBlock_3 1 rfl rfl)
abbrev cX3_put : ByteArray := prog_11_method_9_code
def yX3_put : MethodName := ⟨RX3, "put", "(III)V"⟩
def dkwX3_put_0 : List UInt8 := [42, 180, 0, 7, 16, 9, 16, 7, 27, 104, 96, 28, 96, 29, 79, 177]
abbrev dktX3_put_0 : List UInt8 := dkwX3_put_0 ++ []
theorem dksX3_put_0 : cX3_put.data.toList.drop 0 = dktX3_put_0 := by decide +kernel
theorem dX3_put_0 : decode cX3_put 0 = .ok (.aload_n 0, 1) := dk_42 (dk_at dksX3_put_0 0 rfl rfl)
theorem dX3_put_1 : decode cX3_put 1 = .ok (.getfield 7, 3) := dk_180 0 7 (dk_at dksX3_put_0 1 rfl rfl)
theorem dX3_put_4 : decode cX3_put 4 = .ok (.bipush 9, 2) := dk_16 9 (dk_at dksX3_put_0 4 rfl rfl)
theorem dX3_put_6 : decode cX3_put 6 = .ok (.bipush 7, 2) := dk_16 7 (dk_at dksX3_put_0 6 rfl rfl)
theorem dX3_put_8 : decode cX3_put 8 = .ok (.iload_n 1, 1) := dk_27 (dk_at dksX3_put_0 8 rfl rfl)
theorem dX3_put_9 : decode cX3_put 9 = .ok (.imul, 1) := dk_104 (dk_at dksX3_put_0 9 rfl rfl)
theorem dX3_put_10 : decode cX3_put 10 = .ok (.iadd, 1) := dk_96 (dk_at dksX3_put_0 10 rfl rfl)
theorem dX3_put_11 : decode cX3_put 11 = .ok (.iload_n 2, 1) := dk_28 (dk_at dksX3_put_0 11 rfl rfl)
theorem dX3_put_12 : decode cX3_put 12 = .ok (.iadd, 1) := dk_96 (dk_at dksX3_put_0 12 rfl rfl)
theorem dX3_put_13 : decode cX3_put 13 = .ok (.iload_n 3, 1) := dk_29 (dk_at dksX3_put_0 13 rfl rfl)
theorem dX3_put_14 : decode cX3_put 14 = .ok (.iastore, 1) := dk_79 (dk_at dksX3_put_0 14 rfl rfl)
theorem dX3_put_15 : decode cX3_put 15 = .ok (.return_, 1) := dk_177 (dk_at dksX3_put_0 15 rfl rfl)
abbrev cX3_discard : ByteArray := prog_11_method_37_code
def yX3_discard : MethodName := ⟨RX3, "discard", "(I)I"⟩
def dkwX3_discard_5 : List UInt8 := [180, 0, 7, 16, 8, 46, 172]
abbrev dktX3_discard_5 : List UInt8 := dkwX3_discard_5 ++ []
def dkwX3_discard_4 : List UInt8 := [28, 62, 29, 28, 16, 7, 96, 162, 0, 16, 42, 180, 0, 7, 29, 3, 79, 132, 3, 1, 167, 255, 238, 42]
abbrev dktX3_discard_4 : List UInt8 := dkwX3_discard_4 ++ dktX3_discard_5
def dkwX3_discard_3 : List UInt8 := [162, 0, 24, 42, 180, 0, 7, 29, 42, 180, 0, 7, 29, 16, 7, 96, 46, 79, 132, 3, 1, 167, 255, 233]
abbrev dktX3_discard_3 : List UInt8 := dkwX3_discard_3 ++ dktX3_discard_4
def dkwX3_discard_2 : List UInt8 := [16, 9, 16, 7, 42, 180, 0, 7, 16, 8, 46, 104, 96, 61, 16, 9, 16, 7, 27, 104, 96, 62, 29, 28]
abbrev dktX3_discard_2 : List UInt8 := dkwX3_discard_2 ++ dktX3_discard_3
def dkwX3_discard_1 : List UInt8 := [154, 0, 9, 42, 5, 182, 0, 50, 172, 42, 182, 0, 54, 42, 180, 0, 7, 16, 8, 92, 46, 4, 100, 79]
abbrev dktX3_discard_1 : List UInt8 := dkwX3_discard_1 ++ dktX3_discard_2
def dkwX3_discard_0 : List UInt8 := [42, 3, 181, 0, 38, 42, 27, 182, 0, 116, 154, 0, 9, 42, 4, 182, 0, 50, 172, 42, 27, 182, 0, 78]
abbrev dktX3_discard_0 : List UInt8 := dkwX3_discard_0 ++ dktX3_discard_1
theorem dksX3_discard_0 : cX3_discard.data.toList.drop 0 = dktX3_discard_0 := by decide +kernel
theorem dksX3_discard_1 : cX3_discard.data.toList.drop 24 = dktX3_discard_1 := dk_seg dksX3_discard_0 24 rfl rfl
theorem dksX3_discard_2 : cX3_discard.data.toList.drop 48 = dktX3_discard_2 := dk_seg dksX3_discard_1 24 rfl rfl
theorem dksX3_discard_3 : cX3_discard.data.toList.drop 72 = dktX3_discard_3 := dk_seg dksX3_discard_2 24 rfl rfl
theorem dksX3_discard_4 : cX3_discard.data.toList.drop 96 = dktX3_discard_4 := dk_seg dksX3_discard_3 24 rfl rfl
theorem dksX3_discard_5 : cX3_discard.data.toList.drop 120 = dktX3_discard_5 := dk_seg dksX3_discard_4 24 rfl rfl
theorem dX3_discard_0 : decode cX3_discard 0 = .ok (.aload_n 0, 1) := dk_42 (dk_at dksX3_discard_0 0 rfl rfl)
theorem dX3_discard_1 : decode cX3_discard 1 = .ok (.iconst 0, 1) := dk_3 (dk_at dksX3_discard_0 1 rfl rfl)
theorem dX3_discard_2 : decode cX3_discard 2 = .ok (.putfield 38, 3) := dk_181 0 38 (dk_at dksX3_discard_0 2 rfl rfl)
theorem dX3_discard_5 : decode cX3_discard 5 = .ok (.aload_n 0, 1) := dk_42 (dk_at dksX3_discard_0 5 rfl rfl)
theorem dX3_discard_6 : decode cX3_discard 6 = .ok (.iload_n 1, 1) := dk_27 (dk_at dksX3_discard_0 6 rfl rfl)
theorem dX3_discard_7 : decode cX3_discard 7 = .ok (.invokevirtual 116, 3) := dk_182 0 116 (dk_at dksX3_discard_0 7 rfl rfl)
theorem dX3_discard_10 : decode cX3_discard 10 = .ok (.ifCond .ne 9, 3) := dk_154 0 9 (dk_at dksX3_discard_0 10 rfl rfl)
theorem dX3_discard_13 : decode cX3_discard 13 = .ok (.aload_n 0, 1) := dk_42 (dk_at dksX3_discard_0 13 rfl rfl)
theorem dX3_discard_14 : decode cX3_discard 14 = .ok (.iconst 1, 1) := dk_4 (dk_at dksX3_discard_0 14 rfl rfl)
theorem dX3_discard_15 : decode cX3_discard 15 = .ok (.invokevirtual 50, 3) := dk_182 0 50 (dk_at dksX3_discard_0 15 rfl rfl)
theorem dX3_discard_18 : decode cX3_discard 18 = .ok (.ireturn, 1) := dk_172 (dk_at dksX3_discard_0 18 rfl rfl)
theorem dX3_discard_19 : decode cX3_discard 19 = .ok (.aload_n 0, 1) := dk_42 (dk_at dksX3_discard_0 19 rfl rfl)
theorem dX3_discard_20 : decode cX3_discard 20 = .ok (.iload_n 1, 1) := dk_27 (dk_at dksX3_discard_0 20 rfl rfl)
theorem dX3_discard_21 : decode cX3_discard 21 = .ok (.invokevirtual 78, 3) := dk_182 0 78 (dk_at dksX3_discard_0 21 rfl rfl)
theorem dX3_discard_24 : decode cX3_discard 24 = .ok (.ifCond .ne 9, 3) := dk_154 0 9 (dk_at dksX3_discard_1 0 rfl rfl)
theorem dX3_discard_27 : decode cX3_discard 27 = .ok (.aload_n 0, 1) := dk_42 (dk_at dksX3_discard_1 3 rfl rfl)
theorem dX3_discard_28 : decode cX3_discard 28 = .ok (.iconst 2, 1) := dk_5 (dk_at dksX3_discard_1 4 rfl rfl)
theorem dX3_discard_29 : decode cX3_discard 29 = .ok (.invokevirtual 50, 3) := dk_182 0 50 (dk_at dksX3_discard_1 5 rfl rfl)
theorem dX3_discard_32 : decode cX3_discard 32 = .ok (.ireturn, 1) := dk_172 (dk_at dksX3_discard_1 8 rfl rfl)
theorem dX3_discard_33 : decode cX3_discard 33 = .ok (.aload_n 0, 1) := dk_42 (dk_at dksX3_discard_1 9 rfl rfl)
theorem dX3_discard_34 : decode cX3_discard 34 = .ok (.invokevirtual 54, 3) := dk_182 0 54 (dk_at dksX3_discard_1 10 rfl rfl)
theorem dX3_discard_37 : decode cX3_discard 37 = .ok (.aload_n 0, 1) := dk_42 (dk_at dksX3_discard_1 13 rfl rfl)
theorem dX3_discard_38 : decode cX3_discard 38 = .ok (.getfield 7, 3) := dk_180 0 7 (dk_at dksX3_discard_1 14 rfl rfl)
theorem dX3_discard_41 : decode cX3_discard 41 = .ok (.bipush 8, 2) := dk_16 8 (dk_at dksX3_discard_1 17 rfl rfl)
theorem dX3_discard_43 : decode cX3_discard 43 = .ok (.dup2, 1) := dk_92 (dk_at dksX3_discard_1 19 rfl rfl)
theorem dX3_discard_44 : decode cX3_discard 44 = .ok (.iaload, 1) := dk_46 (dk_at dksX3_discard_1 20 rfl rfl)
theorem dX3_discard_45 : decode cX3_discard 45 = .ok (.iconst 1, 1) := dk_4 (dk_at dksX3_discard_1 21 rfl rfl)
theorem dX3_discard_46 : decode cX3_discard 46 = .ok (.isub, 1) := dk_100 (dk_at dksX3_discard_1 22 rfl rfl)
theorem dX3_discard_47 : decode cX3_discard 47 = .ok (.iastore, 1) := dk_79 (dk_at dksX3_discard_1 23 rfl rfl)
theorem dX3_discard_48 : decode cX3_discard 48 = .ok (.bipush 9, 2) := dk_16 9 (dk_at dksX3_discard_2 0 rfl rfl)
theorem dX3_discard_50 : decode cX3_discard 50 = .ok (.bipush 7, 2) := dk_16 7 (dk_at dksX3_discard_2 2 rfl rfl)
theorem dX3_discard_52 : decode cX3_discard 52 = .ok (.aload_n 0, 1) := dk_42 (dk_at dksX3_discard_2 4 rfl rfl)
theorem dX3_discard_53 : decode cX3_discard 53 = .ok (.getfield 7, 3) := dk_180 0 7 (dk_at dksX3_discard_2 5 rfl rfl)
theorem dX3_discard_56 : decode cX3_discard 56 = .ok (.bipush 8, 2) := dk_16 8 (dk_at dksX3_discard_2 8 rfl rfl)
theorem dX3_discard_58 : decode cX3_discard 58 = .ok (.iaload, 1) := dk_46 (dk_at dksX3_discard_2 10 rfl rfl)
theorem dX3_discard_59 : decode cX3_discard 59 = .ok (.imul, 1) := dk_104 (dk_at dksX3_discard_2 11 rfl rfl)
theorem dX3_discard_60 : decode cX3_discard 60 = .ok (.iadd, 1) := dk_96 (dk_at dksX3_discard_2 12 rfl rfl)
theorem dX3_discard_61 : decode cX3_discard 61 = .ok (.istore_n 2, 1) := dk_61 (dk_at dksX3_discard_2 13 rfl rfl)
theorem dX3_discard_62 : decode cX3_discard 62 = .ok (.bipush 9, 2) := dk_16 9 (dk_at dksX3_discard_2 14 rfl rfl)
theorem dX3_discard_64 : decode cX3_discard 64 = .ok (.bipush 7, 2) := dk_16 7 (dk_at dksX3_discard_2 16 rfl rfl)
theorem dX3_discard_66 : decode cX3_discard 66 = .ok (.iload_n 1, 1) := dk_27 (dk_at dksX3_discard_2 18 rfl rfl)
theorem dX3_discard_67 : decode cX3_discard 67 = .ok (.imul, 1) := dk_104 (dk_at dksX3_discard_2 19 rfl rfl)
theorem dX3_discard_68 : decode cX3_discard 68 = .ok (.iadd, 1) := dk_96 (dk_at dksX3_discard_2 20 rfl rfl)
theorem dX3_discard_69 : decode cX3_discard 69 = .ok (.istore_n 3, 1) := dk_62 (dk_at dksX3_discard_2 21 rfl rfl)
theorem dX3_discard_70 : decode cX3_discard 70 = .ok (.iload_n 3, 1) := dk_29 (dk_at dksX3_discard_2 22 rfl rfl)
theorem dX3_discard_71 : decode cX3_discard 71 = .ok (.iload_n 2, 1) := dk_28 (dk_at dksX3_discard_2 23 rfl rfl)
theorem dX3_discard_72 : decode cX3_discard 72 = .ok (.if_icmp .ge 24, 3) := dk_162 0 24 (dk_at dksX3_discard_3 0 rfl rfl)
theorem dX3_discard_75 : decode cX3_discard 75 = .ok (.aload_n 0, 1) := dk_42 (dk_at dksX3_discard_3 3 rfl rfl)
theorem dX3_discard_76 : decode cX3_discard 76 = .ok (.getfield 7, 3) := dk_180 0 7 (dk_at dksX3_discard_3 4 rfl rfl)
theorem dX3_discard_79 : decode cX3_discard 79 = .ok (.iload_n 3, 1) := dk_29 (dk_at dksX3_discard_3 7 rfl rfl)
theorem dX3_discard_80 : decode cX3_discard 80 = .ok (.aload_n 0, 1) := dk_42 (dk_at dksX3_discard_3 8 rfl rfl)
theorem dX3_discard_81 : decode cX3_discard 81 = .ok (.getfield 7, 3) := dk_180 0 7 (dk_at dksX3_discard_3 9 rfl rfl)
theorem dX3_discard_84 : decode cX3_discard 84 = .ok (.iload_n 3, 1) := dk_29 (dk_at dksX3_discard_3 12 rfl rfl)
theorem dX3_discard_85 : decode cX3_discard 85 = .ok (.bipush 7, 2) := dk_16 7 (dk_at dksX3_discard_3 13 rfl rfl)
theorem dX3_discard_87 : decode cX3_discard 87 = .ok (.iadd, 1) := dk_96 (dk_at dksX3_discard_3 15 rfl rfl)
theorem dX3_discard_88 : decode cX3_discard 88 = .ok (.iaload, 1) := dk_46 (dk_at dksX3_discard_3 16 rfl rfl)
theorem dX3_discard_89 : decode cX3_discard 89 = .ok (.iastore, 1) := dk_79 (dk_at dksX3_discard_3 17 rfl rfl)
theorem dX3_discard_90 : decode cX3_discard 90 = .ok (.iinc 3 1, 3) := dk_132 3 1 (dk_at dksX3_discard_3 18 rfl rfl)
theorem dX3_discard_93 : decode cX3_discard 93 = .ok (.goto (-23), 3) := dk_167 255 233 (dk_at dksX3_discard_3 21 rfl rfl)
theorem dX3_discard_96 : decode cX3_discard 96 = .ok (.iload_n 2, 1) := dk_28 (dk_at dksX3_discard_4 0 rfl rfl)
theorem dX3_discard_97 : decode cX3_discard 97 = .ok (.istore_n 3, 1) := dk_62 (dk_at dksX3_discard_4 1 rfl rfl)
theorem dX3_discard_98 : decode cX3_discard 98 = .ok (.iload_n 3, 1) := dk_29 (dk_at dksX3_discard_4 2 rfl rfl)
theorem dX3_discard_99 : decode cX3_discard 99 = .ok (.iload_n 2, 1) := dk_28 (dk_at dksX3_discard_4 3 rfl rfl)
theorem dX3_discard_100 : decode cX3_discard 100 = .ok (.bipush 7, 2) := dk_16 7 (dk_at dksX3_discard_4 4 rfl rfl)
theorem dX3_discard_102 : decode cX3_discard 102 = .ok (.iadd, 1) := dk_96 (dk_at dksX3_discard_4 6 rfl rfl)
theorem dX3_discard_103 : decode cX3_discard 103 = .ok (.if_icmp .ge 16, 3) := dk_162 0 16 (dk_at dksX3_discard_4 7 rfl rfl)
theorem dX3_discard_106 : decode cX3_discard 106 = .ok (.aload_n 0, 1) := dk_42 (dk_at dksX3_discard_4 10 rfl rfl)
theorem dX3_discard_107 : decode cX3_discard 107 = .ok (.getfield 7, 3) := dk_180 0 7 (dk_at dksX3_discard_4 11 rfl rfl)
theorem dX3_discard_110 : decode cX3_discard 110 = .ok (.iload_n 3, 1) := dk_29 (dk_at dksX3_discard_4 14 rfl rfl)
theorem dX3_discard_111 : decode cX3_discard 111 = .ok (.iconst 0, 1) := dk_3 (dk_at dksX3_discard_4 15 rfl rfl)
theorem dX3_discard_112 : decode cX3_discard 112 = .ok (.iastore, 1) := dk_79 (dk_at dksX3_discard_4 16 rfl rfl)
theorem dX3_discard_113 : decode cX3_discard 113 = .ok (.iinc 3 1, 3) := dk_132 3 1 (dk_at dksX3_discard_4 17 rfl rfl)
theorem dX3_discard_116 : decode cX3_discard 116 = .ok (.goto (-18), 3) := dk_167 255 238 (dk_at dksX3_discard_4 20 rfl rfl)
theorem dX3_discard_119 : decode cX3_discard 119 = .ok (.aload_n 0, 1) := dk_42 (dk_at dksX3_discard_4 23 rfl rfl)
theorem dX3_discard_120 : decode cX3_discard 120 = .ok (.getfield 7, 3) := dk_180 0 7 (dk_at dksX3_discard_5 0 rfl rfl)
theorem dX3_discard_123 : decode cX3_discard 123 = .ok (.bipush 8, 2) := dk_16 8 (dk_at dksX3_discard_5 3 rfl rfl)
theorem dX3_discard_125 : decode cX3_discard 125 = .ok (.iaload, 1) := dk_46 (dk_at dksX3_discard_5 5 rfl rfl)
theorem dX3_discard_126 : decode cX3_discard 126 = .ok (.ireturn, 1) := dk_172 (dk_at dksX3_discard_5 6 rfl rfl)
abbrev cX3_isBlock : ByteArray := prog_11_method_5_code
def yX3_isBlock : MethodName := ⟨RX3, "isBlock", "(I)Z"⟩
def dkwX3_isBlock_0 : List UInt8 := [27, 3, 42, 180, 0, 7, 16, 8, 46, 4, 100, 184, 0, 42, 172]
abbrev dktX3_isBlock_0 : List UInt8 := dkwX3_isBlock_0 ++ []
theorem dksX3_isBlock_0 : cX3_isBlock.data.toList.drop 0 = dktX3_isBlock_0 := by decide +kernel
theorem dX3_isBlock_0 : decode cX3_isBlock 0 = .ok (.iload_n 1, 1) := dk_27 (dk_at dksX3_isBlock_0 0 rfl rfl)
theorem dX3_isBlock_1 : decode cX3_isBlock 1 = .ok (.iconst 0, 1) := dk_3 (dk_at dksX3_isBlock_0 1 rfl rfl)
theorem dX3_isBlock_2 : decode cX3_isBlock 2 = .ok (.aload_n 0, 1) := dk_42 (dk_at dksX3_isBlock_0 2 rfl rfl)
theorem dX3_isBlock_3 : decode cX3_isBlock 3 = .ok (.getfield 7, 3) := dk_180 0 7 (dk_at dksX3_isBlock_0 3 rfl rfl)
theorem dX3_isBlock_6 : decode cX3_isBlock 6 = .ok (.bipush 8, 2) := dk_16 8 (dk_at dksX3_isBlock_0 6 rfl rfl)
theorem dX3_isBlock_8 : decode cX3_isBlock 8 = .ok (.iaload, 1) := dk_46 (dk_at dksX3_isBlock_0 8 rfl rfl)
theorem dX3_isBlock_9 : decode cX3_isBlock 9 = .ok (.iconst 1, 1) := dk_4 (dk_at dksX3_isBlock_0 9 rfl rfl)
theorem dX3_isBlock_10 : decode cX3_isBlock 10 = .ok (.isub, 1) := dk_100 (dk_at dksX3_isBlock_0 10 rfl rfl)
theorem dX3_isBlock_11 : decode cX3_isBlock 11 = .ok (.invokestatic 42, 3) := dk_184 0 42 (dk_at dksX3_isBlock_0 11 rfl rfl)
theorem dX3_isBlock_14 : decode cX3_isBlock 14 = .ok (.ireturn, 1) := dk_172 (dk_at dksX3_isBlock_0 14 rfl rfl)
abbrev cX3_isFree : ByteArray := prog_11_method_15_code
def yX3_isFree : MethodName := ⟨RX3, "isFree", "(I)Z"⟩
def dkwX3_isFree_0 : List UInt8 := [42, 27, 7, 182, 0, 57, 2, 160, 0, 7, 4, 167, 0, 4, 3, 172]
abbrev dktX3_isFree_0 : List UInt8 := dkwX3_isFree_0 ++ []
theorem dksX3_isFree_0 : cX3_isFree.data.toList.drop 0 = dktX3_isFree_0 := by decide +kernel
theorem dX3_isFree_0 : decode cX3_isFree 0 = .ok (.aload_n 0, 1) := dk_42 (dk_at dksX3_isFree_0 0 rfl rfl)
theorem dX3_isFree_1 : decode cX3_isFree 1 = .ok (.iload_n 1, 1) := dk_27 (dk_at dksX3_isFree_0 1 rfl rfl)
theorem dX3_isFree_2 : decode cX3_isFree 2 = .ok (.iconst 4, 1) := dk_7 (dk_at dksX3_isFree_0 2 rfl rfl)
theorem dX3_isFree_3 : decode cX3_isFree 3 = .ok (.invokevirtual 57, 3) := dk_182 0 57 (dk_at dksX3_isFree_0 3 rfl rfl)
theorem dX3_isFree_6 : decode cX3_isFree 6 = .ok (.iconst (-1), 1) := dk_2 (dk_at dksX3_isFree_0 6 rfl rfl)
theorem dX3_isFree_7 : decode cX3_isFree 7 = .ok (.if_icmp .ne 7, 3) := dk_160 0 7 (dk_at dksX3_isFree_0 7 rfl rfl)
theorem dX3_isFree_10 : decode cX3_isFree 10 = .ok (.iconst 1, 1) := dk_4 (dk_at dksX3_isFree_0 10 rfl rfl)
theorem dX3_isFree_11 : decode cX3_isFree 11 = .ok (.goto 4, 3) := dk_167 0 4 (dk_at dksX3_isFree_0 11 rfl rfl)
theorem dX3_isFree_14 : decode cX3_isFree 14 = .ok (.iconst 0, 1) := dk_3 (dk_at dksX3_isFree_0 14 rfl rfl)
theorem dX3_isFree_15 : decode cX3_isFree 15 = .ok (.ireturn, 1) := dk_172 (dk_at dksX3_isFree_0 15 rfl rfl)
abbrev cX3_of : ByteArray := prog_11_method_8_code
def yX3_of : MethodName := ⟨RX3, "of", "(II)I"⟩
def dkwX3_of_0 : List UInt8 := [42, 180, 0, 7, 16, 9, 16, 7, 27, 104, 96, 28, 96, 46, 172]
abbrev dktX3_of_0 : List UInt8 := dkwX3_of_0 ++ []
theorem dksX3_of_0 : cX3_of.data.toList.drop 0 = dktX3_of_0 := by decide +kernel
theorem dX3_of_0 : decode cX3_of 0 = .ok (.aload_n 0, 1) := dk_42 (dk_at dksX3_of_0 0 rfl rfl)
theorem dX3_of_1 : decode cX3_of 1 = .ok (.getfield 7, 3) := dk_180 0 7 (dk_at dksX3_of_0 1 rfl rfl)
theorem dX3_of_4 : decode cX3_of 4 = .ok (.bipush 9, 2) := dk_16 9 (dk_at dksX3_of_0 4 rfl rfl)
theorem dX3_of_6 : decode cX3_of 6 = .ok (.bipush 7, 2) := dk_16 7 (dk_at dksX3_of_0 6 rfl rfl)
theorem dX3_of_8 : decode cX3_of 8 = .ok (.iload_n 1, 1) := dk_27 (dk_at dksX3_of_0 8 rfl rfl)
theorem dX3_of_9 : decode cX3_of 9 = .ok (.imul, 1) := dk_104 (dk_at dksX3_of_0 9 rfl rfl)
theorem dX3_of_10 : decode cX3_of 10 = .ok (.iadd, 1) := dk_96 (dk_at dksX3_of_0 10 rfl rfl)
theorem dX3_of_11 : decode cX3_of 11 = .ok (.iload_n 2, 1) := dk_28 (dk_at dksX3_of_0 11 rfl rfl)
theorem dX3_of_12 : decode cX3_of 12 = .ok (.iadd, 1) := dk_96 (dk_at dksX3_of_0 12 rfl rfl)
theorem dX3_of_13 : decode cX3_of 13 = .ok (.iaload, 1) := dk_46 (dk_at dksX3_of_0 13 rfl rfl)
theorem dX3_of_14 : decode cX3_of 14 = .ok (.ireturn, 1) := dk_172 (dk_at dksX3_of_0 14 rfl rfl)
abbrev cX3_calibrate : ByteArray := prog_11_method_38_code
def yX3_calibrate : MethodName := ⟨RX3, "calibrate", "(I)I"⟩
def dkwX3_calibrate_3 : List UInt8 := [42, 27, 182, 0, 85, 172]
abbrev dktX3_calibrate_3 : List UInt8 := dkwX3_calibrate_3 ++ []
def dkwX3_calibrate_2 : List UInt8 := [162, 0, 9, 17, 252, 124, 167, 0, 8, 42, 27, 182, 0, 61, 182, 0, 67, 42, 27, 5, 3, 182, 0, 67]
abbrev dktX3_calibrate_2 : List UInt8 := dkwX3_calibrate_2 ++ dktX3_calibrate_3
def dkwX3_calibrate_1 : List UInt8 := [154, 0, 9, 42, 5, 182, 0, 50, 172, 42, 182, 0, 54, 42, 27, 4, 42, 27, 182, 0, 61, 17, 252, 124]
abbrev dktX3_calibrate_1 : List UInt8 := dkwX3_calibrate_1 ++ dktX3_calibrate_2
def dkwX3_calibrate_0 : List UInt8 := [42, 3, 181, 0, 38, 42, 27, 182, 0, 116, 154, 0, 9, 42, 4, 182, 0, 50, 172, 42, 27, 182, 0, 78]
abbrev dktX3_calibrate_0 : List UInt8 := dkwX3_calibrate_0 ++ dktX3_calibrate_1
theorem dksX3_calibrate_0 : cX3_calibrate.data.toList.drop 0 = dktX3_calibrate_0 := by decide +kernel
theorem dksX3_calibrate_1 : cX3_calibrate.data.toList.drop 24 = dktX3_calibrate_1 := dk_seg dksX3_calibrate_0 24 rfl rfl
theorem dksX3_calibrate_2 : cX3_calibrate.data.toList.drop 48 = dktX3_calibrate_2 := dk_seg dksX3_calibrate_1 24 rfl rfl
theorem dksX3_calibrate_3 : cX3_calibrate.data.toList.drop 72 = dktX3_calibrate_3 := dk_seg dksX3_calibrate_2 24 rfl rfl
theorem dX3_calibrate_0 : decode cX3_calibrate 0 = .ok (.aload_n 0, 1) := dk_42 (dk_at dksX3_calibrate_0 0 rfl rfl)
theorem dX3_calibrate_1 : decode cX3_calibrate 1 = .ok (.iconst 0, 1) := dk_3 (dk_at dksX3_calibrate_0 1 rfl rfl)
theorem dX3_calibrate_2 : decode cX3_calibrate 2 = .ok (.putfield 38, 3) := dk_181 0 38 (dk_at dksX3_calibrate_0 2 rfl rfl)
theorem dX3_calibrate_5 : decode cX3_calibrate 5 = .ok (.aload_n 0, 1) := dk_42 (dk_at dksX3_calibrate_0 5 rfl rfl)
theorem dX3_calibrate_6 : decode cX3_calibrate 6 = .ok (.iload_n 1, 1) := dk_27 (dk_at dksX3_calibrate_0 6 rfl rfl)
theorem dX3_calibrate_7 : decode cX3_calibrate 7 = .ok (.invokevirtual 116, 3) := dk_182 0 116 (dk_at dksX3_calibrate_0 7 rfl rfl)
theorem dX3_calibrate_10 : decode cX3_calibrate 10 = .ok (.ifCond .ne 9, 3) := dk_154 0 9 (dk_at dksX3_calibrate_0 10 rfl rfl)
theorem dX3_calibrate_13 : decode cX3_calibrate 13 = .ok (.aload_n 0, 1) := dk_42 (dk_at dksX3_calibrate_0 13 rfl rfl)
theorem dX3_calibrate_14 : decode cX3_calibrate 14 = .ok (.iconst 1, 1) := dk_4 (dk_at dksX3_calibrate_0 14 rfl rfl)
theorem dX3_calibrate_15 : decode cX3_calibrate 15 = .ok (.invokevirtual 50, 3) := dk_182 0 50 (dk_at dksX3_calibrate_0 15 rfl rfl)
theorem dX3_calibrate_18 : decode cX3_calibrate 18 = .ok (.ireturn, 1) := dk_172 (dk_at dksX3_calibrate_0 18 rfl rfl)
theorem dX3_calibrate_19 : decode cX3_calibrate 19 = .ok (.aload_n 0, 1) := dk_42 (dk_at dksX3_calibrate_0 19 rfl rfl)
theorem dX3_calibrate_20 : decode cX3_calibrate 20 = .ok (.iload_n 1, 1) := dk_27 (dk_at dksX3_calibrate_0 20 rfl rfl)
theorem dX3_calibrate_21 : decode cX3_calibrate 21 = .ok (.invokevirtual 78, 3) := dk_182 0 78 (dk_at dksX3_calibrate_0 21 rfl rfl)
theorem dX3_calibrate_24 : decode cX3_calibrate 24 = .ok (.ifCond .ne 9, 3) := dk_154 0 9 (dk_at dksX3_calibrate_1 0 rfl rfl)
theorem dX3_calibrate_27 : decode cX3_calibrate 27 = .ok (.aload_n 0, 1) := dk_42 (dk_at dksX3_calibrate_1 3 rfl rfl)
theorem dX3_calibrate_28 : decode cX3_calibrate 28 = .ok (.iconst 2, 1) := dk_5 (dk_at dksX3_calibrate_1 4 rfl rfl)
theorem dX3_calibrate_29 : decode cX3_calibrate 29 = .ok (.invokevirtual 50, 3) := dk_182 0 50 (dk_at dksX3_calibrate_1 5 rfl rfl)
theorem dX3_calibrate_32 : decode cX3_calibrate 32 = .ok (.ireturn, 1) := dk_172 (dk_at dksX3_calibrate_1 8 rfl rfl)
theorem dX3_calibrate_33 : decode cX3_calibrate 33 = .ok (.aload_n 0, 1) := dk_42 (dk_at dksX3_calibrate_1 9 rfl rfl)
theorem dX3_calibrate_34 : decode cX3_calibrate 34 = .ok (.invokevirtual 54, 3) := dk_182 0 54 (dk_at dksX3_calibrate_1 10 rfl rfl)
theorem dX3_calibrate_37 : decode cX3_calibrate 37 = .ok (.aload_n 0, 1) := dk_42 (dk_at dksX3_calibrate_1 13 rfl rfl)
theorem dX3_calibrate_38 : decode cX3_calibrate 38 = .ok (.iload_n 1, 1) := dk_27 (dk_at dksX3_calibrate_1 14 rfl rfl)
theorem dX3_calibrate_39 : decode cX3_calibrate 39 = .ok (.iconst 1, 1) := dk_4 (dk_at dksX3_calibrate_1 15 rfl rfl)
theorem dX3_calibrate_40 : decode cX3_calibrate 40 = .ok (.aload_n 0, 1) := dk_42 (dk_at dksX3_calibrate_1 16 rfl rfl)
theorem dX3_calibrate_41 : decode cX3_calibrate 41 = .ok (.iload_n 1, 1) := dk_27 (dk_at dksX3_calibrate_1 17 rfl rfl)
theorem dX3_calibrate_42 : decode cX3_calibrate 42 = .ok (.invokevirtual 61, 3) := dk_182 0 61 (dk_at dksX3_calibrate_1 18 rfl rfl)
theorem dX3_calibrate_45 : decode cX3_calibrate 45 = .ok (.sipush (-900), 3) := dk_17 252 124 (dk_at dksX3_calibrate_1 21 rfl rfl)
theorem dX3_calibrate_48 : decode cX3_calibrate 48 = .ok (.if_icmp .ge 9, 3) := dk_162 0 9 (dk_at dksX3_calibrate_2 0 rfl rfl)
theorem dX3_calibrate_51 : decode cX3_calibrate 51 = .ok (.sipush (-900), 3) := dk_17 252 124 (dk_at dksX3_calibrate_2 3 rfl rfl)
theorem dX3_calibrate_54 : decode cX3_calibrate 54 = .ok (.goto 8, 3) := dk_167 0 8 (dk_at dksX3_calibrate_2 6 rfl rfl)
theorem dX3_calibrate_57 : decode cX3_calibrate 57 = .ok (.aload_n 0, 1) := dk_42 (dk_at dksX3_calibrate_2 9 rfl rfl)
theorem dX3_calibrate_58 : decode cX3_calibrate 58 = .ok (.iload_n 1, 1) := dk_27 (dk_at dksX3_calibrate_2 10 rfl rfl)
theorem dX3_calibrate_59 : decode cX3_calibrate 59 = .ok (.invokevirtual 61, 3) := dk_182 0 61 (dk_at dksX3_calibrate_2 11 rfl rfl)
theorem dX3_calibrate_62 : decode cX3_calibrate 62 = .ok (.invokevirtual 67, 3) := dk_182 0 67 (dk_at dksX3_calibrate_2 14 rfl rfl)
theorem dX3_calibrate_65 : decode cX3_calibrate 65 = .ok (.aload_n 0, 1) := dk_42 (dk_at dksX3_calibrate_2 17 rfl rfl)
theorem dX3_calibrate_66 : decode cX3_calibrate 66 = .ok (.iload_n 1, 1) := dk_27 (dk_at dksX3_calibrate_2 18 rfl rfl)
theorem dX3_calibrate_67 : decode cX3_calibrate 67 = .ok (.iconst 2, 1) := dk_5 (dk_at dksX3_calibrate_2 19 rfl rfl)
theorem dX3_calibrate_68 : decode cX3_calibrate 68 = .ok (.iconst 0, 1) := dk_3 (dk_at dksX3_calibrate_2 20 rfl rfl)
theorem dX3_calibrate_69 : decode cX3_calibrate 69 = .ok (.invokevirtual 67, 3) := dk_182 0 67 (dk_at dksX3_calibrate_2 21 rfl rfl)
theorem dX3_calibrate_72 : decode cX3_calibrate 72 = .ok (.aload_n 0, 1) := dk_42 (dk_at dksX3_calibrate_3 0 rfl rfl)
theorem dX3_calibrate_73 : decode cX3_calibrate 73 = .ok (.iload_n 1, 1) := dk_27 (dk_at dksX3_calibrate_3 1 rfl rfl)
theorem dX3_calibrate_74 : decode cX3_calibrate 74 = .ok (.invokevirtual 85, 3) := dk_182 0 85 (dk_at dksX3_calibrate_3 2 rfl rfl)
theorem dX3_calibrate_77 : decode cX3_calibrate 77 = .ok (.ireturn, 1) := dk_172 (dk_at dksX3_calibrate_3 5 rfl rfl)
abbrev cX3_error : ByteArray := prog_11_method_16_code
def yX3_error : MethodName := ⟨RX3, "error", "(I)I"⟩
def dkwX3_error_0 : List UInt8 := [42, 27, 4, 182, 0, 57, 42, 27, 5, 182, 0, 57, 100, 172]
abbrev dktX3_error_0 : List UInt8 := dkwX3_error_0 ++ []
theorem dksX3_error_0 : cX3_error.data.toList.drop 0 = dktX3_error_0 := by decide +kernel
theorem dX3_error_0 : decode cX3_error 0 = .ok (.aload_n 0, 1) := dk_42 (dk_at dksX3_error_0 0 rfl rfl)
theorem dX3_error_1 : decode cX3_error 1 = .ok (.iload_n 1, 1) := dk_27 (dk_at dksX3_error_0 1 rfl rfl)
theorem dX3_error_2 : decode cX3_error 2 = .ok (.iconst 1, 1) := dk_4 (dk_at dksX3_error_0 2 rfl rfl)
theorem dX3_error_3 : decode cX3_error 3 = .ok (.invokevirtual 57, 3) := dk_182 0 57 (dk_at dksX3_error_0 3 rfl rfl)
theorem dX3_error_6 : decode cX3_error 6 = .ok (.aload_n 0, 1) := dk_42 (dk_at dksX3_error_0 6 rfl rfl)
theorem dX3_error_7 : decode cX3_error 7 = .ok (.iload_n 1, 1) := dk_27 (dk_at dksX3_error_0 7 rfl rfl)
theorem dX3_error_8 : decode cX3_error 8 = .ok (.iconst 2, 1) := dk_5 (dk_at dksX3_error_0 8 rfl rfl)
theorem dX3_error_9 : decode cX3_error 9 = .ok (.invokevirtual 57, 3) := dk_182 0 57 (dk_at dksX3_error_0 9 rfl rfl)
theorem dX3_error_12 : decode cX3_error 12 = .ok (.isub, 1) := dk_100 (dk_at dksX3_error_0 12 rfl rfl)
theorem dX3_error_13 : decode cX3_error 13 = .ok (.ireturn, 1) := dk_172 (dk_at dksX3_error_0 13 rfl rfl)
abbrev cX3_grade : ByteArray := prog_11_method_17_code
def yX3_grade : MethodName := ⟨RX3, "grade", "(I)I"⟩
def dkwX3_grade_1 : List UInt8 := [163, 0, 7, 4, 167, 0, 15, 28, 17, 1, 244, 163, 0, 7, 5, 167, 0, 4, 6, 172]
abbrev dktX3_grade_1 : List UInt8 := dkwX3_grade_1 ++ []
def dkwX3_grade_0 : List UInt8 := [42, 27, 182, 0, 61, 184, 0, 64, 61, 28, 16, 100, 163, 0, 7, 3, 167, 0, 26, 28, 17, 0, 250]
abbrev dktX3_grade_0 : List UInt8 := dkwX3_grade_0 ++ dktX3_grade_1
theorem dksX3_grade_0 : cX3_grade.data.toList.drop 0 = dktX3_grade_0 := by decide +kernel
theorem dksX3_grade_1 : cX3_grade.data.toList.drop 23 = dktX3_grade_1 := dk_seg dksX3_grade_0 23 rfl rfl
theorem dX3_grade_0 : decode cX3_grade 0 = .ok (.aload_n 0, 1) := dk_42 (dk_at dksX3_grade_0 0 rfl rfl)
theorem dX3_grade_1 : decode cX3_grade 1 = .ok (.iload_n 1, 1) := dk_27 (dk_at dksX3_grade_0 1 rfl rfl)
theorem dX3_grade_2 : decode cX3_grade 2 = .ok (.invokevirtual 61, 3) := dk_182 0 61 (dk_at dksX3_grade_0 2 rfl rfl)
theorem dX3_grade_5 : decode cX3_grade 5 = .ok (.invokestatic 64, 3) := dk_184 0 64 (dk_at dksX3_grade_0 5 rfl rfl)
theorem dX3_grade_8 : decode cX3_grade 8 = .ok (.istore_n 2, 1) := dk_61 (dk_at dksX3_grade_0 8 rfl rfl)
theorem dX3_grade_9 : decode cX3_grade 9 = .ok (.iload_n 2, 1) := dk_28 (dk_at dksX3_grade_0 9 rfl rfl)
theorem dX3_grade_10 : decode cX3_grade 10 = .ok (.bipush 100, 2) := dk_16 100 (dk_at dksX3_grade_0 10 rfl rfl)
theorem dX3_grade_12 : decode cX3_grade 12 = .ok (.if_icmp .gt 7, 3) := dk_163 0 7 (dk_at dksX3_grade_0 12 rfl rfl)
theorem dX3_grade_15 : decode cX3_grade 15 = .ok (.iconst 0, 1) := dk_3 (dk_at dksX3_grade_0 15 rfl rfl)
theorem dX3_grade_16 : decode cX3_grade 16 = .ok (.goto 26, 3) := dk_167 0 26 (dk_at dksX3_grade_0 16 rfl rfl)
theorem dX3_grade_19 : decode cX3_grade 19 = .ok (.iload_n 2, 1) := dk_28 (dk_at dksX3_grade_0 19 rfl rfl)
theorem dX3_grade_20 : decode cX3_grade 20 = .ok (.sipush 250, 3) := dk_17 0 250 (dk_at dksX3_grade_0 20 rfl rfl)
theorem dX3_grade_23 : decode cX3_grade 23 = .ok (.if_icmp .gt 7, 3) := dk_163 0 7 (dk_at dksX3_grade_1 0 rfl rfl)
theorem dX3_grade_26 : decode cX3_grade 26 = .ok (.iconst 1, 1) := dk_4 (dk_at dksX3_grade_1 3 rfl rfl)
theorem dX3_grade_27 : decode cX3_grade 27 = .ok (.goto 15, 3) := dk_167 0 15 (dk_at dksX3_grade_1 4 rfl rfl)
theorem dX3_grade_30 : decode cX3_grade 30 = .ok (.iload_n 2, 1) := dk_28 (dk_at dksX3_grade_1 7 rfl rfl)
theorem dX3_grade_31 : decode cX3_grade 31 = .ok (.sipush 500, 3) := dk_17 1 244 (dk_at dksX3_grade_1 8 rfl rfl)
theorem dX3_grade_34 : decode cX3_grade 34 = .ok (.if_icmp .gt 7, 3) := dk_163 0 7 (dk_at dksX3_grade_1 11 rfl rfl)
theorem dX3_grade_37 : decode cX3_grade 37 = .ok (.iconst 2, 1) := dk_5 (dk_at dksX3_grade_1 14 rfl rfl)
theorem dX3_grade_38 : decode cX3_grade 38 = .ok (.goto 4, 3) := dk_167 0 4 (dk_at dksX3_grade_1 15 rfl rfl)
theorem dX3_grade_41 : decode cX3_grade 41 = .ok (.iconst 3, 1) := dk_6 (dk_at dksX3_grade_1 18 rfl rfl)
theorem dX3_grade_42 : decode cX3_grade 42 = .ok (.ireturn, 1) := dk_172 (dk_at dksX3_grade_1 19 rfl rfl)
abbrev cX3_size : ByteArray := prog_11_method_10_code
def yX3_size : MethodName := ⟨RX3, "size", "(I)I"⟩
def dkwX3_size_0 : List UInt8 := [26, 156, 0, 8, 26, 116, 167, 0, 4, 26, 172]
abbrev dktX3_size_0 : List UInt8 := dkwX3_size_0 ++ []
theorem dksX3_size_0 : cX3_size.data.toList.drop 0 = dktX3_size_0 := by decide +kernel
theorem dX3_size_0 : decode cX3_size 0 = .ok (.iload_n 0, 1) := dk_26 (dk_at dksX3_size_0 0 rfl rfl)
theorem dX3_size_1 : decode cX3_size 1 = .ok (.ifCond .ge 8, 3) := dk_156 0 8 (dk_at dksX3_size_0 1 rfl rfl)
theorem dX3_size_4 : decode cX3_size 4 = .ok (.iload_n 0, 1) := dk_26 (dk_at dksX3_size_0 4 rfl rfl)
theorem dX3_size_5 : decode cX3_size 5 = .ok (.ineg, 1) := dk_116 (dk_at dksX3_size_0 5 rfl rfl)
theorem dX3_size_6 : decode cX3_size 6 = .ok (.goto 4, 3) := dk_167 0 4 (dk_at dksX3_size_0 6 rfl rfl)
theorem dX3_size_9 : decode cX3_size 9 = .ok (.iload_n 0, 1) := dk_26 (dk_at dksX3_size_0 9 rfl rfl)
theorem dX3_size_10 : decode cX3_size 10 = .ok (.ireturn, 1) := dk_172 (dk_at dksX3_size_0 10 rfl rfl)
abbrev cX3_hold : ByteArray := prog_11_method_39_code
def yX3_hold : MethodName := ⟨RX3, "hold", "(II)I"⟩
def dkwX3_hold_1 : List UInt8 := [184, 0, 42, 154, 0, 9, 42, 5, 182, 0, 50, 172, 42, 182, 0, 54, 42, 27, 28, 182, 0, 119, 172]
abbrev dktX3_hold_1 : List UInt8 := dkwX3_hold_1 ++ []
def dkwX3_hold_0 : List UInt8 := [42, 3, 181, 0, 38, 42, 27, 182, 0, 116, 154, 0, 9, 42, 4, 182, 0, 50, 172, 28, 4, 16, 60]
abbrev dktX3_hold_0 : List UInt8 := dkwX3_hold_0 ++ dktX3_hold_1
theorem dksX3_hold_0 : cX3_hold.data.toList.drop 0 = dktX3_hold_0 := by decide +kernel
theorem dksX3_hold_1 : cX3_hold.data.toList.drop 23 = dktX3_hold_1 := dk_seg dksX3_hold_0 23 rfl rfl
theorem dX3_hold_0 : decode cX3_hold 0 = .ok (.aload_n 0, 1) := dk_42 (dk_at dksX3_hold_0 0 rfl rfl)
theorem dX3_hold_1 : decode cX3_hold 1 = .ok (.iconst 0, 1) := dk_3 (dk_at dksX3_hold_0 1 rfl rfl)
theorem dX3_hold_2 : decode cX3_hold 2 = .ok (.putfield 38, 3) := dk_181 0 38 (dk_at dksX3_hold_0 2 rfl rfl)
theorem dX3_hold_5 : decode cX3_hold 5 = .ok (.aload_n 0, 1) := dk_42 (dk_at dksX3_hold_0 5 rfl rfl)
theorem dX3_hold_6 : decode cX3_hold 6 = .ok (.iload_n 1, 1) := dk_27 (dk_at dksX3_hold_0 6 rfl rfl)
theorem dX3_hold_7 : decode cX3_hold 7 = .ok (.invokevirtual 116, 3) := dk_182 0 116 (dk_at dksX3_hold_0 7 rfl rfl)
theorem dX3_hold_10 : decode cX3_hold 10 = .ok (.ifCond .ne 9, 3) := dk_154 0 9 (dk_at dksX3_hold_0 10 rfl rfl)
theorem dX3_hold_13 : decode cX3_hold 13 = .ok (.aload_n 0, 1) := dk_42 (dk_at dksX3_hold_0 13 rfl rfl)
theorem dX3_hold_14 : decode cX3_hold 14 = .ok (.iconst 1, 1) := dk_4 (dk_at dksX3_hold_0 14 rfl rfl)
theorem dX3_hold_15 : decode cX3_hold 15 = .ok (.invokevirtual 50, 3) := dk_182 0 50 (dk_at dksX3_hold_0 15 rfl rfl)
theorem dX3_hold_18 : decode cX3_hold 18 = .ok (.ireturn, 1) := dk_172 (dk_at dksX3_hold_0 18 rfl rfl)
theorem dX3_hold_19 : decode cX3_hold 19 = .ok (.iload_n 2, 1) := dk_28 (dk_at dksX3_hold_0 19 rfl rfl)
theorem dX3_hold_20 : decode cX3_hold 20 = .ok (.iconst 1, 1) := dk_4 (dk_at dksX3_hold_0 20 rfl rfl)
theorem dX3_hold_21 : decode cX3_hold 21 = .ok (.bipush 60, 2) := dk_16 60 (dk_at dksX3_hold_0 21 rfl rfl)
theorem dX3_hold_23 : decode cX3_hold 23 = .ok (.invokestatic 42, 3) := dk_184 0 42 (dk_at dksX3_hold_1 0 rfl rfl)
theorem dX3_hold_26 : decode cX3_hold 26 = .ok (.ifCond .ne 9, 3) := dk_154 0 9 (dk_at dksX3_hold_1 3 rfl rfl)
theorem dX3_hold_29 : decode cX3_hold 29 = .ok (.aload_n 0, 1) := dk_42 (dk_at dksX3_hold_1 6 rfl rfl)
theorem dX3_hold_30 : decode cX3_hold 30 = .ok (.iconst 2, 1) := dk_5 (dk_at dksX3_hold_1 7 rfl rfl)
theorem dX3_hold_31 : decode cX3_hold 31 = .ok (.invokevirtual 50, 3) := dk_182 0 50 (dk_at dksX3_hold_1 8 rfl rfl)
theorem dX3_hold_34 : decode cX3_hold 34 = .ok (.ireturn, 1) := dk_172 (dk_at dksX3_hold_1 11 rfl rfl)
theorem dX3_hold_35 : decode cX3_hold 35 = .ok (.aload_n 0, 1) := dk_42 (dk_at dksX3_hold_1 12 rfl rfl)
theorem dX3_hold_36 : decode cX3_hold 36 = .ok (.invokevirtual 54, 3) := dk_182 0 54 (dk_at dksX3_hold_1 13 rfl rfl)
theorem dX3_hold_39 : decode cX3_hold 39 = .ok (.aload_n 0, 1) := dk_42 (dk_at dksX3_hold_1 16 rfl rfl)
theorem dX3_hold_40 : decode cX3_hold 40 = .ok (.iload_n 1, 1) := dk_27 (dk_at dksX3_hold_1 17 rfl rfl)
theorem dX3_hold_41 : decode cX3_hold 41 = .ok (.iload_n 2, 1) := dk_28 (dk_at dksX3_hold_1 18 rfl rfl)
theorem dX3_hold_42 : decode cX3_hold 42 = .ok (.invokevirtual 119, 3) := dk_182 0 119 (dk_at dksX3_hold_1 19 rfl rfl)
theorem dX3_hold_45 : decode cX3_hold 45 = .ok (.ireturn, 1) := dk_172 (dk_at dksX3_hold_1 22 rfl rfl)
abbrev cX3_holdNow : ByteArray := prog_11_method_24_code
def yX3_holdNow : MethodName := ⟨RX3, "holdNow", "(II)I"⟩
def dkwX3_holdNow_0 : List UInt8 := [42, 27, 8, 28, 104, 182, 0, 71, 42, 27, 6, 182, 0, 57, 172]
abbrev dktX3_holdNow_0 : List UInt8 := dkwX3_holdNow_0 ++ []
theorem dksX3_holdNow_0 : cX3_holdNow.data.toList.drop 0 = dktX3_holdNow_0 := by decide +kernel
theorem dX3_holdNow_0 : decode cX3_holdNow 0 = .ok (.aload_n 0, 1) := dk_42 (dk_at dksX3_holdNow_0 0 rfl rfl)
theorem dX3_holdNow_1 : decode cX3_holdNow 1 = .ok (.iload_n 1, 1) := dk_27 (dk_at dksX3_holdNow_0 1 rfl rfl)
theorem dX3_holdNow_2 : decode cX3_holdNow 2 = .ok (.iconst 5, 1) := dk_8 (dk_at dksX3_holdNow_0 2 rfl rfl)
theorem dX3_holdNow_3 : decode cX3_holdNow 3 = .ok (.iload_n 2, 1) := dk_28 (dk_at dksX3_holdNow_0 3 rfl rfl)
theorem dX3_holdNow_4 : decode cX3_holdNow 4 = .ok (.imul, 1) := dk_104 (dk_at dksX3_holdNow_0 4 rfl rfl)
theorem dX3_holdNow_5 : decode cX3_holdNow 5 = .ok (.invokevirtual 71, 3) := dk_182 0 71 (dk_at dksX3_holdNow_0 5 rfl rfl)
theorem dX3_holdNow_8 : decode cX3_holdNow 8 = .ok (.aload_n 0, 1) := dk_42 (dk_at dksX3_holdNow_0 8 rfl rfl)
theorem dX3_holdNow_9 : decode cX3_holdNow 9 = .ok (.iload_n 1, 1) := dk_27 (dk_at dksX3_holdNow_0 9 rfl rfl)
theorem dX3_holdNow_10 : decode cX3_holdNow 10 = .ok (.iconst 3, 1) := dk_6 (dk_at dksX3_holdNow_0 10 rfl rfl)
theorem dX3_holdNow_11 : decode cX3_holdNow 11 = .ok (.invokevirtual 57, 3) := dk_182 0 57 (dk_at dksX3_holdNow_0 11 rfl rfl)
theorem dX3_holdNow_14 : decode cX3_holdNow 14 = .ok (.ireturn, 1) := dk_172 (dk_at dksX3_holdNow_0 14 rfl rfl)
abbrev cX3_warm : ByteArray := prog_11_method_23_code
def yX3_warm : MethodName := ⟨RX3, "warm", "(II)V"⟩
def dkwX3_warm_1 : List UInt8 := [167, 0, 4, 29, 182, 0, 67, 177]
abbrev dktX3_warm_1 : List UInt8 := dkwX3_warm_1 ++ []
def dkwX3_warm_0 : List UInt8 := [42, 27, 6, 182, 0, 57, 28, 96, 62, 42, 27, 6, 29, 17, 3, 232, 164, 0, 9, 17, 3, 232]
abbrev dktX3_warm_0 : List UInt8 := dkwX3_warm_0 ++ dktX3_warm_1
theorem dksX3_warm_0 : cX3_warm.data.toList.drop 0 = dktX3_warm_0 := by decide +kernel
theorem dksX3_warm_1 : cX3_warm.data.toList.drop 22 = dktX3_warm_1 := dk_seg dksX3_warm_0 22 rfl rfl
theorem dX3_warm_0 : decode cX3_warm 0 = .ok (.aload_n 0, 1) := dk_42 (dk_at dksX3_warm_0 0 rfl rfl)
theorem dX3_warm_1 : decode cX3_warm 1 = .ok (.iload_n 1, 1) := dk_27 (dk_at dksX3_warm_0 1 rfl rfl)
theorem dX3_warm_2 : decode cX3_warm 2 = .ok (.iconst 3, 1) := dk_6 (dk_at dksX3_warm_0 2 rfl rfl)
theorem dX3_warm_3 : decode cX3_warm 3 = .ok (.invokevirtual 57, 3) := dk_182 0 57 (dk_at dksX3_warm_0 3 rfl rfl)
theorem dX3_warm_6 : decode cX3_warm 6 = .ok (.iload_n 2, 1) := dk_28 (dk_at dksX3_warm_0 6 rfl rfl)
theorem dX3_warm_7 : decode cX3_warm 7 = .ok (.iadd, 1) := dk_96 (dk_at dksX3_warm_0 7 rfl rfl)
theorem dX3_warm_8 : decode cX3_warm 8 = .ok (.istore_n 3, 1) := dk_62 (dk_at dksX3_warm_0 8 rfl rfl)
theorem dX3_warm_9 : decode cX3_warm 9 = .ok (.aload_n 0, 1) := dk_42 (dk_at dksX3_warm_0 9 rfl rfl)
theorem dX3_warm_10 : decode cX3_warm 10 = .ok (.iload_n 1, 1) := dk_27 (dk_at dksX3_warm_0 10 rfl rfl)
theorem dX3_warm_11 : decode cX3_warm 11 = .ok (.iconst 3, 1) := dk_6 (dk_at dksX3_warm_0 11 rfl rfl)
theorem dX3_warm_12 : decode cX3_warm 12 = .ok (.iload_n 3, 1) := dk_29 (dk_at dksX3_warm_0 12 rfl rfl)
theorem dX3_warm_13 : decode cX3_warm 13 = .ok (.sipush 1000, 3) := dk_17 3 232 (dk_at dksX3_warm_0 13 rfl rfl)
theorem dX3_warm_16 : decode cX3_warm 16 = .ok (.if_icmp .le 9, 3) := dk_164 0 9 (dk_at dksX3_warm_0 16 rfl rfl)
theorem dX3_warm_19 : decode cX3_warm 19 = .ok (.sipush 1000, 3) := dk_17 3 232 (dk_at dksX3_warm_0 19 rfl rfl)
theorem dX3_warm_22 : decode cX3_warm 22 = .ok (.goto 4, 3) := dk_167 0 4 (dk_at dksX3_warm_1 0 rfl rfl)
theorem dX3_warm_25 : decode cX3_warm 25 = .ok (.iload_n 3, 1) := dk_29 (dk_at dksX3_warm_1 3 rfl rfl)
theorem dX3_warm_26 : decode cX3_warm 26 = .ok (.invokevirtual 67, 3) := dk_182 0 67 (dk_at dksX3_warm_1 4 rfl rfl)
theorem dX3_warm_29 : decode cX3_warm 29 = .ok (.return_, 1) := dk_177 (dk_at dksX3_warm_1 7 rfl rfl)
abbrev cX3_rest : ByteArray := prog_11_method_40_code
def yX3_rest : MethodName := ⟨RX3, "rest", "(I)I"⟩
def dkwX3_rest_1 : List UInt8 := [182, 0, 54, 42, 27, 182, 0, 122, 172]
abbrev dktX3_rest_1 : List UInt8 := dkwX3_rest_1 ++ []
def dkwX3_rest_0 : List UInt8 := [42, 3, 181, 0, 38, 27, 4, 16, 60, 184, 0, 42, 154, 0, 9, 42, 4, 182, 0, 50, 172, 42]
abbrev dktX3_rest_0 : List UInt8 := dkwX3_rest_0 ++ dktX3_rest_1
theorem dksX3_rest_0 : cX3_rest.data.toList.drop 0 = dktX3_rest_0 := by decide +kernel
theorem dksX3_rest_1 : cX3_rest.data.toList.drop 22 = dktX3_rest_1 := dk_seg dksX3_rest_0 22 rfl rfl
theorem dX3_rest_0 : decode cX3_rest 0 = .ok (.aload_n 0, 1) := dk_42 (dk_at dksX3_rest_0 0 rfl rfl)
theorem dX3_rest_1 : decode cX3_rest 1 = .ok (.iconst 0, 1) := dk_3 (dk_at dksX3_rest_0 1 rfl rfl)
theorem dX3_rest_2 : decode cX3_rest 2 = .ok (.putfield 38, 3) := dk_181 0 38 (dk_at dksX3_rest_0 2 rfl rfl)
theorem dX3_rest_5 : decode cX3_rest 5 = .ok (.iload_n 1, 1) := dk_27 (dk_at dksX3_rest_0 5 rfl rfl)
theorem dX3_rest_6 : decode cX3_rest 6 = .ok (.iconst 1, 1) := dk_4 (dk_at dksX3_rest_0 6 rfl rfl)
theorem dX3_rest_7 : decode cX3_rest 7 = .ok (.bipush 60, 2) := dk_16 60 (dk_at dksX3_rest_0 7 rfl rfl)
theorem dX3_rest_9 : decode cX3_rest 9 = .ok (.invokestatic 42, 3) := dk_184 0 42 (dk_at dksX3_rest_0 9 rfl rfl)
theorem dX3_rest_12 : decode cX3_rest 12 = .ok (.ifCond .ne 9, 3) := dk_154 0 9 (dk_at dksX3_rest_0 12 rfl rfl)
theorem dX3_rest_15 : decode cX3_rest 15 = .ok (.aload_n 0, 1) := dk_42 (dk_at dksX3_rest_0 15 rfl rfl)
theorem dX3_rest_16 : decode cX3_rest 16 = .ok (.iconst 1, 1) := dk_4 (dk_at dksX3_rest_0 16 rfl rfl)
theorem dX3_rest_17 : decode cX3_rest 17 = .ok (.invokevirtual 50, 3) := dk_182 0 50 (dk_at dksX3_rest_0 17 rfl rfl)
theorem dX3_rest_20 : decode cX3_rest 20 = .ok (.ireturn, 1) := dk_172 (dk_at dksX3_rest_0 20 rfl rfl)
theorem dX3_rest_21 : decode cX3_rest 21 = .ok (.aload_n 0, 1) := dk_42 (dk_at dksX3_rest_0 21 rfl rfl)
theorem dX3_rest_22 : decode cX3_rest 22 = .ok (.invokevirtual 54, 3) := dk_182 0 54 (dk_at dksX3_rest_1 0 rfl rfl)
theorem dX3_rest_25 : decode cX3_rest 25 = .ok (.aload_n 0, 1) := dk_42 (dk_at dksX3_rest_1 3 rfl rfl)
theorem dX3_rest_26 : decode cX3_rest 26 = .ok (.iload_n 1, 1) := dk_27 (dk_at dksX3_rest_1 4 rfl rfl)
theorem dX3_rest_27 : decode cX3_rest 27 = .ok (.invokevirtual 122, 3) := dk_182 0 122 (dk_at dksX3_rest_1 5 rfl rfl)
theorem dX3_rest_30 : decode cX3_rest 30 = .ok (.ireturn, 1) := dk_172 (dk_at dksX3_rest_1 8 rfl rfl)
abbrev cX3_restNow : ByteArray := prog_11_method_25_code
def yX3_restNow : MethodName := ⟨RX3, "restNow", "(I)I"⟩
def dkwX3_restNow_3 : List UInt8 := [42, 180, 0, 7, 7, 92, 46, 27, 96, 79, 28, 172]
abbrev dktX3_restNow_3 : List UInt8 := dkwX3_restNow_3 ++ []
def dkwX3_restNow_2 : List UInt8 := [182, 0, 57, 28, 164, 0, 12, 42, 29, 6, 182, 0, 57, 167, 0, 4, 28, 61, 132, 3, 1, 167, 255, 191]
abbrev dktX3_restNow_2 : List UInt8 := dkwX3_restNow_2 ++ dktX3_restNow_3
def dkwX3_restNow_1 : List UInt8 := [42, 29, 6, 42, 29, 6, 182, 0, 57, 184, 0, 75, 182, 0, 67, 132, 4, 1, 167, 255, 232, 42, 29, 6]
abbrev dktX3_restNow_1 : List UInt8 := dkwX3_restNow_1 ++ dktX3_restNow_2
def dkwX3_restNow_0 : List UInt8 := [3, 61, 3, 62, 29, 42, 180, 0, 7, 16, 8, 46, 162, 0, 60, 3, 54, 4, 21, 4, 27, 162, 0, 24]
abbrev dktX3_restNow_0 : List UInt8 := dkwX3_restNow_0 ++ dktX3_restNow_1
theorem dksX3_restNow_0 : cX3_restNow.data.toList.drop 0 = dktX3_restNow_0 := by decide +kernel
theorem dksX3_restNow_1 : cX3_restNow.data.toList.drop 24 = dktX3_restNow_1 := dk_seg dksX3_restNow_0 24 rfl rfl
theorem dksX3_restNow_2 : cX3_restNow.data.toList.drop 48 = dktX3_restNow_2 := dk_seg dksX3_restNow_1 24 rfl rfl
theorem dksX3_restNow_3 : cX3_restNow.data.toList.drop 72 = dktX3_restNow_3 := dk_seg dksX3_restNow_2 24 rfl rfl
theorem dX3_restNow_0 : decode cX3_restNow 0 = .ok (.iconst 0, 1) := dk_3 (dk_at dksX3_restNow_0 0 rfl rfl)
theorem dX3_restNow_1 : decode cX3_restNow 1 = .ok (.istore_n 2, 1) := dk_61 (dk_at dksX3_restNow_0 1 rfl rfl)
theorem dX3_restNow_2 : decode cX3_restNow 2 = .ok (.iconst 0, 1) := dk_3 (dk_at dksX3_restNow_0 2 rfl rfl)
theorem dX3_restNow_3 : decode cX3_restNow 3 = .ok (.istore_n 3, 1) := dk_62 (dk_at dksX3_restNow_0 3 rfl rfl)
theorem dX3_restNow_4 : decode cX3_restNow 4 = .ok (.iload_n 3, 1) := dk_29 (dk_at dksX3_restNow_0 4 rfl rfl)
theorem dX3_restNow_5 : decode cX3_restNow 5 = .ok (.aload_n 0, 1) := dk_42 (dk_at dksX3_restNow_0 5 rfl rfl)
theorem dX3_restNow_6 : decode cX3_restNow 6 = .ok (.getfield 7, 3) := dk_180 0 7 (dk_at dksX3_restNow_0 6 rfl rfl)
theorem dX3_restNow_9 : decode cX3_restNow 9 = .ok (.bipush 8, 2) := dk_16 8 (dk_at dksX3_restNow_0 9 rfl rfl)
theorem dX3_restNow_11 : decode cX3_restNow 11 = .ok (.iaload, 1) := dk_46 (dk_at dksX3_restNow_0 11 rfl rfl)
theorem dX3_restNow_12 : decode cX3_restNow 12 = .ok (.if_icmp .ge 60, 3) := dk_162 0 60 (dk_at dksX3_restNow_0 12 rfl rfl)
theorem dX3_restNow_15 : decode cX3_restNow 15 = .ok (.iconst 0, 1) := dk_3 (dk_at dksX3_restNow_0 15 rfl rfl)
theorem dX3_restNow_16 : decode cX3_restNow 16 = .ok (.istore 4, 2) := dk_54 4 (dk_at dksX3_restNow_0 16 rfl rfl)
theorem dX3_restNow_18 : decode cX3_restNow 18 = .ok (.iload 4, 2) := dk_21 4 (dk_at dksX3_restNow_0 18 rfl rfl)
theorem dX3_restNow_20 : decode cX3_restNow 20 = .ok (.iload_n 1, 1) := dk_27 (dk_at dksX3_restNow_0 20 rfl rfl)
theorem dX3_restNow_21 : decode cX3_restNow 21 = .ok (.if_icmp .ge 24, 3) := dk_162 0 24 (dk_at dksX3_restNow_0 21 rfl rfl)
theorem dX3_restNow_24 : decode cX3_restNow 24 = .ok (.aload_n 0, 1) := dk_42 (dk_at dksX3_restNow_1 0 rfl rfl)
theorem dX3_restNow_25 : decode cX3_restNow 25 = .ok (.iload_n 3, 1) := dk_29 (dk_at dksX3_restNow_1 1 rfl rfl)
theorem dX3_restNow_26 : decode cX3_restNow 26 = .ok (.iconst 3, 1) := dk_6 (dk_at dksX3_restNow_1 2 rfl rfl)
theorem dX3_restNow_27 : decode cX3_restNow 27 = .ok (.aload_n 0, 1) := dk_42 (dk_at dksX3_restNow_1 3 rfl rfl)
theorem dX3_restNow_28 : decode cX3_restNow 28 = .ok (.iload_n 3, 1) := dk_29 (dk_at dksX3_restNow_1 4 rfl rfl)
theorem dX3_restNow_29 : decode cX3_restNow 29 = .ok (.iconst 3, 1) := dk_6 (dk_at dksX3_restNow_1 5 rfl rfl)
theorem dX3_restNow_30 : decode cX3_restNow 30 = .ok (.invokevirtual 57, 3) := dk_182 0 57 (dk_at dksX3_restNow_1 6 rfl rfl)
theorem dX3_restNow_33 : decode cX3_restNow 33 = .ok (.invokestatic 75, 3) := dk_184 0 75 (dk_at dksX3_restNow_1 9 rfl rfl)
theorem dX3_restNow_36 : decode cX3_restNow 36 = .ok (.invokevirtual 67, 3) := dk_182 0 67 (dk_at dksX3_restNow_1 12 rfl rfl)
theorem dX3_restNow_39 : decode cX3_restNow 39 = .ok (.iinc 4 1, 3) := dk_132 4 1 (dk_at dksX3_restNow_1 15 rfl rfl)
theorem dX3_restNow_42 : decode cX3_restNow 42 = .ok (.goto (-24), 3) := dk_167 255 232 (dk_at dksX3_restNow_1 18 rfl rfl)
theorem dX3_restNow_45 : decode cX3_restNow 45 = .ok (.aload_n 0, 1) := dk_42 (dk_at dksX3_restNow_1 21 rfl rfl)
theorem dX3_restNow_46 : decode cX3_restNow 46 = .ok (.iload_n 3, 1) := dk_29 (dk_at dksX3_restNow_1 22 rfl rfl)
theorem dX3_restNow_47 : decode cX3_restNow 47 = .ok (.iconst 3, 1) := dk_6 (dk_at dksX3_restNow_1 23 rfl rfl)
theorem dX3_restNow_48 : decode cX3_restNow 48 = .ok (.invokevirtual 57, 3) := dk_182 0 57 (dk_at dksX3_restNow_2 0 rfl rfl)
theorem dX3_restNow_51 : decode cX3_restNow 51 = .ok (.iload_n 2, 1) := dk_28 (dk_at dksX3_restNow_2 3 rfl rfl)
theorem dX3_restNow_52 : decode cX3_restNow 52 = .ok (.if_icmp .le 12, 3) := dk_164 0 12 (dk_at dksX3_restNow_2 4 rfl rfl)
theorem dX3_restNow_55 : decode cX3_restNow 55 = .ok (.aload_n 0, 1) := dk_42 (dk_at dksX3_restNow_2 7 rfl rfl)
theorem dX3_restNow_56 : decode cX3_restNow 56 = .ok (.iload_n 3, 1) := dk_29 (dk_at dksX3_restNow_2 8 rfl rfl)
theorem dX3_restNow_57 : decode cX3_restNow 57 = .ok (.iconst 3, 1) := dk_6 (dk_at dksX3_restNow_2 9 rfl rfl)
theorem dX3_restNow_58 : decode cX3_restNow 58 = .ok (.invokevirtual 57, 3) := dk_182 0 57 (dk_at dksX3_restNow_2 10 rfl rfl)
theorem dX3_restNow_61 : decode cX3_restNow 61 = .ok (.goto 4, 3) := dk_167 0 4 (dk_at dksX3_restNow_2 13 rfl rfl)
theorem dX3_restNow_64 : decode cX3_restNow 64 = .ok (.iload_n 2, 1) := dk_28 (dk_at dksX3_restNow_2 16 rfl rfl)
theorem dX3_restNow_65 : decode cX3_restNow 65 = .ok (.istore_n 2, 1) := dk_61 (dk_at dksX3_restNow_2 17 rfl rfl)
theorem dX3_restNow_66 : decode cX3_restNow 66 = .ok (.iinc 3 1, 3) := dk_132 3 1 (dk_at dksX3_restNow_2 18 rfl rfl)
theorem dX3_restNow_69 : decode cX3_restNow 69 = .ok (.goto (-65), 3) := dk_167 255 191 (dk_at dksX3_restNow_2 21 rfl rfl)
theorem dX3_restNow_72 : decode cX3_restNow 72 = .ok (.aload_n 0, 1) := dk_42 (dk_at dksX3_restNow_3 0 rfl rfl)
theorem dX3_restNow_73 : decode cX3_restNow 73 = .ok (.getfield 7, 3) := dk_180 0 7 (dk_at dksX3_restNow_3 1 rfl rfl)
theorem dX3_restNow_76 : decode cX3_restNow 76 = .ok (.iconst 4, 1) := dk_7 (dk_at dksX3_restNow_3 4 rfl rfl)
theorem dX3_restNow_77 : decode cX3_restNow 77 = .ok (.dup2, 1) := dk_92 (dk_at dksX3_restNow_3 5 rfl rfl)
theorem dX3_restNow_78 : decode cX3_restNow 78 = .ok (.iaload, 1) := dk_46 (dk_at dksX3_restNow_3 6 rfl rfl)
theorem dX3_restNow_79 : decode cX3_restNow 79 = .ok (.iload_n 1, 1) := dk_27 (dk_at dksX3_restNow_3 7 rfl rfl)
theorem dX3_restNow_80 : decode cX3_restNow 80 = .ok (.iadd, 1) := dk_96 (dk_at dksX3_restNow_3 8 rfl rfl)
theorem dX3_restNow_81 : decode cX3_restNow 81 = .ok (.iastore, 1) := dk_79 (dk_at dksX3_restNow_3 9 rfl rfl)
theorem dX3_restNow_82 : decode cX3_restNow 82 = .ok (.iload_n 2, 1) := dk_28 (dk_at dksX3_restNow_3 10 rfl rfl)
theorem dX3_restNow_83 : decode cX3_restNow 83 = .ok (.ireturn, 1) := dk_172 (dk_at dksX3_restNow_3 11 rfl rfl)
abbrev cX3_cooled : ByteArray := prog_11_method_21_code
def yX3_cooled : MethodName := ⟨RX3, "cooled", "(I)I"⟩
def dkwX3_cooled_0 : List UInt8 := [26, 26, 16, 9, 96, 16, 10, 108, 100, 172]
abbrev dktX3_cooled_0 : List UInt8 := dkwX3_cooled_0 ++ []
theorem dksX3_cooled_0 : cX3_cooled.data.toList.drop 0 = dktX3_cooled_0 := by decide +kernel
theorem dX3_cooled_0 : decode cX3_cooled 0 = .ok (.iload_n 0, 1) := dk_26 (dk_at dksX3_cooled_0 0 rfl rfl)
theorem dX3_cooled_1 : decode cX3_cooled 1 = .ok (.iload_n 0, 1) := dk_26 (dk_at dksX3_cooled_0 1 rfl rfl)
theorem dX3_cooled_2 : decode cX3_cooled 2 = .ok (.bipush 9, 2) := dk_16 9 (dk_at dksX3_cooled_0 2 rfl rfl)
theorem dX3_cooled_4 : decode cX3_cooled 4 = .ok (.iadd, 1) := dk_96 (dk_at dksX3_cooled_0 4 rfl rfl)
theorem dX3_cooled_5 : decode cX3_cooled 5 = .ok (.bipush 10, 2) := dk_16 10 (dk_at dksX3_cooled_0 5 rfl rfl)
theorem dX3_cooled_7 : decode cX3_cooled 7 = .ok (.idiv, 1) := dk_108 (dk_at dksX3_cooled_0 7 rfl rfl)
theorem dX3_cooled_8 : decode cX3_cooled 8 = .ok (.isub, 1) := dk_100 (dk_at dksX3_cooled_0 8 rfl rfl)
theorem dX3_cooled_9 : decode cX3_cooled 9 = .ok (.ireturn, 1) := dk_172 (dk_at dksX3_cooled_0 9 rfl rfl)
abbrev cX3_set : ByteArray := prog_11_method_42_code
def yX3_set : MethodName := ⟨RX3, "set", "(II)I"⟩
def dkwX3_set_2 : List UInt8 := [180, 0, 7, 27, 28, 79, 29, 172]
abbrev dktX3_set_2 : List UInt8 := dkwX3_set_2 ++ []
def dkwX3_set_1 : List UInt8 := [184, 0, 125, 154, 0, 9, 42, 5, 182, 0, 50, 172, 42, 182, 0, 54, 42, 180, 0, 7, 27, 46, 62, 42]
abbrev dktX3_set_1 : List UInt8 := dkwX3_set_1 ++ dktX3_set_2
def dkwX3_set_0 : List UInt8 := [42, 3, 181, 0, 38, 27, 3, 6, 184, 0, 42, 154, 0, 9, 42, 4, 182, 0, 50, 172, 27, 28]
abbrev dktX3_set_0 : List UInt8 := dkwX3_set_0 ++ dktX3_set_1
theorem dksX3_set_0 : cX3_set.data.toList.drop 0 = dktX3_set_0 := by decide +kernel
theorem dksX3_set_1 : cX3_set.data.toList.drop 22 = dktX3_set_1 := dk_seg dksX3_set_0 22 rfl rfl
theorem dksX3_set_2 : cX3_set.data.toList.drop 46 = dktX3_set_2 := dk_seg dksX3_set_1 24 rfl rfl
theorem dX3_set_0 : decode cX3_set 0 = .ok (.aload_n 0, 1) := dk_42 (dk_at dksX3_set_0 0 rfl rfl)
theorem dX3_set_1 : decode cX3_set 1 = .ok (.iconst 0, 1) := dk_3 (dk_at dksX3_set_0 1 rfl rfl)
theorem dX3_set_2 : decode cX3_set 2 = .ok (.putfield 38, 3) := dk_181 0 38 (dk_at dksX3_set_0 2 rfl rfl)
theorem dX3_set_5 : decode cX3_set 5 = .ok (.iload_n 1, 1) := dk_27 (dk_at dksX3_set_0 5 rfl rfl)
theorem dX3_set_6 : decode cX3_set 6 = .ok (.iconst 0, 1) := dk_3 (dk_at dksX3_set_0 6 rfl rfl)
theorem dX3_set_7 : decode cX3_set 7 = .ok (.iconst 3, 1) := dk_6 (dk_at dksX3_set_0 7 rfl rfl)
theorem dX3_set_8 : decode cX3_set 8 = .ok (.invokestatic 42, 3) := dk_184 0 42 (dk_at dksX3_set_0 8 rfl rfl)
theorem dX3_set_11 : decode cX3_set 11 = .ok (.ifCond .ne 9, 3) := dk_154 0 9 (dk_at dksX3_set_0 11 rfl rfl)
theorem dX3_set_14 : decode cX3_set 14 = .ok (.aload_n 0, 1) := dk_42 (dk_at dksX3_set_0 14 rfl rfl)
theorem dX3_set_15 : decode cX3_set 15 = .ok (.iconst 1, 1) := dk_4 (dk_at dksX3_set_0 15 rfl rfl)
theorem dX3_set_16 : decode cX3_set 16 = .ok (.invokevirtual 50, 3) := dk_182 0 50 (dk_at dksX3_set_0 16 rfl rfl)
theorem dX3_set_19 : decode cX3_set 19 = .ok (.ireturn, 1) := dk_172 (dk_at dksX3_set_0 19 rfl rfl)
theorem dX3_set_20 : decode cX3_set 20 = .ok (.iload_n 1, 1) := dk_27 (dk_at dksX3_set_0 20 rfl rfl)
theorem dX3_set_21 : decode cX3_set 21 = .ok (.iload_n 2, 1) := dk_28 (dk_at dksX3_set_0 21 rfl rfl)
theorem dX3_set_22 : decode cX3_set 22 = .ok (.invokestatic 125, 3) := dk_184 0 125 (dk_at dksX3_set_1 0 rfl rfl)
theorem dX3_set_25 : decode cX3_set 25 = .ok (.ifCond .ne 9, 3) := dk_154 0 9 (dk_at dksX3_set_1 3 rfl rfl)
theorem dX3_set_28 : decode cX3_set 28 = .ok (.aload_n 0, 1) := dk_42 (dk_at dksX3_set_1 6 rfl rfl)
theorem dX3_set_29 : decode cX3_set 29 = .ok (.iconst 2, 1) := dk_5 (dk_at dksX3_set_1 7 rfl rfl)
theorem dX3_set_30 : decode cX3_set 30 = .ok (.invokevirtual 50, 3) := dk_182 0 50 (dk_at dksX3_set_1 8 rfl rfl)
theorem dX3_set_33 : decode cX3_set 33 = .ok (.ireturn, 1) := dk_172 (dk_at dksX3_set_1 11 rfl rfl)
theorem dX3_set_34 : decode cX3_set 34 = .ok (.aload_n 0, 1) := dk_42 (dk_at dksX3_set_1 12 rfl rfl)
theorem dX3_set_35 : decode cX3_set 35 = .ok (.invokevirtual 54, 3) := dk_182 0 54 (dk_at dksX3_set_1 13 rfl rfl)
theorem dX3_set_38 : decode cX3_set 38 = .ok (.aload_n 0, 1) := dk_42 (dk_at dksX3_set_1 16 rfl rfl)
theorem dX3_set_39 : decode cX3_set 39 = .ok (.getfield 7, 3) := dk_180 0 7 (dk_at dksX3_set_1 17 rfl rfl)
theorem dX3_set_42 : decode cX3_set 42 = .ok (.iload_n 1, 1) := dk_27 (dk_at dksX3_set_1 20 rfl rfl)
theorem dX3_set_43 : decode cX3_set 43 = .ok (.iaload, 1) := dk_46 (dk_at dksX3_set_1 21 rfl rfl)
theorem dX3_set_44 : decode cX3_set 44 = .ok (.istore_n 3, 1) := dk_62 (dk_at dksX3_set_1 22 rfl rfl)
theorem dX3_set_45 : decode cX3_set 45 = .ok (.aload_n 0, 1) := dk_42 (dk_at dksX3_set_1 23 rfl rfl)
theorem dX3_set_46 : decode cX3_set 46 = .ok (.getfield 7, 3) := dk_180 0 7 (dk_at dksX3_set_2 0 rfl rfl)
theorem dX3_set_49 : decode cX3_set 49 = .ok (.iload_n 1, 1) := dk_27 (dk_at dksX3_set_2 3 rfl rfl)
theorem dX3_set_50 : decode cX3_set 50 = .ok (.iload_n 2, 1) := dk_28 (dk_at dksX3_set_2 4 rfl rfl)
theorem dX3_set_51 : decode cX3_set 51 = .ok (.iastore, 1) := dk_79 (dk_at dksX3_set_2 5 rfl rfl)
theorem dX3_set_52 : decode cX3_set 52 = .ok (.iload_n 3, 1) := dk_29 (dk_at dksX3_set_2 6 rfl rfl)
theorem dX3_set_53 : decode cX3_set 53 = .ok (.ireturn, 1) := dk_172 (dk_at dksX3_set_2 7 rfl rfl)
abbrev cX3_maySet : ByteArray := prog_11_method_41_code
def yX3_maySet : MethodName := ⟨RX3, "maySet", "(II)Z"⟩
def dkwX3_maySet_3 : List UInt8 := [172, 27, 3, 17, 0, 200, 184, 0, 42, 172]
abbrev dktX3_maySet_3 : List UInt8 := dkwX3_maySet_3 ++ []
def dkwX3_maySet_2 : List UInt8 := [27, 3, 16, 60, 184, 0, 42, 172, 27, 3, 17, 3, 232, 184, 0, 42, 172, 27, 3, 16, 20, 184, 0, 42]
abbrev dktX3_maySet_2 : List UInt8 := dkwX3_maySet_2 ++ dktX3_maySet_3
def dkwX3_maySet_1 : List UInt8 := [170, 0, 0, 0, 0, 0, 52, 0, 0, 0, 0, 0, 0, 0, 2, 0, 0, 0, 27, 0, 0, 0, 35, 0, 0, 0, 44]
abbrev dktX3_maySet_1 : List UInt8 := dkwX3_maySet_1 ++ dktX3_maySet_2
def dkwX3_maySet_0 : List UInt8 := [26]
abbrev dktX3_maySet_0 : List UInt8 := dkwX3_maySet_0 ++ dktX3_maySet_1
theorem dksX3_maySet_0 : cX3_maySet.data.toList.drop 0 = dktX3_maySet_0 := by decide +kernel
theorem dksX3_maySet_1 : cX3_maySet.data.toList.drop 1 = dktX3_maySet_1 := dk_seg dksX3_maySet_0 1 rfl rfl
theorem dksX3_maySet_2 : cX3_maySet.data.toList.drop 28 = dktX3_maySet_2 := dk_seg dksX3_maySet_1 27 rfl rfl
theorem dksX3_maySet_3 : cX3_maySet.data.toList.drop 52 = dktX3_maySet_3 := dk_seg dksX3_maySet_2 24 rfl rfl
theorem dX3_maySet_0 : decode cX3_maySet 0 = .ok (.iload_n 0, 1) := dk_26 (dk_at dksX3_maySet_0 0 rfl rfl)
theorem dX3_maySet_1 : decode cX3_maySet 1 = .ok (.tableswitch 52 0 2 #[27, 35, 44], 27) := by decide +kernel
theorem dX3_maySet_28 : decode cX3_maySet 28 = .ok (.iload_n 1, 1) := dk_27 (dk_at dksX3_maySet_2 0 rfl rfl)
theorem dX3_maySet_29 : decode cX3_maySet 29 = .ok (.iconst 0, 1) := dk_3 (dk_at dksX3_maySet_2 1 rfl rfl)
theorem dX3_maySet_30 : decode cX3_maySet 30 = .ok (.bipush 60, 2) := dk_16 60 (dk_at dksX3_maySet_2 2 rfl rfl)
theorem dX3_maySet_32 : decode cX3_maySet 32 = .ok (.invokestatic 42, 3) := dk_184 0 42 (dk_at dksX3_maySet_2 4 rfl rfl)
theorem dX3_maySet_35 : decode cX3_maySet 35 = .ok (.ireturn, 1) := dk_172 (dk_at dksX3_maySet_2 7 rfl rfl)
theorem dX3_maySet_36 : decode cX3_maySet 36 = .ok (.iload_n 1, 1) := dk_27 (dk_at dksX3_maySet_2 8 rfl rfl)
theorem dX3_maySet_37 : decode cX3_maySet 37 = .ok (.iconst 0, 1) := dk_3 (dk_at dksX3_maySet_2 9 rfl rfl)
theorem dX3_maySet_38 : decode cX3_maySet 38 = .ok (.sipush 1000, 3) := dk_17 3 232 (dk_at dksX3_maySet_2 10 rfl rfl)
theorem dX3_maySet_41 : decode cX3_maySet 41 = .ok (.invokestatic 42, 3) := dk_184 0 42 (dk_at dksX3_maySet_2 13 rfl rfl)
theorem dX3_maySet_44 : decode cX3_maySet 44 = .ok (.ireturn, 1) := dk_172 (dk_at dksX3_maySet_2 16 rfl rfl)
theorem dX3_maySet_45 : decode cX3_maySet 45 = .ok (.iload_n 1, 1) := dk_27 (dk_at dksX3_maySet_2 17 rfl rfl)
theorem dX3_maySet_46 : decode cX3_maySet 46 = .ok (.iconst 0, 1) := dk_3 (dk_at dksX3_maySet_2 18 rfl rfl)
theorem dX3_maySet_47 : decode cX3_maySet 47 = .ok (.bipush 20, 2) := dk_16 20 (dk_at dksX3_maySet_2 19 rfl rfl)
theorem dX3_maySet_49 : decode cX3_maySet 49 = .ok (.invokestatic 42, 3) := dk_184 0 42 (dk_at dksX3_maySet_2 21 rfl rfl)
theorem dX3_maySet_52 : decode cX3_maySet 52 = .ok (.ireturn, 1) := dk_172 (dk_at dksX3_maySet_3 0 rfl rfl)
theorem dX3_maySet_53 : decode cX3_maySet 53 = .ok (.iload_n 1, 1) := dk_27 (dk_at dksX3_maySet_3 1 rfl rfl)
theorem dX3_maySet_54 : decode cX3_maySet 54 = .ok (.iconst 0, 1) := dk_3 (dk_at dksX3_maySet_3 2 rfl rfl)
theorem dX3_maySet_55 : decode cX3_maySet 55 = .ok (.sipush 200, 3) := dk_17 0 200 (dk_at dksX3_maySet_3 3 rfl rfl)
theorem dX3_maySet_58 : decode cX3_maySet 58 = .ok (.invokestatic 42, 3) := dk_184 0 42 (dk_at dksX3_maySet_3 6 rfl rfl)
theorem dX3_maySet_61 : decode cX3_maySet 61 = .ok (.ireturn, 1) := dk_172 (dk_at dksX3_maySet_3 9 rfl rfl)
abbrev cX3_wring : ByteArray := prog_11_method_43_code
def yX3_wring : MethodName := ⟨RX3, "wring", "(II)I"⟩
def dkwX3_wring_1 : List UInt8 := [182, 0, 50, 172, 42, 182, 0, 54, 42, 27, 28, 182, 0, 132, 172]
abbrev dktX3_wring_1 : List UInt8 := dkwX3_wring_1 ++ []
def dkwX3_wring_0 : List UInt8 := [42, 3, 181, 0, 38, 27, 184, 0, 129, 153, 0, 11, 42, 28, 182, 0, 116, 154, 0, 9, 42, 4]
abbrev dktX3_wring_0 : List UInt8 := dkwX3_wring_0 ++ dktX3_wring_1
theorem dksX3_wring_0 : cX3_wring.data.toList.drop 0 = dktX3_wring_0 := by decide +kernel
theorem dksX3_wring_1 : cX3_wring.data.toList.drop 22 = dktX3_wring_1 := dk_seg dksX3_wring_0 22 rfl rfl
theorem dX3_wring_0 : decode cX3_wring 0 = .ok (.aload_n 0, 1) := dk_42 (dk_at dksX3_wring_0 0 rfl rfl)
theorem dX3_wring_1 : decode cX3_wring 1 = .ok (.iconst 0, 1) := dk_3 (dk_at dksX3_wring_0 1 rfl rfl)
theorem dX3_wring_2 : decode cX3_wring 2 = .ok (.putfield 38, 3) := dk_181 0 38 (dk_at dksX3_wring_0 2 rfl rfl)
theorem dX3_wring_5 : decode cX3_wring 5 = .ok (.iload_n 1, 1) := dk_27 (dk_at dksX3_wring_0 5 rfl rfl)
theorem dX3_wring_6 : decode cX3_wring 6 = .ok (.invokestatic 129, 3) := dk_184 0 129 (dk_at dksX3_wring_0 6 rfl rfl)
theorem dX3_wring_9 : decode cX3_wring 9 = .ok (.ifCond .eq 11, 3) := dk_153 0 11 (dk_at dksX3_wring_0 9 rfl rfl)
theorem dX3_wring_12 : decode cX3_wring 12 = .ok (.aload_n 0, 1) := dk_42 (dk_at dksX3_wring_0 12 rfl rfl)
theorem dX3_wring_13 : decode cX3_wring 13 = .ok (.iload_n 2, 1) := dk_28 (dk_at dksX3_wring_0 13 rfl rfl)
theorem dX3_wring_14 : decode cX3_wring 14 = .ok (.invokevirtual 116, 3) := dk_182 0 116 (dk_at dksX3_wring_0 14 rfl rfl)
theorem dX3_wring_17 : decode cX3_wring 17 = .ok (.ifCond .ne 9, 3) := dk_154 0 9 (dk_at dksX3_wring_0 17 rfl rfl)
theorem dX3_wring_20 : decode cX3_wring 20 = .ok (.aload_n 0, 1) := dk_42 (dk_at dksX3_wring_0 20 rfl rfl)
theorem dX3_wring_21 : decode cX3_wring 21 = .ok (.iconst 1, 1) := dk_4 (dk_at dksX3_wring_0 21 rfl rfl)
theorem dX3_wring_22 : decode cX3_wring 22 = .ok (.invokevirtual 50, 3) := dk_182 0 50 (dk_at dksX3_wring_1 0 rfl rfl)
theorem dX3_wring_25 : decode cX3_wring 25 = .ok (.ireturn, 1) := dk_172 (dk_at dksX3_wring_1 3 rfl rfl)
theorem dX3_wring_26 : decode cX3_wring 26 = .ok (.aload_n 0, 1) := dk_42 (dk_at dksX3_wring_1 4 rfl rfl)
theorem dX3_wring_27 : decode cX3_wring 27 = .ok (.invokevirtual 54, 3) := dk_182 0 54 (dk_at dksX3_wring_1 5 rfl rfl)
theorem dX3_wring_30 : decode cX3_wring 30 = .ok (.aload_n 0, 1) := dk_42 (dk_at dksX3_wring_1 8 rfl rfl)
theorem dX3_wring_31 : decode cX3_wring 31 = .ok (.iload_n 1, 1) := dk_27 (dk_at dksX3_wring_1 9 rfl rfl)
theorem dX3_wring_32 : decode cX3_wring 32 = .ok (.iload_n 2, 1) := dk_28 (dk_at dksX3_wring_1 10 rfl rfl)
theorem dX3_wring_33 : decode cX3_wring 33 = .ok (.invokevirtual 132, 3) := dk_182 0 132 (dk_at dksX3_wring_1 11 rfl rfl)
theorem dX3_wring_36 : decode cX3_wring 36 = .ok (.ireturn, 1) := dk_172 (dk_at dksX3_wring_1 14 rfl rfl)
abbrev cX3_isStack : ByteArray := prog_11_method_6_code
def yX3_isStack : MethodName := ⟨RX3, "isStack", "(I)Z"⟩
def dkwX3_isStack_0 : List UInt8 := [26, 3, 5, 184, 0, 42, 172]
abbrev dktX3_isStack_0 : List UInt8 := dkwX3_isStack_0 ++ []
theorem dksX3_isStack_0 : cX3_isStack.data.toList.drop 0 = dktX3_isStack_0 := by decide +kernel
theorem dX3_isStack_0 : decode cX3_isStack 0 = .ok (.iload_n 0, 1) := dk_26 (dk_at dksX3_isStack_0 0 rfl rfl)
theorem dX3_isStack_1 : decode cX3_isStack 1 = .ok (.iconst 0, 1) := dk_3 (dk_at dksX3_isStack_0 1 rfl rfl)
theorem dX3_isStack_2 : decode cX3_isStack 2 = .ok (.iconst 2, 1) := dk_5 (dk_at dksX3_isStack_0 2 rfl rfl)
theorem dX3_isStack_3 : decode cX3_isStack 3 = .ok (.invokestatic 42, 3) := dk_184 0 42 (dk_at dksX3_isStack_0 3 rfl rfl)
theorem dX3_isStack_6 : decode cX3_isStack 6 = .ok (.ireturn, 1) := dk_172 (dk_at dksX3_isStack_0 6 rfl rfl)
abbrev cX3_wringNow : ByteArray := prog_11_method_28_code
def yX3_wringNow : MethodName := ⟨RX3, "wringNow", "(II)I"⟩
def dkwX3_wringNow_3 : List UInt8 := [96, 79, 3, 172]
abbrev dktX3_wringNow_3 : List UInt8 := dkwX3_wringNow_3 ++ []
def dkwX3_wringNow_2 : List UInt8 := [42, 28, 16, 6, 42, 28, 16, 6, 182, 0, 57, 4, 96, 182, 0, 67, 42, 180, 0, 7, 8, 92, 46, 4]
abbrev dktX3_wringNow_2 : List UInt8 := dkwX3_wringNow_2 ++ dktX3_wringNow_3
def dkwX3_wringNow_1 : List UInt8 := [42, 28, 8, 42, 27, 182, 0, 82, 182, 0, 67, 42, 28, 7, 27, 182, 0, 67, 42, 27, 28, 182, 0, 94]
abbrev dktX3_wringNow_1 : List UInt8 := dkwX3_wringNow_1 ++ dktX3_wringNow_2
def dkwX3_wringNow_0 : List UInt8 := [42, 27, 28, 182, 0, 91, 62, 29, 158, 0, 16, 42, 180, 0, 7, 16, 7, 92, 46, 4, 96, 79, 29, 172]
abbrev dktX3_wringNow_0 : List UInt8 := dkwX3_wringNow_0 ++ dktX3_wringNow_1
theorem dksX3_wringNow_0 : cX3_wringNow.data.toList.drop 0 = dktX3_wringNow_0 := by decide +kernel
theorem dksX3_wringNow_1 : cX3_wringNow.data.toList.drop 24 = dktX3_wringNow_1 := dk_seg dksX3_wringNow_0 24 rfl rfl
theorem dksX3_wringNow_2 : cX3_wringNow.data.toList.drop 48 = dktX3_wringNow_2 := dk_seg dksX3_wringNow_1 24 rfl rfl
theorem dksX3_wringNow_3 : cX3_wringNow.data.toList.drop 72 = dktX3_wringNow_3 := dk_seg dksX3_wringNow_2 24 rfl rfl
theorem dX3_wringNow_0 : decode cX3_wringNow 0 = .ok (.aload_n 0, 1) := dk_42 (dk_at dksX3_wringNow_0 0 rfl rfl)
theorem dX3_wringNow_1 : decode cX3_wringNow 1 = .ok (.iload_n 1, 1) := dk_27 (dk_at dksX3_wringNow_0 1 rfl rfl)
theorem dX3_wringNow_2 : decode cX3_wringNow 2 = .ok (.iload_n 2, 1) := dk_28 (dk_at dksX3_wringNow_0 2 rfl rfl)
theorem dX3_wringNow_3 : decode cX3_wringNow 3 = .ok (.invokevirtual 91, 3) := dk_182 0 91 (dk_at dksX3_wringNow_0 3 rfl rfl)
theorem dX3_wringNow_6 : decode cX3_wringNow 6 = .ok (.istore_n 3, 1) := dk_62 (dk_at dksX3_wringNow_0 6 rfl rfl)
theorem dX3_wringNow_7 : decode cX3_wringNow 7 = .ok (.iload_n 3, 1) := dk_29 (dk_at dksX3_wringNow_0 7 rfl rfl)
theorem dX3_wringNow_8 : decode cX3_wringNow 8 = .ok (.ifCond .le 16, 3) := dk_158 0 16 (dk_at dksX3_wringNow_0 8 rfl rfl)
theorem dX3_wringNow_11 : decode cX3_wringNow 11 = .ok (.aload_n 0, 1) := dk_42 (dk_at dksX3_wringNow_0 11 rfl rfl)
theorem dX3_wringNow_12 : decode cX3_wringNow 12 = .ok (.getfield 7, 3) := dk_180 0 7 (dk_at dksX3_wringNow_0 12 rfl rfl)
theorem dX3_wringNow_15 : decode cX3_wringNow 15 = .ok (.bipush 7, 2) := dk_16 7 (dk_at dksX3_wringNow_0 15 rfl rfl)
theorem dX3_wringNow_17 : decode cX3_wringNow 17 = .ok (.dup2, 1) := dk_92 (dk_at dksX3_wringNow_0 17 rfl rfl)
theorem dX3_wringNow_18 : decode cX3_wringNow 18 = .ok (.iaload, 1) := dk_46 (dk_at dksX3_wringNow_0 18 rfl rfl)
theorem dX3_wringNow_19 : decode cX3_wringNow 19 = .ok (.iconst 1, 1) := dk_4 (dk_at dksX3_wringNow_0 19 rfl rfl)
theorem dX3_wringNow_20 : decode cX3_wringNow 20 = .ok (.iadd, 1) := dk_96 (dk_at dksX3_wringNow_0 20 rfl rfl)
theorem dX3_wringNow_21 : decode cX3_wringNow 21 = .ok (.iastore, 1) := dk_79 (dk_at dksX3_wringNow_0 21 rfl rfl)
theorem dX3_wringNow_22 : decode cX3_wringNow 22 = .ok (.iload_n 3, 1) := dk_29 (dk_at dksX3_wringNow_0 22 rfl rfl)
theorem dX3_wringNow_23 : decode cX3_wringNow 23 = .ok (.ireturn, 1) := dk_172 (dk_at dksX3_wringNow_0 23 rfl rfl)
theorem dX3_wringNow_24 : decode cX3_wringNow 24 = .ok (.aload_n 0, 1) := dk_42 (dk_at dksX3_wringNow_1 0 rfl rfl)
theorem dX3_wringNow_25 : decode cX3_wringNow 25 = .ok (.iload_n 2, 1) := dk_28 (dk_at dksX3_wringNow_1 1 rfl rfl)
theorem dX3_wringNow_26 : decode cX3_wringNow 26 = .ok (.iconst 5, 1) := dk_8 (dk_at dksX3_wringNow_1 2 rfl rfl)
theorem dX3_wringNow_27 : decode cX3_wringNow 27 = .ok (.aload_n 0, 1) := dk_42 (dk_at dksX3_wringNow_1 3 rfl rfl)
theorem dX3_wringNow_28 : decode cX3_wringNow 28 = .ok (.iload_n 1, 1) := dk_27 (dk_at dksX3_wringNow_1 4 rfl rfl)
theorem dX3_wringNow_29 : decode cX3_wringNow 29 = .ok (.invokevirtual 82, 3) := dk_182 0 82 (dk_at dksX3_wringNow_1 5 rfl rfl)
theorem dX3_wringNow_32 : decode cX3_wringNow 32 = .ok (.invokevirtual 67, 3) := dk_182 0 67 (dk_at dksX3_wringNow_1 8 rfl rfl)
theorem dX3_wringNow_35 : decode cX3_wringNow 35 = .ok (.aload_n 0, 1) := dk_42 (dk_at dksX3_wringNow_1 11 rfl rfl)
theorem dX3_wringNow_36 : decode cX3_wringNow 36 = .ok (.iload_n 2, 1) := dk_28 (dk_at dksX3_wringNow_1 12 rfl rfl)
theorem dX3_wringNow_37 : decode cX3_wringNow 37 = .ok (.iconst 4, 1) := dk_7 (dk_at dksX3_wringNow_1 13 rfl rfl)
theorem dX3_wringNow_38 : decode cX3_wringNow 38 = .ok (.iload_n 1, 1) := dk_27 (dk_at dksX3_wringNow_1 14 rfl rfl)
theorem dX3_wringNow_39 : decode cX3_wringNow 39 = .ok (.invokevirtual 67, 3) := dk_182 0 67 (dk_at dksX3_wringNow_1 15 rfl rfl)
theorem dX3_wringNow_42 : decode cX3_wringNow 42 = .ok (.aload_n 0, 1) := dk_42 (dk_at dksX3_wringNow_1 18 rfl rfl)
theorem dX3_wringNow_43 : decode cX3_wringNow 43 = .ok (.iload_n 1, 1) := dk_27 (dk_at dksX3_wringNow_1 19 rfl rfl)
theorem dX3_wringNow_44 : decode cX3_wringNow 44 = .ok (.iload_n 2, 1) := dk_28 (dk_at dksX3_wringNow_1 20 rfl rfl)
theorem dX3_wringNow_45 : decode cX3_wringNow 45 = .ok (.invokevirtual 94, 3) := dk_182 0 94 (dk_at dksX3_wringNow_1 21 rfl rfl)
theorem dX3_wringNow_48 : decode cX3_wringNow 48 = .ok (.aload_n 0, 1) := dk_42 (dk_at dksX3_wringNow_2 0 rfl rfl)
theorem dX3_wringNow_49 : decode cX3_wringNow 49 = .ok (.iload_n 2, 1) := dk_28 (dk_at dksX3_wringNow_2 1 rfl rfl)
theorem dX3_wringNow_50 : decode cX3_wringNow 50 = .ok (.bipush 6, 2) := dk_16 6 (dk_at dksX3_wringNow_2 2 rfl rfl)
theorem dX3_wringNow_52 : decode cX3_wringNow 52 = .ok (.aload_n 0, 1) := dk_42 (dk_at dksX3_wringNow_2 4 rfl rfl)
theorem dX3_wringNow_53 : decode cX3_wringNow 53 = .ok (.iload_n 2, 1) := dk_28 (dk_at dksX3_wringNow_2 5 rfl rfl)
theorem dX3_wringNow_54 : decode cX3_wringNow 54 = .ok (.bipush 6, 2) := dk_16 6 (dk_at dksX3_wringNow_2 6 rfl rfl)
theorem dX3_wringNow_56 : decode cX3_wringNow 56 = .ok (.invokevirtual 57, 3) := dk_182 0 57 (dk_at dksX3_wringNow_2 8 rfl rfl)
theorem dX3_wringNow_59 : decode cX3_wringNow 59 = .ok (.iconst 1, 1) := dk_4 (dk_at dksX3_wringNow_2 11 rfl rfl)
theorem dX3_wringNow_60 : decode cX3_wringNow 60 = .ok (.iadd, 1) := dk_96 (dk_at dksX3_wringNow_2 12 rfl rfl)
theorem dX3_wringNow_61 : decode cX3_wringNow 61 = .ok (.invokevirtual 67, 3) := dk_182 0 67 (dk_at dksX3_wringNow_2 13 rfl rfl)
theorem dX3_wringNow_64 : decode cX3_wringNow 64 = .ok (.aload_n 0, 1) := dk_42 (dk_at dksX3_wringNow_2 16 rfl rfl)
theorem dX3_wringNow_65 : decode cX3_wringNow 65 = .ok (.getfield 7, 3) := dk_180 0 7 (dk_at dksX3_wringNow_2 17 rfl rfl)
theorem dX3_wringNow_68 : decode cX3_wringNow 68 = .ok (.iconst 5, 1) := dk_8 (dk_at dksX3_wringNow_2 20 rfl rfl)
theorem dX3_wringNow_69 : decode cX3_wringNow 69 = .ok (.dup2, 1) := dk_92 (dk_at dksX3_wringNow_2 21 rfl rfl)
theorem dX3_wringNow_70 : decode cX3_wringNow 70 = .ok (.iaload, 1) := dk_46 (dk_at dksX3_wringNow_2 22 rfl rfl)
theorem dX3_wringNow_71 : decode cX3_wringNow 71 = .ok (.iconst 1, 1) := dk_4 (dk_at dksX3_wringNow_2 23 rfl rfl)
theorem dX3_wringNow_72 : decode cX3_wringNow 72 = .ok (.iadd, 1) := dk_96 (dk_at dksX3_wringNow_3 0 rfl rfl)
theorem dX3_wringNow_73 : decode cX3_wringNow 73 = .ok (.iastore, 1) := dk_79 (dk_at dksX3_wringNow_3 1 rfl rfl)
theorem dX3_wringNow_74 : decode cX3_wringNow 74 = .ok (.iconst 0, 1) := dk_3 (dk_at dksX3_wringNow_3 2 rfl rfl)
theorem dX3_wringNow_75 : decode cX3_wringNow 75 = .ok (.ireturn, 1) := dk_172 (dk_at dksX3_wringNow_3 3 rfl rfl)
abbrev cX3_reason : ByteArray := prog_11_method_26_code
def yX3_reason : MethodName := ⟨RX3, "reason", "(II)I"⟩
def dkwX3_reason_2 : List UInt8 := [160, 0, 7, 7, 167, 0, 4, 3, 172]
abbrev dktX3_reason_2 : List UInt8 := dkwX3_reason_2 ++ []
def dkwX3_reason_1 : List UInt8 := [6, 182, 0, 57, 42, 180, 0, 7, 4, 46, 164, 0, 7, 6, 167, 0, 17, 42, 28, 182, 0, 85, 6]
abbrev dktX3_reason_1 : List UInt8 := dkwX3_reason_1 ++ dktX3_reason_2
def dkwX3_reason_0 : List UInt8 := [42, 28, 182, 0, 78, 154, 0, 5, 4, 172, 42, 27, 182, 0, 82, 16, 6, 160, 0, 5, 5, 172, 42, 28]
abbrev dktX3_reason_0 : List UInt8 := dkwX3_reason_0 ++ dktX3_reason_1
theorem dksX3_reason_0 : cX3_reason.data.toList.drop 0 = dktX3_reason_0 := by decide +kernel
theorem dksX3_reason_1 : cX3_reason.data.toList.drop 24 = dktX3_reason_1 := dk_seg dksX3_reason_0 24 rfl rfl
theorem dksX3_reason_2 : cX3_reason.data.toList.drop 47 = dktX3_reason_2 := dk_seg dksX3_reason_1 23 rfl rfl
theorem dX3_reason_0 : decode cX3_reason 0 = .ok (.aload_n 0, 1) := dk_42 (dk_at dksX3_reason_0 0 rfl rfl)
theorem dX3_reason_1 : decode cX3_reason 1 = .ok (.iload_n 2, 1) := dk_28 (dk_at dksX3_reason_0 1 rfl rfl)
theorem dX3_reason_2 : decode cX3_reason 2 = .ok (.invokevirtual 78, 3) := dk_182 0 78 (dk_at dksX3_reason_0 2 rfl rfl)
theorem dX3_reason_5 : decode cX3_reason 5 = .ok (.ifCond .ne 5, 3) := dk_154 0 5 (dk_at dksX3_reason_0 5 rfl rfl)
theorem dX3_reason_8 : decode cX3_reason 8 = .ok (.iconst 1, 1) := dk_4 (dk_at dksX3_reason_0 8 rfl rfl)
theorem dX3_reason_9 : decode cX3_reason 9 = .ok (.ireturn, 1) := dk_172 (dk_at dksX3_reason_0 9 rfl rfl)
theorem dX3_reason_10 : decode cX3_reason 10 = .ok (.aload_n 0, 1) := dk_42 (dk_at dksX3_reason_0 10 rfl rfl)
theorem dX3_reason_11 : decode cX3_reason 11 = .ok (.iload_n 1, 1) := dk_27 (dk_at dksX3_reason_0 11 rfl rfl)
theorem dX3_reason_12 : decode cX3_reason 12 = .ok (.invokevirtual 82, 3) := dk_182 0 82 (dk_at dksX3_reason_0 12 rfl rfl)
theorem dX3_reason_15 : decode cX3_reason 15 = .ok (.bipush 6, 2) := dk_16 6 (dk_at dksX3_reason_0 15 rfl rfl)
theorem dX3_reason_17 : decode cX3_reason 17 = .ok (.if_icmp .ne 5, 3) := dk_160 0 5 (dk_at dksX3_reason_0 17 rfl rfl)
theorem dX3_reason_20 : decode cX3_reason 20 = .ok (.iconst 2, 1) := dk_5 (dk_at dksX3_reason_0 20 rfl rfl)
theorem dX3_reason_21 : decode cX3_reason 21 = .ok (.ireturn, 1) := dk_172 (dk_at dksX3_reason_0 21 rfl rfl)
theorem dX3_reason_22 : decode cX3_reason 22 = .ok (.aload_n 0, 1) := dk_42 (dk_at dksX3_reason_0 22 rfl rfl)
theorem dX3_reason_23 : decode cX3_reason 23 = .ok (.iload_n 2, 1) := dk_28 (dk_at dksX3_reason_0 23 rfl rfl)
theorem dX3_reason_24 : decode cX3_reason 24 = .ok (.iconst 3, 1) := dk_6 (dk_at dksX3_reason_1 0 rfl rfl)
theorem dX3_reason_25 : decode cX3_reason 25 = .ok (.invokevirtual 57, 3) := dk_182 0 57 (dk_at dksX3_reason_1 1 rfl rfl)
theorem dX3_reason_28 : decode cX3_reason 28 = .ok (.aload_n 0, 1) := dk_42 (dk_at dksX3_reason_1 4 rfl rfl)
theorem dX3_reason_29 : decode cX3_reason 29 = .ok (.getfield 7, 3) := dk_180 0 7 (dk_at dksX3_reason_1 5 rfl rfl)
theorem dX3_reason_32 : decode cX3_reason 32 = .ok (.iconst 1, 1) := dk_4 (dk_at dksX3_reason_1 8 rfl rfl)
theorem dX3_reason_33 : decode cX3_reason 33 = .ok (.iaload, 1) := dk_46 (dk_at dksX3_reason_1 9 rfl rfl)
theorem dX3_reason_34 : decode cX3_reason 34 = .ok (.if_icmp .le 7, 3) := dk_164 0 7 (dk_at dksX3_reason_1 10 rfl rfl)
theorem dX3_reason_37 : decode cX3_reason 37 = .ok (.iconst 3, 1) := dk_6 (dk_at dksX3_reason_1 13 rfl rfl)
theorem dX3_reason_38 : decode cX3_reason 38 = .ok (.goto 17, 3) := dk_167 0 17 (dk_at dksX3_reason_1 14 rfl rfl)
theorem dX3_reason_41 : decode cX3_reason 41 = .ok (.aload_n 0, 1) := dk_42 (dk_at dksX3_reason_1 17 rfl rfl)
theorem dX3_reason_42 : decode cX3_reason 42 = .ok (.iload_n 2, 1) := dk_28 (dk_at dksX3_reason_1 18 rfl rfl)
theorem dX3_reason_43 : decode cX3_reason 43 = .ok (.invokevirtual 85, 3) := dk_182 0 85 (dk_at dksX3_reason_1 19 rfl rfl)
theorem dX3_reason_46 : decode cX3_reason 46 = .ok (.iconst 3, 1) := dk_6 (dk_at dksX3_reason_1 22 rfl rfl)
theorem dX3_reason_47 : decode cX3_reason 47 = .ok (.if_icmp .ne 7, 3) := dk_160 0 7 (dk_at dksX3_reason_2 0 rfl rfl)
theorem dX3_reason_50 : decode cX3_reason 50 = .ok (.iconst 4, 1) := dk_7 (dk_at dksX3_reason_2 3 rfl rfl)
theorem dX3_reason_51 : decode cX3_reason 51 = .ok (.goto 4, 3) := dk_167 0 4 (dk_at dksX3_reason_2 4 rfl rfl)
theorem dX3_reason_54 : decode cX3_reason 54 = .ok (.iconst 0, 1) := dk_3 (dk_at dksX3_reason_2 7 rfl rfl)
theorem dX3_reason_55 : decode cX3_reason 55 = .ok (.ireturn, 1) := dk_172 (dk_at dksX3_reason_2 8 rfl rfl)
abbrev cX3_height : ByteArray := prog_11_method_19_code
def yX3_height : MethodName := ⟨RX3, "height", "(I)I"⟩
def dkwX3_height_1 : List UInt8 := [160, 0, 7, 4, 167, 0, 4, 3, 96, 61, 132, 3, 1, 167, 255, 224, 28, 172]
abbrev dktX3_height_1 : List UInt8 := dkwX3_height_1 ++ []
def dkwX3_height_0 : List UInt8 := [3, 61, 3, 62, 29, 42, 180, 0, 7, 16, 8, 46, 162, 0, 27, 28, 42, 29, 7, 182, 0, 57, 27]
abbrev dktX3_height_0 : List UInt8 := dkwX3_height_0 ++ dktX3_height_1
theorem dksX3_height_0 : cX3_height.data.toList.drop 0 = dktX3_height_0 := by decide +kernel
theorem dksX3_height_1 : cX3_height.data.toList.drop 23 = dktX3_height_1 := dk_seg dksX3_height_0 23 rfl rfl
theorem dX3_height_0 : decode cX3_height 0 = .ok (.iconst 0, 1) := dk_3 (dk_at dksX3_height_0 0 rfl rfl)
theorem dX3_height_1 : decode cX3_height 1 = .ok (.istore_n 2, 1) := dk_61 (dk_at dksX3_height_0 1 rfl rfl)
theorem dX3_height_2 : decode cX3_height 2 = .ok (.iconst 0, 1) := dk_3 (dk_at dksX3_height_0 2 rfl rfl)
theorem dX3_height_3 : decode cX3_height 3 = .ok (.istore_n 3, 1) := dk_62 (dk_at dksX3_height_0 3 rfl rfl)
theorem dX3_height_4 : decode cX3_height 4 = .ok (.iload_n 3, 1) := dk_29 (dk_at dksX3_height_0 4 rfl rfl)
theorem dX3_height_5 : decode cX3_height 5 = .ok (.aload_n 0, 1) := dk_42 (dk_at dksX3_height_0 5 rfl rfl)
theorem dX3_height_6 : decode cX3_height 6 = .ok (.getfield 7, 3) := dk_180 0 7 (dk_at dksX3_height_0 6 rfl rfl)
theorem dX3_height_9 : decode cX3_height 9 = .ok (.bipush 8, 2) := dk_16 8 (dk_at dksX3_height_0 9 rfl rfl)
theorem dX3_height_11 : decode cX3_height 11 = .ok (.iaload, 1) := dk_46 (dk_at dksX3_height_0 11 rfl rfl)
theorem dX3_height_12 : decode cX3_height 12 = .ok (.if_icmp .ge 27, 3) := dk_162 0 27 (dk_at dksX3_height_0 12 rfl rfl)
theorem dX3_height_15 : decode cX3_height 15 = .ok (.iload_n 2, 1) := dk_28 (dk_at dksX3_height_0 15 rfl rfl)
theorem dX3_height_16 : decode cX3_height 16 = .ok (.aload_n 0, 1) := dk_42 (dk_at dksX3_height_0 16 rfl rfl)
theorem dX3_height_17 : decode cX3_height 17 = .ok (.iload_n 3, 1) := dk_29 (dk_at dksX3_height_0 17 rfl rfl)
theorem dX3_height_18 : decode cX3_height 18 = .ok (.iconst 4, 1) := dk_7 (dk_at dksX3_height_0 18 rfl rfl)
theorem dX3_height_19 : decode cX3_height 19 = .ok (.invokevirtual 57, 3) := dk_182 0 57 (dk_at dksX3_height_0 19 rfl rfl)
theorem dX3_height_22 : decode cX3_height 22 = .ok (.iload_n 1, 1) := dk_27 (dk_at dksX3_height_0 22 rfl rfl)
theorem dX3_height_23 : decode cX3_height 23 = .ok (.if_icmp .ne 7, 3) := dk_160 0 7 (dk_at dksX3_height_1 0 rfl rfl)
theorem dX3_height_26 : decode cX3_height 26 = .ok (.iconst 1, 1) := dk_4 (dk_at dksX3_height_1 3 rfl rfl)
theorem dX3_height_27 : decode cX3_height 27 = .ok (.goto 4, 3) := dk_167 0 4 (dk_at dksX3_height_1 4 rfl rfl)
theorem dX3_height_30 : decode cX3_height 30 = .ok (.iconst 0, 1) := dk_3 (dk_at dksX3_height_1 7 rfl rfl)
theorem dX3_height_31 : decode cX3_height 31 = .ok (.iadd, 1) := dk_96 (dk_at dksX3_height_1 8 rfl rfl)
theorem dX3_height_32 : decode cX3_height 32 = .ok (.istore_n 2, 1) := dk_61 (dk_at dksX3_height_1 9 rfl rfl)
theorem dX3_height_33 : decode cX3_height 33 = .ok (.iinc 3 1, 3) := dk_132 3 1 (dk_at dksX3_height_1 10 rfl rfl)
theorem dX3_height_36 : decode cX3_height 36 = .ok (.goto (-32), 3) := dk_167 255 224 (dk_at dksX3_height_1 13 rfl rfl)
theorem dX3_height_39 : decode cX3_height 39 = .ok (.iload_n 2, 1) := dk_28 (dk_at dksX3_height_1 16 rfl rfl)
theorem dX3_height_40 : decode cX3_height 40 = .ok (.ireturn, 1) := dk_172 (dk_at dksX3_height_1 17 rfl rfl)
abbrev cX3_rub : ByteArray := prog_11_method_27_code
def yX3_rub : MethodName := ⟨RX3, "rub", "(II)V"⟩
def dkwX3_rub_2 : List UInt8 := [182, 0, 67, 42, 28, 5, 42, 28, 5, 182, 0, 57, 42, 180, 0, 7, 5, 46, 96, 182, 0, 67, 177]
abbrev dktX3_rub_2 : List UInt8 := dkwX3_rub_2 ++ []
def dkwX3_rub_1 : List UInt8 := [62, 29, 2, 159, 0, 41, 42, 29, 5, 42, 29, 5, 182, 0, 57, 42, 180, 0, 7, 5, 46, 96]
abbrev dktX3_rub_1 : List UInt8 := dkwX3_rub_1 ++ dktX3_rub_2
def dkwX3_rub_0 : List UInt8 := [42, 28, 42, 180, 0, 7, 6, 46, 182, 0, 71, 42, 27, 42, 28, 8, 182, 0, 57, 4, 100, 182, 0, 88]
abbrev dktX3_rub_0 : List UInt8 := dkwX3_rub_0 ++ dktX3_rub_1
theorem dksX3_rub_0 : cX3_rub.data.toList.drop 0 = dktX3_rub_0 := by decide +kernel
theorem dksX3_rub_1 : cX3_rub.data.toList.drop 24 = dktX3_rub_1 := dk_seg dksX3_rub_0 24 rfl rfl
theorem dksX3_rub_2 : cX3_rub.data.toList.drop 46 = dktX3_rub_2 := dk_seg dksX3_rub_1 22 rfl rfl
theorem dX3_rub_0 : decode cX3_rub 0 = .ok (.aload_n 0, 1) := dk_42 (dk_at dksX3_rub_0 0 rfl rfl)
theorem dX3_rub_1 : decode cX3_rub 1 = .ok (.iload_n 2, 1) := dk_28 (dk_at dksX3_rub_0 1 rfl rfl)
theorem dX3_rub_2 : decode cX3_rub 2 = .ok (.aload_n 0, 1) := dk_42 (dk_at dksX3_rub_0 2 rfl rfl)
theorem dX3_rub_3 : decode cX3_rub 3 = .ok (.getfield 7, 3) := dk_180 0 7 (dk_at dksX3_rub_0 3 rfl rfl)
theorem dX3_rub_6 : decode cX3_rub 6 = .ok (.iconst 3, 1) := dk_6 (dk_at dksX3_rub_0 6 rfl rfl)
theorem dX3_rub_7 : decode cX3_rub 7 = .ok (.iaload, 1) := dk_46 (dk_at dksX3_rub_0 7 rfl rfl)
theorem dX3_rub_8 : decode cX3_rub 8 = .ok (.invokevirtual 71, 3) := dk_182 0 71 (dk_at dksX3_rub_0 8 rfl rfl)
theorem dX3_rub_11 : decode cX3_rub 11 = .ok (.aload_n 0, 1) := dk_42 (dk_at dksX3_rub_0 11 rfl rfl)
theorem dX3_rub_12 : decode cX3_rub 12 = .ok (.iload_n 1, 1) := dk_27 (dk_at dksX3_rub_0 12 rfl rfl)
theorem dX3_rub_13 : decode cX3_rub 13 = .ok (.aload_n 0, 1) := dk_42 (dk_at dksX3_rub_0 13 rfl rfl)
theorem dX3_rub_14 : decode cX3_rub 14 = .ok (.iload_n 2, 1) := dk_28 (dk_at dksX3_rub_0 14 rfl rfl)
theorem dX3_rub_15 : decode cX3_rub 15 = .ok (.iconst 5, 1) := dk_8 (dk_at dksX3_rub_0 15 rfl rfl)
theorem dX3_rub_16 : decode cX3_rub 16 = .ok (.invokevirtual 57, 3) := dk_182 0 57 (dk_at dksX3_rub_0 16 rfl rfl)
theorem dX3_rub_19 : decode cX3_rub 19 = .ok (.iconst 1, 1) := dk_4 (dk_at dksX3_rub_0 19 rfl rfl)
theorem dX3_rub_20 : decode cX3_rub 20 = .ok (.isub, 1) := dk_100 (dk_at dksX3_rub_0 20 rfl rfl)
theorem dX3_rub_21 : decode cX3_rub 21 = .ok (.invokevirtual 88, 3) := dk_182 0 88 (dk_at dksX3_rub_0 21 rfl rfl)
theorem dX3_rub_24 : decode cX3_rub 24 = .ok (.istore_n 3, 1) := dk_62 (dk_at dksX3_rub_1 0 rfl rfl)
theorem dX3_rub_25 : decode cX3_rub 25 = .ok (.iload_n 3, 1) := dk_29 (dk_at dksX3_rub_1 1 rfl rfl)
theorem dX3_rub_26 : decode cX3_rub 26 = .ok (.iconst (-1), 1) := dk_2 (dk_at dksX3_rub_1 2 rfl rfl)
theorem dX3_rub_27 : decode cX3_rub 27 = .ok (.if_icmp .eq 41, 3) := dk_159 0 41 (dk_at dksX3_rub_1 3 rfl rfl)
theorem dX3_rub_30 : decode cX3_rub 30 = .ok (.aload_n 0, 1) := dk_42 (dk_at dksX3_rub_1 6 rfl rfl)
theorem dX3_rub_31 : decode cX3_rub 31 = .ok (.iload_n 3, 1) := dk_29 (dk_at dksX3_rub_1 7 rfl rfl)
theorem dX3_rub_32 : decode cX3_rub 32 = .ok (.iconst 2, 1) := dk_5 (dk_at dksX3_rub_1 8 rfl rfl)
theorem dX3_rub_33 : decode cX3_rub 33 = .ok (.aload_n 0, 1) := dk_42 (dk_at dksX3_rub_1 9 rfl rfl)
theorem dX3_rub_34 : decode cX3_rub 34 = .ok (.iload_n 3, 1) := dk_29 (dk_at dksX3_rub_1 10 rfl rfl)
theorem dX3_rub_35 : decode cX3_rub 35 = .ok (.iconst 2, 1) := dk_5 (dk_at dksX3_rub_1 11 rfl rfl)
theorem dX3_rub_36 : decode cX3_rub 36 = .ok (.invokevirtual 57, 3) := dk_182 0 57 (dk_at dksX3_rub_1 12 rfl rfl)
theorem dX3_rub_39 : decode cX3_rub 39 = .ok (.aload_n 0, 1) := dk_42 (dk_at dksX3_rub_1 15 rfl rfl)
theorem dX3_rub_40 : decode cX3_rub 40 = .ok (.getfield 7, 3) := dk_180 0 7 (dk_at dksX3_rub_1 16 rfl rfl)
theorem dX3_rub_43 : decode cX3_rub 43 = .ok (.iconst 2, 1) := dk_5 (dk_at dksX3_rub_1 19 rfl rfl)
theorem dX3_rub_44 : decode cX3_rub 44 = .ok (.iaload, 1) := dk_46 (dk_at dksX3_rub_1 20 rfl rfl)
theorem dX3_rub_45 : decode cX3_rub 45 = .ok (.iadd, 1) := dk_96 (dk_at dksX3_rub_1 21 rfl rfl)
theorem dX3_rub_46 : decode cX3_rub 46 = .ok (.invokevirtual 67, 3) := dk_182 0 67 (dk_at dksX3_rub_2 0 rfl rfl)
theorem dX3_rub_49 : decode cX3_rub 49 = .ok (.aload_n 0, 1) := dk_42 (dk_at dksX3_rub_2 3 rfl rfl)
theorem dX3_rub_50 : decode cX3_rub 50 = .ok (.iload_n 2, 1) := dk_28 (dk_at dksX3_rub_2 4 rfl rfl)
theorem dX3_rub_51 : decode cX3_rub 51 = .ok (.iconst 2, 1) := dk_5 (dk_at dksX3_rub_2 5 rfl rfl)
theorem dX3_rub_52 : decode cX3_rub 52 = .ok (.aload_n 0, 1) := dk_42 (dk_at dksX3_rub_2 6 rfl rfl)
theorem dX3_rub_53 : decode cX3_rub 53 = .ok (.iload_n 2, 1) := dk_28 (dk_at dksX3_rub_2 7 rfl rfl)
theorem dX3_rub_54 : decode cX3_rub 54 = .ok (.iconst 2, 1) := dk_5 (dk_at dksX3_rub_2 8 rfl rfl)
theorem dX3_rub_55 : decode cX3_rub 55 = .ok (.invokevirtual 57, 3) := dk_182 0 57 (dk_at dksX3_rub_2 9 rfl rfl)
theorem dX3_rub_58 : decode cX3_rub 58 = .ok (.aload_n 0, 1) := dk_42 (dk_at dksX3_rub_2 12 rfl rfl)
theorem dX3_rub_59 : decode cX3_rub 59 = .ok (.getfield 7, 3) := dk_180 0 7 (dk_at dksX3_rub_2 13 rfl rfl)
theorem dX3_rub_62 : decode cX3_rub 62 = .ok (.iconst 2, 1) := dk_5 (dk_at dksX3_rub_2 16 rfl rfl)
theorem dX3_rub_63 : decode cX3_rub 63 = .ok (.iaload, 1) := dk_46 (dk_at dksX3_rub_2 17 rfl rfl)
theorem dX3_rub_64 : decode cX3_rub 64 = .ok (.iadd, 1) := dk_96 (dk_at dksX3_rub_2 18 rfl rfl)
theorem dX3_rub_65 : decode cX3_rub 65 = .ok (.invokevirtual 67, 3) := dk_182 0 67 (dk_at dksX3_rub_2 19 rfl rfl)
theorem dX3_rub_68 : decode cX3_rub 68 = .ok (.return_, 1) := dk_177 (dk_at dksX3_rub_2 22 rfl rfl)
abbrev cX3_blockAt : ByteArray := prog_11_method_20_code
def yX3_blockAt : MethodName := ⟨RX3, "blockAt", "(II)I"⟩
def dkwX3_blockAt_2 : List UInt8 := [132, 4, 1, 167, 255, 212, 29, 172]
abbrev dktX3_blockAt_2 : List UInt8 := dkwX3_blockAt_2 ++ []
def dkwX3_blockAt_1 : List UInt8 := [27, 160, 0, 19, 42, 21, 4, 8, 182, 0, 57, 28, 160, 0, 8, 21, 4, 167, 0, 4, 29, 62]
abbrev dktX3_blockAt_1 : List UInt8 := dkwX3_blockAt_1 ++ dktX3_blockAt_2
def dkwX3_blockAt_0 : List UInt8 := [2, 62, 3, 54, 4, 21, 4, 42, 180, 0, 7, 16, 8, 46, 162, 0, 38, 42, 21, 4, 7, 182, 0, 57]
abbrev dktX3_blockAt_0 : List UInt8 := dkwX3_blockAt_0 ++ dktX3_blockAt_1
theorem dksX3_blockAt_0 : cX3_blockAt.data.toList.drop 0 = dktX3_blockAt_0 := by decide +kernel
theorem dksX3_blockAt_1 : cX3_blockAt.data.toList.drop 24 = dktX3_blockAt_1 := dk_seg dksX3_blockAt_0 24 rfl rfl
theorem dksX3_blockAt_2 : cX3_blockAt.data.toList.drop 46 = dktX3_blockAt_2 := dk_seg dksX3_blockAt_1 22 rfl rfl
theorem dX3_blockAt_0 : decode cX3_blockAt 0 = .ok (.iconst (-1), 1) := dk_2 (dk_at dksX3_blockAt_0 0 rfl rfl)
theorem dX3_blockAt_1 : decode cX3_blockAt 1 = .ok (.istore_n 3, 1) := dk_62 (dk_at dksX3_blockAt_0 1 rfl rfl)
theorem dX3_blockAt_2 : decode cX3_blockAt 2 = .ok (.iconst 0, 1) := dk_3 (dk_at dksX3_blockAt_0 2 rfl rfl)
theorem dX3_blockAt_3 : decode cX3_blockAt 3 = .ok (.istore 4, 2) := dk_54 4 (dk_at dksX3_blockAt_0 3 rfl rfl)
theorem dX3_blockAt_5 : decode cX3_blockAt 5 = .ok (.iload 4, 2) := dk_21 4 (dk_at dksX3_blockAt_0 5 rfl rfl)
theorem dX3_blockAt_7 : decode cX3_blockAt 7 = .ok (.aload_n 0, 1) := dk_42 (dk_at dksX3_blockAt_0 7 rfl rfl)
theorem dX3_blockAt_8 : decode cX3_blockAt 8 = .ok (.getfield 7, 3) := dk_180 0 7 (dk_at dksX3_blockAt_0 8 rfl rfl)
theorem dX3_blockAt_11 : decode cX3_blockAt 11 = .ok (.bipush 8, 2) := dk_16 8 (dk_at dksX3_blockAt_0 11 rfl rfl)
theorem dX3_blockAt_13 : decode cX3_blockAt 13 = .ok (.iaload, 1) := dk_46 (dk_at dksX3_blockAt_0 13 rfl rfl)
theorem dX3_blockAt_14 : decode cX3_blockAt 14 = .ok (.if_icmp .ge 38, 3) := dk_162 0 38 (dk_at dksX3_blockAt_0 14 rfl rfl)
theorem dX3_blockAt_17 : decode cX3_blockAt 17 = .ok (.aload_n 0, 1) := dk_42 (dk_at dksX3_blockAt_0 17 rfl rfl)
theorem dX3_blockAt_18 : decode cX3_blockAt 18 = .ok (.iload 4, 2) := dk_21 4 (dk_at dksX3_blockAt_0 18 rfl rfl)
theorem dX3_blockAt_20 : decode cX3_blockAt 20 = .ok (.iconst 4, 1) := dk_7 (dk_at dksX3_blockAt_0 20 rfl rfl)
theorem dX3_blockAt_21 : decode cX3_blockAt 21 = .ok (.invokevirtual 57, 3) := dk_182 0 57 (dk_at dksX3_blockAt_0 21 rfl rfl)
theorem dX3_blockAt_24 : decode cX3_blockAt 24 = .ok (.iload_n 1, 1) := dk_27 (dk_at dksX3_blockAt_1 0 rfl rfl)
theorem dX3_blockAt_25 : decode cX3_blockAt 25 = .ok (.if_icmp .ne 19, 3) := dk_160 0 19 (dk_at dksX3_blockAt_1 1 rfl rfl)
theorem dX3_blockAt_28 : decode cX3_blockAt 28 = .ok (.aload_n 0, 1) := dk_42 (dk_at dksX3_blockAt_1 4 rfl rfl)
theorem dX3_blockAt_29 : decode cX3_blockAt 29 = .ok (.iload 4, 2) := dk_21 4 (dk_at dksX3_blockAt_1 5 rfl rfl)
theorem dX3_blockAt_31 : decode cX3_blockAt 31 = .ok (.iconst 5, 1) := dk_8 (dk_at dksX3_blockAt_1 7 rfl rfl)
theorem dX3_blockAt_32 : decode cX3_blockAt 32 = .ok (.invokevirtual 57, 3) := dk_182 0 57 (dk_at dksX3_blockAt_1 8 rfl rfl)
theorem dX3_blockAt_35 : decode cX3_blockAt 35 = .ok (.iload_n 2, 1) := dk_28 (dk_at dksX3_blockAt_1 11 rfl rfl)
theorem dX3_blockAt_36 : decode cX3_blockAt 36 = .ok (.if_icmp .ne 8, 3) := dk_160 0 8 (dk_at dksX3_blockAt_1 12 rfl rfl)
theorem dX3_blockAt_39 : decode cX3_blockAt 39 = .ok (.iload 4, 2) := dk_21 4 (dk_at dksX3_blockAt_1 15 rfl rfl)
theorem dX3_blockAt_41 : decode cX3_blockAt 41 = .ok (.goto 4, 3) := dk_167 0 4 (dk_at dksX3_blockAt_1 17 rfl rfl)
theorem dX3_blockAt_44 : decode cX3_blockAt 44 = .ok (.iload_n 3, 1) := dk_29 (dk_at dksX3_blockAt_1 20 rfl rfl)
theorem dX3_blockAt_45 : decode cX3_blockAt 45 = .ok (.istore_n 3, 1) := dk_62 (dk_at dksX3_blockAt_1 21 rfl rfl)
theorem dX3_blockAt_46 : decode cX3_blockAt 46 = .ok (.iinc 4 1, 3) := dk_132 4 1 (dk_at dksX3_blockAt_2 0 rfl rfl)
theorem dX3_blockAt_49 : decode cX3_blockAt 49 = .ok (.goto (-44), 3) := dk_167 255 212 (dk_at dksX3_blockAt_2 3 rfl rfl)
theorem dX3_blockAt_52 : decode cX3_blockAt 52 = .ok (.iload_n 3, 1) := dk_29 (dk_at dksX3_blockAt_2 6 rfl rfl)
theorem dX3_blockAt_53 : decode cX3_blockAt 53 = .ok (.ireturn, 1) := dk_172 (dk_at dksX3_blockAt_2 7 rfl rfl)
abbrev cX3_takeOff : ByteArray := prog_11_method_44_code
def yX3_takeOff : MethodName := ⟨RX3, "takeOff", "(I)I"⟩
def dkwX3_takeOff_1 : List UInt8 := [154, 0, 9, 42, 5, 182, 0, 50, 172, 42, 182, 0, 54, 42, 27, 182, 0, 135, 172]
abbrev dktX3_takeOff_1 : List UInt8 := dkwX3_takeOff_1 ++ []
def dkwX3_takeOff_0 : List UInt8 := [42, 3, 181, 0, 38, 27, 184, 0, 129, 154, 0, 9, 42, 4, 182, 0, 50, 172, 42, 27, 182, 0, 82]
abbrev dktX3_takeOff_0 : List UInt8 := dkwX3_takeOff_0 ++ dktX3_takeOff_1
theorem dksX3_takeOff_0 : cX3_takeOff.data.toList.drop 0 = dktX3_takeOff_0 := by decide +kernel
theorem dksX3_takeOff_1 : cX3_takeOff.data.toList.drop 23 = dktX3_takeOff_1 := dk_seg dksX3_takeOff_0 23 rfl rfl
theorem dX3_takeOff_0 : decode cX3_takeOff 0 = .ok (.aload_n 0, 1) := dk_42 (dk_at dksX3_takeOff_0 0 rfl rfl)
theorem dX3_takeOff_1 : decode cX3_takeOff 1 = .ok (.iconst 0, 1) := dk_3 (dk_at dksX3_takeOff_0 1 rfl rfl)
theorem dX3_takeOff_2 : decode cX3_takeOff 2 = .ok (.putfield 38, 3) := dk_181 0 38 (dk_at dksX3_takeOff_0 2 rfl rfl)
theorem dX3_takeOff_5 : decode cX3_takeOff 5 = .ok (.iload_n 1, 1) := dk_27 (dk_at dksX3_takeOff_0 5 rfl rfl)
theorem dX3_takeOff_6 : decode cX3_takeOff 6 = .ok (.invokestatic 129, 3) := dk_184 0 129 (dk_at dksX3_takeOff_0 6 rfl rfl)
theorem dX3_takeOff_9 : decode cX3_takeOff 9 = .ok (.ifCond .ne 9, 3) := dk_154 0 9 (dk_at dksX3_takeOff_0 9 rfl rfl)
theorem dX3_takeOff_12 : decode cX3_takeOff 12 = .ok (.aload_n 0, 1) := dk_42 (dk_at dksX3_takeOff_0 12 rfl rfl)
theorem dX3_takeOff_13 : decode cX3_takeOff 13 = .ok (.iconst 1, 1) := dk_4 (dk_at dksX3_takeOff_0 13 rfl rfl)
theorem dX3_takeOff_14 : decode cX3_takeOff 14 = .ok (.invokevirtual 50, 3) := dk_182 0 50 (dk_at dksX3_takeOff_0 14 rfl rfl)
theorem dX3_takeOff_17 : decode cX3_takeOff 17 = .ok (.ireturn, 1) := dk_172 (dk_at dksX3_takeOff_0 17 rfl rfl)
theorem dX3_takeOff_18 : decode cX3_takeOff 18 = .ok (.aload_n 0, 1) := dk_42 (dk_at dksX3_takeOff_0 18 rfl rfl)
theorem dX3_takeOff_19 : decode cX3_takeOff 19 = .ok (.iload_n 1, 1) := dk_27 (dk_at dksX3_takeOff_0 19 rfl rfl)
theorem dX3_takeOff_20 : decode cX3_takeOff 20 = .ok (.invokevirtual 82, 3) := dk_182 0 82 (dk_at dksX3_takeOff_0 20 rfl rfl)
theorem dX3_takeOff_23 : decode cX3_takeOff 23 = .ok (.ifCond .ne 9, 3) := dk_154 0 9 (dk_at dksX3_takeOff_1 0 rfl rfl)
theorem dX3_takeOff_26 : decode cX3_takeOff 26 = .ok (.aload_n 0, 1) := dk_42 (dk_at dksX3_takeOff_1 3 rfl rfl)
theorem dX3_takeOff_27 : decode cX3_takeOff 27 = .ok (.iconst 2, 1) := dk_5 (dk_at dksX3_takeOff_1 4 rfl rfl)
theorem dX3_takeOff_28 : decode cX3_takeOff 28 = .ok (.invokevirtual 50, 3) := dk_182 0 50 (dk_at dksX3_takeOff_1 5 rfl rfl)
theorem dX3_takeOff_31 : decode cX3_takeOff 31 = .ok (.ireturn, 1) := dk_172 (dk_at dksX3_takeOff_1 8 rfl rfl)
theorem dX3_takeOff_32 : decode cX3_takeOff 32 = .ok (.aload_n 0, 1) := dk_42 (dk_at dksX3_takeOff_1 9 rfl rfl)
theorem dX3_takeOff_33 : decode cX3_takeOff 33 = .ok (.invokevirtual 54, 3) := dk_182 0 54 (dk_at dksX3_takeOff_1 10 rfl rfl)
theorem dX3_takeOff_36 : decode cX3_takeOff 36 = .ok (.aload_n 0, 1) := dk_42 (dk_at dksX3_takeOff_1 13 rfl rfl)
theorem dX3_takeOff_37 : decode cX3_takeOff 37 = .ok (.iload_n 1, 1) := dk_27 (dk_at dksX3_takeOff_1 14 rfl rfl)
theorem dX3_takeOff_38 : decode cX3_takeOff 38 = .ok (.invokevirtual 135, 3) := dk_182 0 135 (dk_at dksX3_takeOff_1 15 rfl rfl)
theorem dX3_takeOff_41 : decode cX3_takeOff 41 = .ok (.ireturn, 1) := dk_172 (dk_at dksX3_takeOff_1 18 rfl rfl)
abbrev cX3_takeNow : ByteArray := prog_11_method_29_code
def yX3_takeNow : MethodName := ⟨RX3, "takeNow", "(I)I"⟩
def dkwX3_takeNow_1 : List UInt8 := [182, 0, 67, 42, 28, 8, 2, 182, 0, 67, 42, 180, 0, 7, 16, 6, 92, 46, 4, 96, 79, 28, 172]
abbrev dktX3_takeNow_1 : List UInt8 := dkwX3_takeNow_1 ++ []
def dkwX3_takeNow_0 : List UInt8 := [42, 27, 42, 27, 182, 0, 82, 4, 100, 182, 0, 88, 61, 42, 27, 28, 182, 0, 94, 42, 28, 7, 2]
abbrev dktX3_takeNow_0 : List UInt8 := dkwX3_takeNow_0 ++ dktX3_takeNow_1
theorem dksX3_takeNow_0 : cX3_takeNow.data.toList.drop 0 = dktX3_takeNow_0 := by decide +kernel
theorem dksX3_takeNow_1 : cX3_takeNow.data.toList.drop 23 = dktX3_takeNow_1 := dk_seg dksX3_takeNow_0 23 rfl rfl
theorem dX3_takeNow_0 : decode cX3_takeNow 0 = .ok (.aload_n 0, 1) := dk_42 (dk_at dksX3_takeNow_0 0 rfl rfl)
theorem dX3_takeNow_1 : decode cX3_takeNow 1 = .ok (.iload_n 1, 1) := dk_27 (dk_at dksX3_takeNow_0 1 rfl rfl)
theorem dX3_takeNow_2 : decode cX3_takeNow 2 = .ok (.aload_n 0, 1) := dk_42 (dk_at dksX3_takeNow_0 2 rfl rfl)
theorem dX3_takeNow_3 : decode cX3_takeNow 3 = .ok (.iload_n 1, 1) := dk_27 (dk_at dksX3_takeNow_0 3 rfl rfl)
theorem dX3_takeNow_4 : decode cX3_takeNow 4 = .ok (.invokevirtual 82, 3) := dk_182 0 82 (dk_at dksX3_takeNow_0 4 rfl rfl)
theorem dX3_takeNow_7 : decode cX3_takeNow 7 = .ok (.iconst 1, 1) := dk_4 (dk_at dksX3_takeNow_0 7 rfl rfl)
theorem dX3_takeNow_8 : decode cX3_takeNow 8 = .ok (.isub, 1) := dk_100 (dk_at dksX3_takeNow_0 8 rfl rfl)
theorem dX3_takeNow_9 : decode cX3_takeNow 9 = .ok (.invokevirtual 88, 3) := dk_182 0 88 (dk_at dksX3_takeNow_0 9 rfl rfl)
theorem dX3_takeNow_12 : decode cX3_takeNow 12 = .ok (.istore_n 2, 1) := dk_61 (dk_at dksX3_takeNow_0 12 rfl rfl)
theorem dX3_takeNow_13 : decode cX3_takeNow 13 = .ok (.aload_n 0, 1) := dk_42 (dk_at dksX3_takeNow_0 13 rfl rfl)
theorem dX3_takeNow_14 : decode cX3_takeNow 14 = .ok (.iload_n 1, 1) := dk_27 (dk_at dksX3_takeNow_0 14 rfl rfl)
theorem dX3_takeNow_15 : decode cX3_takeNow 15 = .ok (.iload_n 2, 1) := dk_28 (dk_at dksX3_takeNow_0 15 rfl rfl)
theorem dX3_takeNow_16 : decode cX3_takeNow 16 = .ok (.invokevirtual 94, 3) := dk_182 0 94 (dk_at dksX3_takeNow_0 16 rfl rfl)
theorem dX3_takeNow_19 : decode cX3_takeNow 19 = .ok (.aload_n 0, 1) := dk_42 (dk_at dksX3_takeNow_0 19 rfl rfl)
theorem dX3_takeNow_20 : decode cX3_takeNow 20 = .ok (.iload_n 2, 1) := dk_28 (dk_at dksX3_takeNow_0 20 rfl rfl)
theorem dX3_takeNow_21 : decode cX3_takeNow 21 = .ok (.iconst 4, 1) := dk_7 (dk_at dksX3_takeNow_0 21 rfl rfl)
theorem dX3_takeNow_22 : decode cX3_takeNow 22 = .ok (.iconst (-1), 1) := dk_2 (dk_at dksX3_takeNow_0 22 rfl rfl)
theorem dX3_takeNow_23 : decode cX3_takeNow 23 = .ok (.invokevirtual 67, 3) := dk_182 0 67 (dk_at dksX3_takeNow_1 0 rfl rfl)
theorem dX3_takeNow_26 : decode cX3_takeNow 26 = .ok (.aload_n 0, 1) := dk_42 (dk_at dksX3_takeNow_1 3 rfl rfl)
theorem dX3_takeNow_27 : decode cX3_takeNow 27 = .ok (.iload_n 2, 1) := dk_28 (dk_at dksX3_takeNow_1 4 rfl rfl)
theorem dX3_takeNow_28 : decode cX3_takeNow 28 = .ok (.iconst 5, 1) := dk_8 (dk_at dksX3_takeNow_1 5 rfl rfl)
theorem dX3_takeNow_29 : decode cX3_takeNow 29 = .ok (.iconst (-1), 1) := dk_2 (dk_at dksX3_takeNow_1 6 rfl rfl)
theorem dX3_takeNow_30 : decode cX3_takeNow 30 = .ok (.invokevirtual 67, 3) := dk_182 0 67 (dk_at dksX3_takeNow_1 7 rfl rfl)
theorem dX3_takeNow_33 : decode cX3_takeNow 33 = .ok (.aload_n 0, 1) := dk_42 (dk_at dksX3_takeNow_1 10 rfl rfl)
theorem dX3_takeNow_34 : decode cX3_takeNow 34 = .ok (.getfield 7, 3) := dk_180 0 7 (dk_at dksX3_takeNow_1 11 rfl rfl)
theorem dX3_takeNow_37 : decode cX3_takeNow 37 = .ok (.bipush 6, 2) := dk_16 6 (dk_at dksX3_takeNow_1 14 rfl rfl)
theorem dX3_takeNow_39 : decode cX3_takeNow 39 = .ok (.dup2, 1) := dk_92 (dk_at dksX3_takeNow_1 16 rfl rfl)
theorem dX3_takeNow_40 : decode cX3_takeNow 40 = .ok (.iaload, 1) := dk_46 (dk_at dksX3_takeNow_1 17 rfl rfl)
theorem dX3_takeNow_41 : decode cX3_takeNow 41 = .ok (.iconst 1, 1) := dk_4 (dk_at dksX3_takeNow_1 18 rfl rfl)
theorem dX3_takeNow_42 : decode cX3_takeNow 42 = .ok (.iadd, 1) := dk_96 (dk_at dksX3_takeNow_1 19 rfl rfl)
theorem dX3_takeNow_43 : decode cX3_takeNow 43 = .ok (.iastore, 1) := dk_79 (dk_at dksX3_takeNow_1 20 rfl rfl)
theorem dX3_takeNow_44 : decode cX3_takeNow 44 = .ok (.iload_n 2, 1) := dk_28 (dk_at dksX3_takeNow_1 21 rfl rfl)
theorem dX3_takeNow_45 : decode cX3_takeNow 45 = .ok (.ireturn, 1) := dk_172 (dk_at dksX3_takeNow_1 22 rfl rfl)
abbrev cX3_make : ByteArray := prog_11_method_46_code
def yX3_make : MethodName := ⟨RX3, "make", "(II)I"⟩
def dkwX3_make_2 : List UInt8 := [182, 0, 54, 42, 27, 28, 182, 0, 144, 172]
abbrev dktX3_make_2 : List UInt8 := dkwX3_make_2 ++ []
def dkwX3_make_1 : List UInt8 := [154, 0, 9, 42, 5, 182, 0, 50, 172, 42, 27, 182, 0, 82, 158, 0, 9, 42, 6, 182, 0, 50, 172, 42]
abbrev dktX3_make_1 : List UInt8 := dkwX3_make_1 ++ dktX3_make_2
def dkwX3_make_0 : List UInt8 := [42, 3, 181, 0, 38, 27, 184, 0, 129, 154, 0, 9, 42, 4, 182, 0, 50, 172, 28, 184, 0, 141]
abbrev dktX3_make_0 : List UInt8 := dkwX3_make_0 ++ dktX3_make_1
theorem dksX3_make_0 : cX3_make.data.toList.drop 0 = dktX3_make_0 := by decide +kernel
theorem dksX3_make_1 : cX3_make.data.toList.drop 22 = dktX3_make_1 := dk_seg dksX3_make_0 22 rfl rfl
theorem dksX3_make_2 : cX3_make.data.toList.drop 46 = dktX3_make_2 := dk_seg dksX3_make_1 24 rfl rfl
theorem dX3_make_0 : decode cX3_make 0 = .ok (.aload_n 0, 1) := dk_42 (dk_at dksX3_make_0 0 rfl rfl)
theorem dX3_make_1 : decode cX3_make 1 = .ok (.iconst 0, 1) := dk_3 (dk_at dksX3_make_0 1 rfl rfl)
theorem dX3_make_2 : decode cX3_make 2 = .ok (.putfield 38, 3) := dk_181 0 38 (dk_at dksX3_make_0 2 rfl rfl)
theorem dX3_make_5 : decode cX3_make 5 = .ok (.iload_n 1, 1) := dk_27 (dk_at dksX3_make_0 5 rfl rfl)
theorem dX3_make_6 : decode cX3_make 6 = .ok (.invokestatic 129, 3) := dk_184 0 129 (dk_at dksX3_make_0 6 rfl rfl)
theorem dX3_make_9 : decode cX3_make 9 = .ok (.ifCond .ne 9, 3) := dk_154 0 9 (dk_at dksX3_make_0 9 rfl rfl)
theorem dX3_make_12 : decode cX3_make 12 = .ok (.aload_n 0, 1) := dk_42 (dk_at dksX3_make_0 12 rfl rfl)
theorem dX3_make_13 : decode cX3_make 13 = .ok (.iconst 1, 1) := dk_4 (dk_at dksX3_make_0 13 rfl rfl)
theorem dX3_make_14 : decode cX3_make 14 = .ok (.invokevirtual 50, 3) := dk_182 0 50 (dk_at dksX3_make_0 14 rfl rfl)
theorem dX3_make_17 : decode cX3_make 17 = .ok (.ireturn, 1) := dk_172 (dk_at dksX3_make_0 17 rfl rfl)
theorem dX3_make_18 : decode cX3_make 18 = .ok (.iload_n 2, 1) := dk_28 (dk_at dksX3_make_0 18 rfl rfl)
theorem dX3_make_19 : decode cX3_make 19 = .ok (.invokestatic 141, 3) := dk_184 0 141 (dk_at dksX3_make_0 19 rfl rfl)
theorem dX3_make_22 : decode cX3_make 22 = .ok (.ifCond .ne 9, 3) := dk_154 0 9 (dk_at dksX3_make_1 0 rfl rfl)
theorem dX3_make_25 : decode cX3_make 25 = .ok (.aload_n 0, 1) := dk_42 (dk_at dksX3_make_1 3 rfl rfl)
theorem dX3_make_26 : decode cX3_make 26 = .ok (.iconst 2, 1) := dk_5 (dk_at dksX3_make_1 4 rfl rfl)
theorem dX3_make_27 : decode cX3_make 27 = .ok (.invokevirtual 50, 3) := dk_182 0 50 (dk_at dksX3_make_1 5 rfl rfl)
theorem dX3_make_30 : decode cX3_make 30 = .ok (.ireturn, 1) := dk_172 (dk_at dksX3_make_1 8 rfl rfl)
theorem dX3_make_31 : decode cX3_make 31 = .ok (.aload_n 0, 1) := dk_42 (dk_at dksX3_make_1 9 rfl rfl)
theorem dX3_make_32 : decode cX3_make 32 = .ok (.iload_n 1, 1) := dk_27 (dk_at dksX3_make_1 10 rfl rfl)
theorem dX3_make_33 : decode cX3_make 33 = .ok (.invokevirtual 82, 3) := dk_182 0 82 (dk_at dksX3_make_1 11 rfl rfl)
theorem dX3_make_36 : decode cX3_make 36 = .ok (.ifCond .le 9, 3) := dk_158 0 9 (dk_at dksX3_make_1 14 rfl rfl)
theorem dX3_make_39 : decode cX3_make 39 = .ok (.aload_n 0, 1) := dk_42 (dk_at dksX3_make_1 17 rfl rfl)
theorem dX3_make_40 : decode cX3_make 40 = .ok (.iconst 3, 1) := dk_6 (dk_at dksX3_make_1 18 rfl rfl)
theorem dX3_make_41 : decode cX3_make 41 = .ok (.invokevirtual 50, 3) := dk_182 0 50 (dk_at dksX3_make_1 19 rfl rfl)
theorem dX3_make_44 : decode cX3_make 44 = .ok (.ireturn, 1) := dk_172 (dk_at dksX3_make_1 22 rfl rfl)
theorem dX3_make_45 : decode cX3_make 45 = .ok (.aload_n 0, 1) := dk_42 (dk_at dksX3_make_1 23 rfl rfl)
theorem dX3_make_46 : decode cX3_make 46 = .ok (.invokevirtual 54, 3) := dk_182 0 54 (dk_at dksX3_make_2 0 rfl rfl)
theorem dX3_make_49 : decode cX3_make 49 = .ok (.aload_n 0, 1) := dk_42 (dk_at dksX3_make_2 3 rfl rfl)
theorem dX3_make_50 : decode cX3_make 50 = .ok (.iload_n 1, 1) := dk_27 (dk_at dksX3_make_2 4 rfl rfl)
theorem dX3_make_51 : decode cX3_make 51 = .ok (.iload_n 2, 1) := dk_28 (dk_at dksX3_make_2 5 rfl rfl)
theorem dX3_make_52 : decode cX3_make 52 = .ok (.invokevirtual 144, 3) := dk_182 0 144 (dk_at dksX3_make_2 6 rfl rfl)
theorem dX3_make_55 : decode cX3_make 55 = .ok (.ireturn, 1) := dk_172 (dk_at dksX3_make_2 9 rfl rfl)
abbrev cX3_isLength : ByteArray := prog_11_method_7_code
def yX3_isLength : MethodName := ⟨RX3, "isLength", "(I)Z"⟩
def dkwX3_isLength_0 : List UInt8 := [26, 17, 1, 244, 18, 46, 184, 0, 42, 172]
abbrev dktX3_isLength_0 : List UInt8 := dkwX3_isLength_0 ++ []
theorem dksX3_isLength_0 : cX3_isLength.data.toList.drop 0 = dktX3_isLength_0 := by decide +kernel
theorem dX3_isLength_0 : decode cX3_isLength 0 = .ok (.iload_n 0, 1) := dk_26 (dk_at dksX3_isLength_0 0 rfl rfl)
theorem dX3_isLength_1 : decode cX3_isLength 1 = .ok (.sipush 500, 3) := dk_17 1 244 (dk_at dksX3_isLength_0 1 rfl rfl)
theorem dX3_isLength_4 : decode cX3_isLength 4 = .ok (.ldc 46, 2) := dk_18 46 (dk_at dksX3_isLength_0 4 rfl rfl)
theorem dX3_isLength_6 : decode cX3_isLength 6 = .ok (.invokestatic 42, 3) := dk_184 0 42 (dk_at dksX3_isLength_0 6 rfl rfl)
theorem dX3_isLength_9 : decode cX3_isLength 9 = .ok (.ireturn, 1) := dk_172 (dk_at dksX3_isLength_0 9 rfl rfl)
abbrev cX3_makeNow : ByteArray := prog_11_method_45_code
def yX3_makeNow : MethodName := ⟨RX3, "makeNow", "(II)I"⟩
def dkwX3_makeNow_3 : List UInt8 := [4, 167, 0, 4, 3, 96, 54, 4, 132, 6, 1, 167, 255, 194, 21, 4, 172]
abbrev dktX3_makeNow_3 : List UInt8 := dkwX3_makeNow_3 ++ []
def dkwX3_makeNow_2 : List UInt8 := [42, 27, 21, 6, 182, 0, 132, 154, 0, 7, 4, 167, 0, 4, 3, 54, 5, 21, 4, 21, 5, 153, 0, 7]
abbrev dktX3_makeNow_2 : List UInt8 := dkwX3_makeNow_2 ++ dktX3_makeNow_3
def dkwX3_makeNow_1 : List UInt8 := [180, 0, 7, 16, 8, 46, 162, 0, 56, 21, 5, 153, 0, 51, 29, 21, 6, 122, 4, 126, 4, 160, 0, 35]
abbrev dktX3_makeNow_1 : List UInt8 := dkwX3_makeNow_1 ++ dktX3_makeNow_2
def dkwX3_makeNow_0 : List UInt8 := [42, 28, 182, 0, 138, 62, 29, 154, 0, 5, 2, 172, 3, 54, 4, 4, 54, 5, 3, 54, 6, 21, 6, 42]
abbrev dktX3_makeNow_0 : List UInt8 := dkwX3_makeNow_0 ++ dktX3_makeNow_1
theorem dksX3_makeNow_0 : cX3_makeNow.data.toList.drop 0 = dktX3_makeNow_0 := by decide +kernel
theorem dksX3_makeNow_1 : cX3_makeNow.data.toList.drop 24 = dktX3_makeNow_1 := dk_seg dksX3_makeNow_0 24 rfl rfl
theorem dksX3_makeNow_2 : cX3_makeNow.data.toList.drop 48 = dktX3_makeNow_2 := dk_seg dksX3_makeNow_1 24 rfl rfl
theorem dksX3_makeNow_3 : cX3_makeNow.data.toList.drop 72 = dktX3_makeNow_3 := dk_seg dksX3_makeNow_2 24 rfl rfl
theorem dX3_makeNow_0 : decode cX3_makeNow 0 = .ok (.aload_n 0, 1) := dk_42 (dk_at dksX3_makeNow_0 0 rfl rfl)
theorem dX3_makeNow_1 : decode cX3_makeNow 1 = .ok (.iload_n 2, 1) := dk_28 (dk_at dksX3_makeNow_0 1 rfl rfl)
theorem dX3_makeNow_2 : decode cX3_makeNow 2 = .ok (.invokevirtual 138, 3) := dk_182 0 138 (dk_at dksX3_makeNow_0 2 rfl rfl)
theorem dX3_makeNow_5 : decode cX3_makeNow 5 = .ok (.istore_n 3, 1) := dk_62 (dk_at dksX3_makeNow_0 5 rfl rfl)
theorem dX3_makeNow_6 : decode cX3_makeNow 6 = .ok (.iload_n 3, 1) := dk_29 (dk_at dksX3_makeNow_0 6 rfl rfl)
theorem dX3_makeNow_7 : decode cX3_makeNow 7 = .ok (.ifCond .ne 5, 3) := dk_154 0 5 (dk_at dksX3_makeNow_0 7 rfl rfl)
theorem dX3_makeNow_10 : decode cX3_makeNow 10 = .ok (.iconst (-1), 1) := dk_2 (dk_at dksX3_makeNow_0 10 rfl rfl)
theorem dX3_makeNow_11 : decode cX3_makeNow 11 = .ok (.ireturn, 1) := dk_172 (dk_at dksX3_makeNow_0 11 rfl rfl)
theorem dX3_makeNow_12 : decode cX3_makeNow 12 = .ok (.iconst 0, 1) := dk_3 (dk_at dksX3_makeNow_0 12 rfl rfl)
theorem dX3_makeNow_13 : decode cX3_makeNow 13 = .ok (.istore 4, 2) := dk_54 4 (dk_at dksX3_makeNow_0 13 rfl rfl)
theorem dX3_makeNow_15 : decode cX3_makeNow 15 = .ok (.iconst 1, 1) := dk_4 (dk_at dksX3_makeNow_0 15 rfl rfl)
theorem dX3_makeNow_16 : decode cX3_makeNow 16 = .ok (.istore 5, 2) := dk_54 5 (dk_at dksX3_makeNow_0 16 rfl rfl)
theorem dX3_makeNow_18 : decode cX3_makeNow 18 = .ok (.iconst 0, 1) := dk_3 (dk_at dksX3_makeNow_0 18 rfl rfl)
theorem dX3_makeNow_19 : decode cX3_makeNow 19 = .ok (.istore 6, 2) := dk_54 6 (dk_at dksX3_makeNow_0 19 rfl rfl)
theorem dX3_makeNow_21 : decode cX3_makeNow 21 = .ok (.iload 6, 2) := dk_21 6 (dk_at dksX3_makeNow_0 21 rfl rfl)
theorem dX3_makeNow_23 : decode cX3_makeNow 23 = .ok (.aload_n 0, 1) := dk_42 (dk_at dksX3_makeNow_0 23 rfl rfl)
theorem dX3_makeNow_24 : decode cX3_makeNow 24 = .ok (.getfield 7, 3) := dk_180 0 7 (dk_at dksX3_makeNow_1 0 rfl rfl)
theorem dX3_makeNow_27 : decode cX3_makeNow 27 = .ok (.bipush 8, 2) := dk_16 8 (dk_at dksX3_makeNow_1 3 rfl rfl)
theorem dX3_makeNow_29 : decode cX3_makeNow 29 = .ok (.iaload, 1) := dk_46 (dk_at dksX3_makeNow_1 5 rfl rfl)
theorem dX3_makeNow_30 : decode cX3_makeNow 30 = .ok (.if_icmp .ge 56, 3) := dk_162 0 56 (dk_at dksX3_makeNow_1 6 rfl rfl)
theorem dX3_makeNow_33 : decode cX3_makeNow 33 = .ok (.iload 5, 2) := dk_21 5 (dk_at dksX3_makeNow_1 9 rfl rfl)
theorem dX3_makeNow_35 : decode cX3_makeNow 35 = .ok (.ifCond .eq 51, 3) := dk_153 0 51 (dk_at dksX3_makeNow_1 11 rfl rfl)
theorem dX3_makeNow_38 : decode cX3_makeNow 38 = .ok (.iload_n 3, 1) := dk_29 (dk_at dksX3_makeNow_1 14 rfl rfl)
theorem dX3_makeNow_39 : decode cX3_makeNow 39 = .ok (.iload 6, 2) := dk_21 6 (dk_at dksX3_makeNow_1 15 rfl rfl)
theorem dX3_makeNow_41 : decode cX3_makeNow 41 = .ok (.ishr, 1) := dk_122 (dk_at dksX3_makeNow_1 17 rfl rfl)
theorem dX3_makeNow_42 : decode cX3_makeNow 42 = .ok (.iconst 1, 1) := dk_4 (dk_at dksX3_makeNow_1 18 rfl rfl)
theorem dX3_makeNow_43 : decode cX3_makeNow 43 = .ok (.iand, 1) := dk_126 (dk_at dksX3_makeNow_1 19 rfl rfl)
theorem dX3_makeNow_44 : decode cX3_makeNow 44 = .ok (.iconst 1, 1) := dk_4 (dk_at dksX3_makeNow_1 20 rfl rfl)
theorem dX3_makeNow_45 : decode cX3_makeNow 45 = .ok (.if_icmp .ne 35, 3) := dk_160 0 35 (dk_at dksX3_makeNow_1 21 rfl rfl)
theorem dX3_makeNow_48 : decode cX3_makeNow 48 = .ok (.aload_n 0, 1) := dk_42 (dk_at dksX3_makeNow_2 0 rfl rfl)
theorem dX3_makeNow_49 : decode cX3_makeNow 49 = .ok (.iload_n 1, 1) := dk_27 (dk_at dksX3_makeNow_2 1 rfl rfl)
theorem dX3_makeNow_50 : decode cX3_makeNow 50 = .ok (.iload 6, 2) := dk_21 6 (dk_at dksX3_makeNow_2 2 rfl rfl)
theorem dX3_makeNow_52 : decode cX3_makeNow 52 = .ok (.invokevirtual 132, 3) := dk_182 0 132 (dk_at dksX3_makeNow_2 4 rfl rfl)
theorem dX3_makeNow_55 : decode cX3_makeNow 55 = .ok (.ifCond .ne 7, 3) := dk_154 0 7 (dk_at dksX3_makeNow_2 7 rfl rfl)
theorem dX3_makeNow_58 : decode cX3_makeNow 58 = .ok (.iconst 1, 1) := dk_4 (dk_at dksX3_makeNow_2 10 rfl rfl)
theorem dX3_makeNow_59 : decode cX3_makeNow 59 = .ok (.goto 4, 3) := dk_167 0 4 (dk_at dksX3_makeNow_2 11 rfl rfl)
theorem dX3_makeNow_62 : decode cX3_makeNow 62 = .ok (.iconst 0, 1) := dk_3 (dk_at dksX3_makeNow_2 14 rfl rfl)
theorem dX3_makeNow_63 : decode cX3_makeNow 63 = .ok (.istore 5, 2) := dk_54 5 (dk_at dksX3_makeNow_2 15 rfl rfl)
theorem dX3_makeNow_65 : decode cX3_makeNow 65 = .ok (.iload 4, 2) := dk_21 4 (dk_at dksX3_makeNow_2 17 rfl rfl)
theorem dX3_makeNow_67 : decode cX3_makeNow 67 = .ok (.iload 5, 2) := dk_21 5 (dk_at dksX3_makeNow_2 19 rfl rfl)
theorem dX3_makeNow_69 : decode cX3_makeNow 69 = .ok (.ifCond .eq 7, 3) := dk_153 0 7 (dk_at dksX3_makeNow_2 21 rfl rfl)
theorem dX3_makeNow_72 : decode cX3_makeNow 72 = .ok (.iconst 1, 1) := dk_4 (dk_at dksX3_makeNow_3 0 rfl rfl)
theorem dX3_makeNow_73 : decode cX3_makeNow 73 = .ok (.goto 4, 3) := dk_167 0 4 (dk_at dksX3_makeNow_3 1 rfl rfl)
theorem dX3_makeNow_76 : decode cX3_makeNow 76 = .ok (.iconst 0, 1) := dk_3 (dk_at dksX3_makeNow_3 4 rfl rfl)
theorem dX3_makeNow_77 : decode cX3_makeNow 77 = .ok (.iadd, 1) := dk_96 (dk_at dksX3_makeNow_3 5 rfl rfl)
theorem dX3_makeNow_78 : decode cX3_makeNow 78 = .ok (.istore 4, 2) := dk_54 4 (dk_at dksX3_makeNow_3 6 rfl rfl)
theorem dX3_makeNow_80 : decode cX3_makeNow 80 = .ok (.iinc 6 1, 3) := dk_132 6 1 (dk_at dksX3_makeNow_3 8 rfl rfl)
theorem dX3_makeNow_83 : decode cX3_makeNow 83 = .ok (.goto (-62), 3) := dk_167 255 194 (dk_at dksX3_makeNow_3 11 rfl rfl)
theorem dX3_makeNow_86 : decode cX3_makeNow 86 = .ok (.iload 4, 2) := dk_21 4 (dk_at dksX3_makeNow_3 14 rfl rfl)
theorem dX3_makeNow_88 : decode cX3_makeNow 88 = .ok (.ireturn, 1) := dk_172 (dk_at dksX3_makeNow_3 16 rfl rfl)
abbrev cX3_fewestFor : ByteArray := prog_11_method_34_code
def yX3_fewestFor : MethodName := ⟨RX3, "fewestFor", "(I)I"⟩
def dkwX3_fewestFor_2 : List UInt8 := [182, 0, 106, 172, 29, 184, 0, 109, 62, 167, 255, 226, 132, 2, 1, 167, 255, 200, 3, 172]
abbrev dktX3_fewestFor_2 : List UInt8 := dkwX3_fewestFor_2 ++ []
def dkwX3_fewestFor_1 : List UInt8 := [100, 62, 29, 4, 42, 180, 0, 97, 120, 162, 0, 26, 42, 29, 182, 0, 103, 27, 160, 0, 9, 42, 29]
abbrev dktX3_fewestFor_1 : List UInt8 := dkwX3_fewestFor_1 ++ dktX3_fewestFor_2
def dkwX3_fewestFor_0 : List UInt8 := [42, 182, 0, 100, 4, 61, 28, 16, 6, 163, 0, 56, 28, 42, 180, 0, 97, 163, 0, 48, 4, 28, 120, 4]
abbrev dktX3_fewestFor_0 : List UInt8 := dkwX3_fewestFor_0 ++ dktX3_fewestFor_1
theorem dksX3_fewestFor_0 : cX3_fewestFor.data.toList.drop 0 = dktX3_fewestFor_0 := by decide +kernel
theorem dksX3_fewestFor_1 : cX3_fewestFor.data.toList.drop 24 = dktX3_fewestFor_1 := dk_seg dksX3_fewestFor_0 24 rfl rfl
theorem dksX3_fewestFor_2 : cX3_fewestFor.data.toList.drop 47 = dktX3_fewestFor_2 := dk_seg dksX3_fewestFor_1 23 rfl rfl
theorem dX3_fewestFor_0 : decode cX3_fewestFor 0 = .ok (.aload_n 0, 1) := dk_42 (dk_at dksX3_fewestFor_0 0 rfl rfl)
theorem dX3_fewestFor_1 : decode cX3_fewestFor 1 = .ok (.invokevirtual 100, 3) := dk_182 0 100 (dk_at dksX3_fewestFor_0 1 rfl rfl)
theorem dX3_fewestFor_4 : decode cX3_fewestFor 4 = .ok (.iconst 1, 1) := dk_4 (dk_at dksX3_fewestFor_0 4 rfl rfl)
theorem dX3_fewestFor_5 : decode cX3_fewestFor 5 = .ok (.istore_n 2, 1) := dk_61 (dk_at dksX3_fewestFor_0 5 rfl rfl)
theorem dX3_fewestFor_6 : decode cX3_fewestFor 6 = .ok (.iload_n 2, 1) := dk_28 (dk_at dksX3_fewestFor_0 6 rfl rfl)
theorem dX3_fewestFor_7 : decode cX3_fewestFor 7 = .ok (.bipush 6, 2) := dk_16 6 (dk_at dksX3_fewestFor_0 7 rfl rfl)
theorem dX3_fewestFor_9 : decode cX3_fewestFor 9 = .ok (.if_icmp .gt 56, 3) := dk_163 0 56 (dk_at dksX3_fewestFor_0 9 rfl rfl)
theorem dX3_fewestFor_12 : decode cX3_fewestFor 12 = .ok (.iload_n 2, 1) := dk_28 (dk_at dksX3_fewestFor_0 12 rfl rfl)
theorem dX3_fewestFor_13 : decode cX3_fewestFor 13 = .ok (.aload_n 0, 1) := dk_42 (dk_at dksX3_fewestFor_0 13 rfl rfl)
theorem dX3_fewestFor_14 : decode cX3_fewestFor 14 = .ok (.getfield 97, 3) := dk_180 0 97 (dk_at dksX3_fewestFor_0 14 rfl rfl)
theorem dX3_fewestFor_17 : decode cX3_fewestFor 17 = .ok (.if_icmp .gt 48, 3) := dk_163 0 48 (dk_at dksX3_fewestFor_0 17 rfl rfl)
theorem dX3_fewestFor_20 : decode cX3_fewestFor 20 = .ok (.iconst 1, 1) := dk_4 (dk_at dksX3_fewestFor_0 20 rfl rfl)
theorem dX3_fewestFor_21 : decode cX3_fewestFor 21 = .ok (.iload_n 2, 1) := dk_28 (dk_at dksX3_fewestFor_0 21 rfl rfl)
theorem dX3_fewestFor_22 : decode cX3_fewestFor 22 = .ok (.ishl, 1) := dk_120 (dk_at dksX3_fewestFor_0 22 rfl rfl)
theorem dX3_fewestFor_23 : decode cX3_fewestFor 23 = .ok (.iconst 1, 1) := dk_4 (dk_at dksX3_fewestFor_0 23 rfl rfl)
theorem dX3_fewestFor_24 : decode cX3_fewestFor 24 = .ok (.isub, 1) := dk_100 (dk_at dksX3_fewestFor_1 0 rfl rfl)
theorem dX3_fewestFor_25 : decode cX3_fewestFor 25 = .ok (.istore_n 3, 1) := dk_62 (dk_at dksX3_fewestFor_1 1 rfl rfl)
theorem dX3_fewestFor_26 : decode cX3_fewestFor 26 = .ok (.iload_n 3, 1) := dk_29 (dk_at dksX3_fewestFor_1 2 rfl rfl)
theorem dX3_fewestFor_27 : decode cX3_fewestFor 27 = .ok (.iconst 1, 1) := dk_4 (dk_at dksX3_fewestFor_1 3 rfl rfl)
theorem dX3_fewestFor_28 : decode cX3_fewestFor 28 = .ok (.aload_n 0, 1) := dk_42 (dk_at dksX3_fewestFor_1 4 rfl rfl)
theorem dX3_fewestFor_29 : decode cX3_fewestFor 29 = .ok (.getfield 97, 3) := dk_180 0 97 (dk_at dksX3_fewestFor_1 5 rfl rfl)
theorem dX3_fewestFor_32 : decode cX3_fewestFor 32 = .ok (.ishl, 1) := dk_120 (dk_at dksX3_fewestFor_1 8 rfl rfl)
theorem dX3_fewestFor_33 : decode cX3_fewestFor 33 = .ok (.if_icmp .ge 26, 3) := dk_162 0 26 (dk_at dksX3_fewestFor_1 9 rfl rfl)
theorem dX3_fewestFor_36 : decode cX3_fewestFor 36 = .ok (.aload_n 0, 1) := dk_42 (dk_at dksX3_fewestFor_1 12 rfl rfl)
theorem dX3_fewestFor_37 : decode cX3_fewestFor 37 = .ok (.iload_n 3, 1) := dk_29 (dk_at dksX3_fewestFor_1 13 rfl rfl)
theorem dX3_fewestFor_38 : decode cX3_fewestFor 38 = .ok (.invokevirtual 103, 3) := dk_182 0 103 (dk_at dksX3_fewestFor_1 14 rfl rfl)
theorem dX3_fewestFor_41 : decode cX3_fewestFor 41 = .ok (.iload_n 1, 1) := dk_27 (dk_at dksX3_fewestFor_1 17 rfl rfl)
theorem dX3_fewestFor_42 : decode cX3_fewestFor 42 = .ok (.if_icmp .ne 9, 3) := dk_160 0 9 (dk_at dksX3_fewestFor_1 18 rfl rfl)
theorem dX3_fewestFor_45 : decode cX3_fewestFor 45 = .ok (.aload_n 0, 1) := dk_42 (dk_at dksX3_fewestFor_1 21 rfl rfl)
theorem dX3_fewestFor_46 : decode cX3_fewestFor 46 = .ok (.iload_n 3, 1) := dk_29 (dk_at dksX3_fewestFor_1 22 rfl rfl)
theorem dX3_fewestFor_47 : decode cX3_fewestFor 47 = .ok (.invokevirtual 106, 3) := dk_182 0 106 (dk_at dksX3_fewestFor_2 0 rfl rfl)
theorem dX3_fewestFor_50 : decode cX3_fewestFor 50 = .ok (.ireturn, 1) := dk_172 (dk_at dksX3_fewestFor_2 3 rfl rfl)
theorem dX3_fewestFor_51 : decode cX3_fewestFor 51 = .ok (.iload_n 3, 1) := dk_29 (dk_at dksX3_fewestFor_2 4 rfl rfl)
theorem dX3_fewestFor_52 : decode cX3_fewestFor 52 = .ok (.invokestatic 109, 3) := dk_184 0 109 (dk_at dksX3_fewestFor_2 5 rfl rfl)
theorem dX3_fewestFor_55 : decode cX3_fewestFor 55 = .ok (.istore_n 3, 1) := dk_62 (dk_at dksX3_fewestFor_2 8 rfl rfl)
theorem dX3_fewestFor_56 : decode cX3_fewestFor 56 = .ok (.goto (-30), 3) := dk_167 255 226 (dk_at dksX3_fewestFor_2 9 rfl rfl)
theorem dX3_fewestFor_59 : decode cX3_fewestFor 59 = .ok (.iinc 2 1, 3) := dk_132 2 1 (dk_at dksX3_fewestFor_2 12 rfl rfl)
theorem dX3_fewestFor_62 : decode cX3_fewestFor 62 = .ok (.goto (-56), 3) := dk_167 255 200 (dk_at dksX3_fewestFor_2 15 rfl rfl)
theorem dX3_fewestFor_65 : decode cX3_fewestFor 65 = .ok (.iconst 0, 1) := dk_3 (dk_at dksX3_fewestFor_2 18 rfl rfl)
theorem dX3_fewestFor_66 : decode cX3_fewestFor 66 = .ok (.ireturn, 1) := dk_172 (dk_at dksX3_fewestFor_2 19 rfl rfl)
abbrev cX3_lookForFree : ByteArray := prog_11_method_30_code
def yX3_lookForFree : MethodName := ⟨RX3, "lookForFree", "()V"⟩
def dkwX3_lookForFree_2 : List UInt8 := [132, 1, 1, 167, 255, 214, 177]
abbrev dktX3_lookForFree_2 : List UInt8 := dkwX3_lookForFree_2 ++ []
def dkwX3_lookForFree_1 : List UInt8 := [153, 0, 23, 42, 180, 0, 23, 42, 180, 0, 97, 27, 79, 42, 89, 180, 0, 97, 4, 96, 181, 0, 97]
abbrev dktX3_lookForFree_1 : List UInt8 := dkwX3_lookForFree_1 ++ dktX3_lookForFree_2
def dkwX3_lookForFree_0 : List UInt8 := [42, 3, 181, 0, 97, 3, 60, 27, 42, 180, 0, 7, 16, 8, 46, 162, 0, 37, 42, 27, 182, 0, 78]
abbrev dktX3_lookForFree_0 : List UInt8 := dkwX3_lookForFree_0 ++ dktX3_lookForFree_1
theorem dksX3_lookForFree_0 : cX3_lookForFree.data.toList.drop 0 = dktX3_lookForFree_0 := by decide +kernel
theorem dksX3_lookForFree_1 : cX3_lookForFree.data.toList.drop 23 = dktX3_lookForFree_1 := dk_seg dksX3_lookForFree_0 23 rfl rfl
theorem dksX3_lookForFree_2 : cX3_lookForFree.data.toList.drop 46 = dktX3_lookForFree_2 := dk_seg dksX3_lookForFree_1 23 rfl rfl
theorem dX3_lookForFree_0 : decode cX3_lookForFree 0 = .ok (.aload_n 0, 1) := dk_42 (dk_at dksX3_lookForFree_0 0 rfl rfl)
theorem dX3_lookForFree_1 : decode cX3_lookForFree 1 = .ok (.iconst 0, 1) := dk_3 (dk_at dksX3_lookForFree_0 1 rfl rfl)
theorem dX3_lookForFree_2 : decode cX3_lookForFree 2 = .ok (.putfield 97, 3) := dk_181 0 97 (dk_at dksX3_lookForFree_0 2 rfl rfl)
theorem dX3_lookForFree_5 : decode cX3_lookForFree 5 = .ok (.iconst 0, 1) := dk_3 (dk_at dksX3_lookForFree_0 5 rfl rfl)
theorem dX3_lookForFree_6 : decode cX3_lookForFree 6 = .ok (.istore_n 1, 1) := dk_60 (dk_at dksX3_lookForFree_0 6 rfl rfl)
theorem dX3_lookForFree_7 : decode cX3_lookForFree 7 = .ok (.iload_n 1, 1) := dk_27 (dk_at dksX3_lookForFree_0 7 rfl rfl)
theorem dX3_lookForFree_8 : decode cX3_lookForFree 8 = .ok (.aload_n 0, 1) := dk_42 (dk_at dksX3_lookForFree_0 8 rfl rfl)
theorem dX3_lookForFree_9 : decode cX3_lookForFree 9 = .ok (.getfield 7, 3) := dk_180 0 7 (dk_at dksX3_lookForFree_0 9 rfl rfl)
theorem dX3_lookForFree_12 : decode cX3_lookForFree 12 = .ok (.bipush 8, 2) := dk_16 8 (dk_at dksX3_lookForFree_0 12 rfl rfl)
theorem dX3_lookForFree_14 : decode cX3_lookForFree 14 = .ok (.iaload, 1) := dk_46 (dk_at dksX3_lookForFree_0 14 rfl rfl)
theorem dX3_lookForFree_15 : decode cX3_lookForFree 15 = .ok (.if_icmp .ge 37, 3) := dk_162 0 37 (dk_at dksX3_lookForFree_0 15 rfl rfl)
theorem dX3_lookForFree_18 : decode cX3_lookForFree 18 = .ok (.aload_n 0, 1) := dk_42 (dk_at dksX3_lookForFree_0 18 rfl rfl)
theorem dX3_lookForFree_19 : decode cX3_lookForFree 19 = .ok (.iload_n 1, 1) := dk_27 (dk_at dksX3_lookForFree_0 19 rfl rfl)
theorem dX3_lookForFree_20 : decode cX3_lookForFree 20 = .ok (.invokevirtual 78, 3) := dk_182 0 78 (dk_at dksX3_lookForFree_0 20 rfl rfl)
theorem dX3_lookForFree_23 : decode cX3_lookForFree 23 = .ok (.ifCond .eq 23, 3) := dk_153 0 23 (dk_at dksX3_lookForFree_1 0 rfl rfl)
theorem dX3_lookForFree_26 : decode cX3_lookForFree 26 = .ok (.aload_n 0, 1) := dk_42 (dk_at dksX3_lookForFree_1 3 rfl rfl)
theorem dX3_lookForFree_27 : decode cX3_lookForFree 27 = .ok (.getfield 23, 3) := dk_180 0 23 (dk_at dksX3_lookForFree_1 4 rfl rfl)
theorem dX3_lookForFree_30 : decode cX3_lookForFree 30 = .ok (.aload_n 0, 1) := dk_42 (dk_at dksX3_lookForFree_1 7 rfl rfl)
theorem dX3_lookForFree_31 : decode cX3_lookForFree 31 = .ok (.getfield 97, 3) := dk_180 0 97 (dk_at dksX3_lookForFree_1 8 rfl rfl)
theorem dX3_lookForFree_34 : decode cX3_lookForFree 34 = .ok (.iload_n 1, 1) := dk_27 (dk_at dksX3_lookForFree_1 11 rfl rfl)
theorem dX3_lookForFree_35 : decode cX3_lookForFree 35 = .ok (.iastore, 1) := dk_79 (dk_at dksX3_lookForFree_1 12 rfl rfl)
theorem dX3_lookForFree_36 : decode cX3_lookForFree 36 = .ok (.aload_n 0, 1) := dk_42 (dk_at dksX3_lookForFree_1 13 rfl rfl)
theorem dX3_lookForFree_37 : decode cX3_lookForFree 37 = .ok (.dup, 1) := dk_89 (dk_at dksX3_lookForFree_1 14 rfl rfl)
theorem dX3_lookForFree_38 : decode cX3_lookForFree 38 = .ok (.getfield 97, 3) := dk_180 0 97 (dk_at dksX3_lookForFree_1 15 rfl rfl)
theorem dX3_lookForFree_41 : decode cX3_lookForFree 41 = .ok (.iconst 1, 1) := dk_4 (dk_at dksX3_lookForFree_1 18 rfl rfl)
theorem dX3_lookForFree_42 : decode cX3_lookForFree 42 = .ok (.iadd, 1) := dk_96 (dk_at dksX3_lookForFree_1 19 rfl rfl)
theorem dX3_lookForFree_43 : decode cX3_lookForFree 43 = .ok (.putfield 97, 3) := dk_181 0 97 (dk_at dksX3_lookForFree_1 20 rfl rfl)
theorem dX3_lookForFree_46 : decode cX3_lookForFree 46 = .ok (.iinc 1 1, 3) := dk_132 1 1 (dk_at dksX3_lookForFree_2 0 rfl rfl)
theorem dX3_lookForFree_49 : decode cX3_lookForFree 49 = .ok (.goto (-42), 3) := dk_167 255 214 (dk_at dksX3_lookForFree_2 3 rfl rfl)
theorem dX3_lookForFree_52 : decode cX3_lookForFree 52 = .ok (.return_, 1) := dk_177 (dk_at dksX3_lookForFree_2 6 rfl rfl)
abbrev cX3_sumOf : ByteArray := prog_11_method_31_code
def yX3_sumOf : MethodName := ⟨RX3, "sumOf", "(I)I"⟩
def dkwX3_sumOf_1 : List UInt8 := [180, 0, 23, 29, 46, 3, 182, 0, 57, 167, 0, 4, 3, 96, 61, 132, 3, 1, 167, 255, 218, 28, 172]
abbrev dktX3_sumOf_1 : List UInt8 := dkwX3_sumOf_1 ++ []
def dkwX3_sumOf_0 : List UInt8 := [3, 61, 3, 62, 29, 42, 180, 0, 97, 162, 0, 36, 28, 27, 29, 122, 4, 126, 4, 160, 0, 17, 42, 42]
abbrev dktX3_sumOf_0 : List UInt8 := dkwX3_sumOf_0 ++ dktX3_sumOf_1
theorem dksX3_sumOf_0 : cX3_sumOf.data.toList.drop 0 = dktX3_sumOf_0 := by decide +kernel
theorem dksX3_sumOf_1 : cX3_sumOf.data.toList.drop 24 = dktX3_sumOf_1 := dk_seg dksX3_sumOf_0 24 rfl rfl
theorem dX3_sumOf_0 : decode cX3_sumOf 0 = .ok (.iconst 0, 1) := dk_3 (dk_at dksX3_sumOf_0 0 rfl rfl)
theorem dX3_sumOf_1 : decode cX3_sumOf 1 = .ok (.istore_n 2, 1) := dk_61 (dk_at dksX3_sumOf_0 1 rfl rfl)
theorem dX3_sumOf_2 : decode cX3_sumOf 2 = .ok (.iconst 0, 1) := dk_3 (dk_at dksX3_sumOf_0 2 rfl rfl)
theorem dX3_sumOf_3 : decode cX3_sumOf 3 = .ok (.istore_n 3, 1) := dk_62 (dk_at dksX3_sumOf_0 3 rfl rfl)
theorem dX3_sumOf_4 : decode cX3_sumOf 4 = .ok (.iload_n 3, 1) := dk_29 (dk_at dksX3_sumOf_0 4 rfl rfl)
theorem dX3_sumOf_5 : decode cX3_sumOf 5 = .ok (.aload_n 0, 1) := dk_42 (dk_at dksX3_sumOf_0 5 rfl rfl)
theorem dX3_sumOf_6 : decode cX3_sumOf 6 = .ok (.getfield 97, 3) := dk_180 0 97 (dk_at dksX3_sumOf_0 6 rfl rfl)
theorem dX3_sumOf_9 : decode cX3_sumOf 9 = .ok (.if_icmp .ge 36, 3) := dk_162 0 36 (dk_at dksX3_sumOf_0 9 rfl rfl)
theorem dX3_sumOf_12 : decode cX3_sumOf 12 = .ok (.iload_n 2, 1) := dk_28 (dk_at dksX3_sumOf_0 12 rfl rfl)
theorem dX3_sumOf_13 : decode cX3_sumOf 13 = .ok (.iload_n 1, 1) := dk_27 (dk_at dksX3_sumOf_0 13 rfl rfl)
theorem dX3_sumOf_14 : decode cX3_sumOf 14 = .ok (.iload_n 3, 1) := dk_29 (dk_at dksX3_sumOf_0 14 rfl rfl)
theorem dX3_sumOf_15 : decode cX3_sumOf 15 = .ok (.ishr, 1) := dk_122 (dk_at dksX3_sumOf_0 15 rfl rfl)
theorem dX3_sumOf_16 : decode cX3_sumOf 16 = .ok (.iconst 1, 1) := dk_4 (dk_at dksX3_sumOf_0 16 rfl rfl)
theorem dX3_sumOf_17 : decode cX3_sumOf 17 = .ok (.iand, 1) := dk_126 (dk_at dksX3_sumOf_0 17 rfl rfl)
theorem dX3_sumOf_18 : decode cX3_sumOf 18 = .ok (.iconst 1, 1) := dk_4 (dk_at dksX3_sumOf_0 18 rfl rfl)
theorem dX3_sumOf_19 : decode cX3_sumOf 19 = .ok (.if_icmp .ne 17, 3) := dk_160 0 17 (dk_at dksX3_sumOf_0 19 rfl rfl)
theorem dX3_sumOf_22 : decode cX3_sumOf 22 = .ok (.aload_n 0, 1) := dk_42 (dk_at dksX3_sumOf_0 22 rfl rfl)
theorem dX3_sumOf_23 : decode cX3_sumOf 23 = .ok (.aload_n 0, 1) := dk_42 (dk_at dksX3_sumOf_0 23 rfl rfl)
theorem dX3_sumOf_24 : decode cX3_sumOf 24 = .ok (.getfield 23, 3) := dk_180 0 23 (dk_at dksX3_sumOf_1 0 rfl rfl)
theorem dX3_sumOf_27 : decode cX3_sumOf 27 = .ok (.iload_n 3, 1) := dk_29 (dk_at dksX3_sumOf_1 3 rfl rfl)
theorem dX3_sumOf_28 : decode cX3_sumOf 28 = .ok (.iaload, 1) := dk_46 (dk_at dksX3_sumOf_1 4 rfl rfl)
theorem dX3_sumOf_29 : decode cX3_sumOf 29 = .ok (.iconst 0, 1) := dk_3 (dk_at dksX3_sumOf_1 5 rfl rfl)
theorem dX3_sumOf_30 : decode cX3_sumOf 30 = .ok (.invokevirtual 57, 3) := dk_182 0 57 (dk_at dksX3_sumOf_1 6 rfl rfl)
theorem dX3_sumOf_33 : decode cX3_sumOf 33 = .ok (.goto 4, 3) := dk_167 0 4 (dk_at dksX3_sumOf_1 9 rfl rfl)
theorem dX3_sumOf_36 : decode cX3_sumOf 36 = .ok (.iconst 0, 1) := dk_3 (dk_at dksX3_sumOf_1 12 rfl rfl)
theorem dX3_sumOf_37 : decode cX3_sumOf 37 = .ok (.iadd, 1) := dk_96 (dk_at dksX3_sumOf_1 13 rfl rfl)
theorem dX3_sumOf_38 : decode cX3_sumOf 38 = .ok (.istore_n 2, 1) := dk_61 (dk_at dksX3_sumOf_1 14 rfl rfl)
theorem dX3_sumOf_39 : decode cX3_sumOf 39 = .ok (.iinc 3 1, 3) := dk_132 3 1 (dk_at dksX3_sumOf_1 15 rfl rfl)
theorem dX3_sumOf_42 : decode cX3_sumOf 42 = .ok (.goto (-38), 3) := dk_167 255 218 (dk_at dksX3_sumOf_1 18 rfl rfl)
theorem dX3_sumOf_45 : decode cX3_sumOf 45 = .ok (.iload_n 2, 1) := dk_28 (dk_at dksX3_sumOf_1 21 rfl rfl)
theorem dX3_sumOf_46 : decode cX3_sumOf 46 = .ok (.ireturn, 1) := dk_172 (dk_at dksX3_sumOf_1 22 rfl rfl)
abbrev cX3_byNumbers : ByteArray := prog_11_method_33_code
def yX3_byNumbers : MethodName := ⟨RX3, "byNumbers", "(I)I"⟩
def dkwX3_byNumbers_1 : List UInt8 := [120, 128, 61, 132, 3, 1, 167, 255, 230, 28, 172]
abbrev dktX3_byNumbers_1 : List UInt8 := dkwX3_byNumbers_1 ++ []
def dkwX3_byNumbers_0 : List UInt8 := [3, 61, 3, 62, 29, 42, 180, 0, 97, 162, 0, 24, 28, 27, 29, 122, 4, 126, 42, 180, 0, 23, 29, 46]
abbrev dktX3_byNumbers_0 : List UInt8 := dkwX3_byNumbers_0 ++ dktX3_byNumbers_1
theorem dksX3_byNumbers_0 : cX3_byNumbers.data.toList.drop 0 = dktX3_byNumbers_0 := by decide +kernel
theorem dksX3_byNumbers_1 : cX3_byNumbers.data.toList.drop 24 = dktX3_byNumbers_1 := dk_seg dksX3_byNumbers_0 24 rfl rfl
theorem dX3_byNumbers_0 : decode cX3_byNumbers 0 = .ok (.iconst 0, 1) := dk_3 (dk_at dksX3_byNumbers_0 0 rfl rfl)
theorem dX3_byNumbers_1 : decode cX3_byNumbers 1 = .ok (.istore_n 2, 1) := dk_61 (dk_at dksX3_byNumbers_0 1 rfl rfl)
theorem dX3_byNumbers_2 : decode cX3_byNumbers 2 = .ok (.iconst 0, 1) := dk_3 (dk_at dksX3_byNumbers_0 2 rfl rfl)
theorem dX3_byNumbers_3 : decode cX3_byNumbers 3 = .ok (.istore_n 3, 1) := dk_62 (dk_at dksX3_byNumbers_0 3 rfl rfl)
theorem dX3_byNumbers_4 : decode cX3_byNumbers 4 = .ok (.iload_n 3, 1) := dk_29 (dk_at dksX3_byNumbers_0 4 rfl rfl)
theorem dX3_byNumbers_5 : decode cX3_byNumbers 5 = .ok (.aload_n 0, 1) := dk_42 (dk_at dksX3_byNumbers_0 5 rfl rfl)
theorem dX3_byNumbers_6 : decode cX3_byNumbers 6 = .ok (.getfield 97, 3) := dk_180 0 97 (dk_at dksX3_byNumbers_0 6 rfl rfl)
theorem dX3_byNumbers_9 : decode cX3_byNumbers 9 = .ok (.if_icmp .ge 24, 3) := dk_162 0 24 (dk_at dksX3_byNumbers_0 9 rfl rfl)
theorem dX3_byNumbers_12 : decode cX3_byNumbers 12 = .ok (.iload_n 2, 1) := dk_28 (dk_at dksX3_byNumbers_0 12 rfl rfl)
theorem dX3_byNumbers_13 : decode cX3_byNumbers 13 = .ok (.iload_n 1, 1) := dk_27 (dk_at dksX3_byNumbers_0 13 rfl rfl)
theorem dX3_byNumbers_14 : decode cX3_byNumbers 14 = .ok (.iload_n 3, 1) := dk_29 (dk_at dksX3_byNumbers_0 14 rfl rfl)
theorem dX3_byNumbers_15 : decode cX3_byNumbers 15 = .ok (.ishr, 1) := dk_122 (dk_at dksX3_byNumbers_0 15 rfl rfl)
theorem dX3_byNumbers_16 : decode cX3_byNumbers 16 = .ok (.iconst 1, 1) := dk_4 (dk_at dksX3_byNumbers_0 16 rfl rfl)
theorem dX3_byNumbers_17 : decode cX3_byNumbers 17 = .ok (.iand, 1) := dk_126 (dk_at dksX3_byNumbers_0 17 rfl rfl)
theorem dX3_byNumbers_18 : decode cX3_byNumbers 18 = .ok (.aload_n 0, 1) := dk_42 (dk_at dksX3_byNumbers_0 18 rfl rfl)
theorem dX3_byNumbers_19 : decode cX3_byNumbers 19 = .ok (.getfield 23, 3) := dk_180 0 23 (dk_at dksX3_byNumbers_0 19 rfl rfl)
theorem dX3_byNumbers_22 : decode cX3_byNumbers 22 = .ok (.iload_n 3, 1) := dk_29 (dk_at dksX3_byNumbers_0 22 rfl rfl)
theorem dX3_byNumbers_23 : decode cX3_byNumbers 23 = .ok (.iaload, 1) := dk_46 (dk_at dksX3_byNumbers_0 23 rfl rfl)
theorem dX3_byNumbers_24 : decode cX3_byNumbers 24 = .ok (.ishl, 1) := dk_120 (dk_at dksX3_byNumbers_1 0 rfl rfl)
theorem dX3_byNumbers_25 : decode cX3_byNumbers 25 = .ok (.ior, 1) := dk_128 (dk_at dksX3_byNumbers_1 1 rfl rfl)
theorem dX3_byNumbers_26 : decode cX3_byNumbers 26 = .ok (.istore_n 2, 1) := dk_61 (dk_at dksX3_byNumbers_1 2 rfl rfl)
theorem dX3_byNumbers_27 : decode cX3_byNumbers 27 = .ok (.iinc 3 1, 3) := dk_132 3 1 (dk_at dksX3_byNumbers_1 3 rfl rfl)
theorem dX3_byNumbers_30 : decode cX3_byNumbers 30 = .ok (.goto (-26), 3) := dk_167 255 230 (dk_at dksX3_byNumbers_1 6 rfl rfl)
theorem dX3_byNumbers_33 : decode cX3_byNumbers 33 = .ok (.iload_n 2, 1) := dk_28 (dk_at dksX3_byNumbers_1 9 rfl rfl)
theorem dX3_byNumbers_34 : decode cX3_byNumbers 34 = .ok (.ireturn, 1) := dk_172 (dk_at dksX3_byNumbers_1 10 rfl rfl)
abbrev cX3_nextSet : ByteArray := prog_11_method_32_code
def yX3_nextSet : MethodName := ⟨RX3, "nextSet", "(I)I"⟩
def dkwX3_nextSet_0 : List UInt8 := [26, 26, 116, 126, 60, 26, 27, 96, 61, 26, 28, 130, 5, 122, 27, 108, 28, 128, 172]
abbrev dktX3_nextSet_0 : List UInt8 := dkwX3_nextSet_0 ++ []
theorem dksX3_nextSet_0 : cX3_nextSet.data.toList.drop 0 = dktX3_nextSet_0 := by decide +kernel
theorem dX3_nextSet_0 : decode cX3_nextSet 0 = .ok (.iload_n 0, 1) := dk_26 (dk_at dksX3_nextSet_0 0 rfl rfl)
theorem dX3_nextSet_1 : decode cX3_nextSet 1 = .ok (.iload_n 0, 1) := dk_26 (dk_at dksX3_nextSet_0 1 rfl rfl)
theorem dX3_nextSet_2 : decode cX3_nextSet 2 = .ok (.ineg, 1) := dk_116 (dk_at dksX3_nextSet_0 2 rfl rfl)
theorem dX3_nextSet_3 : decode cX3_nextSet 3 = .ok (.iand, 1) := dk_126 (dk_at dksX3_nextSet_0 3 rfl rfl)
theorem dX3_nextSet_4 : decode cX3_nextSet 4 = .ok (.istore_n 1, 1) := dk_60 (dk_at dksX3_nextSet_0 4 rfl rfl)
theorem dX3_nextSet_5 : decode cX3_nextSet 5 = .ok (.iload_n 0, 1) := dk_26 (dk_at dksX3_nextSet_0 5 rfl rfl)
theorem dX3_nextSet_6 : decode cX3_nextSet 6 = .ok (.iload_n 1, 1) := dk_27 (dk_at dksX3_nextSet_0 6 rfl rfl)
theorem dX3_nextSet_7 : decode cX3_nextSet 7 = .ok (.iadd, 1) := dk_96 (dk_at dksX3_nextSet_0 7 rfl rfl)
theorem dX3_nextSet_8 : decode cX3_nextSet 8 = .ok (.istore_n 2, 1) := dk_61 (dk_at dksX3_nextSet_0 8 rfl rfl)
theorem dX3_nextSet_9 : decode cX3_nextSet 9 = .ok (.iload_n 0, 1) := dk_26 (dk_at dksX3_nextSet_0 9 rfl rfl)
theorem dX3_nextSet_10 : decode cX3_nextSet 10 = .ok (.iload_n 2, 1) := dk_28 (dk_at dksX3_nextSet_0 10 rfl rfl)
theorem dX3_nextSet_11 : decode cX3_nextSet 11 = .ok (.ixor, 1) := dk_130 (dk_at dksX3_nextSet_0 11 rfl rfl)
theorem dX3_nextSet_12 : decode cX3_nextSet 12 = .ok (.iconst 2, 1) := dk_5 (dk_at dksX3_nextSet_0 12 rfl rfl)
theorem dX3_nextSet_13 : decode cX3_nextSet 13 = .ok (.ishr, 1) := dk_122 (dk_at dksX3_nextSet_0 13 rfl rfl)
theorem dX3_nextSet_14 : decode cX3_nextSet 14 = .ok (.iload_n 1, 1) := dk_27 (dk_at dksX3_nextSet_0 14 rfl rfl)
theorem dX3_nextSet_15 : decode cX3_nextSet 15 = .ok (.idiv, 1) := dk_108 (dk_at dksX3_nextSet_0 15 rfl rfl)
theorem dX3_nextSet_16 : decode cX3_nextSet 16 = .ok (.iload_n 2, 1) := dk_28 (dk_at dksX3_nextSet_0 16 rfl rfl)
theorem dX3_nextSet_17 : decode cX3_nextSet 17 = .ok (.ior, 1) := dk_128 (dk_at dksX3_nextSet_0 17 rfl rfl)
theorem dX3_nextSet_18 : decode cX3_nextSet 18 = .ok (.ireturn, 1) := dk_172 (dk_at dksX3_nextSet_0 18 rfl rfl)
abbrev cX3_append : ByteArray := prog_11_method_47_code
def yX3_append : MethodName := ⟨RX3, "append", "(I)I"⟩
def dkwX3_append_2 : List UInt8 := [42, 89, 180, 0, 147, 4, 96, 181, 0, 147, 42, 180, 0, 147, 172]
abbrev dktX3_append_2 : List UInt8 := dkwX3_append_2 ++ []
def dkwX3_append_1 : List UInt8 := [180, 0, 147, 16, 60, 160, 0, 9, 42, 5, 182, 0, 50, 172, 42, 180, 0, 26, 42, 180, 0, 147, 27, 79]
abbrev dktX3_append_1 : List UInt8 := dkwX3_append_1 ++ dktX3_append_2
def dkwX3_append_0 : List UInt8 := [42, 3, 181, 0, 38, 27, 16, 33, 16, 126, 184, 0, 42, 154, 0, 9, 42, 4, 182, 0, 50, 172, 42]
abbrev dktX3_append_0 : List UInt8 := dkwX3_append_0 ++ dktX3_append_1
theorem dksX3_append_0 : cX3_append.data.toList.drop 0 = dktX3_append_0 := by decide +kernel
theorem dksX3_append_1 : cX3_append.data.toList.drop 23 = dktX3_append_1 := dk_seg dksX3_append_0 23 rfl rfl
theorem dksX3_append_2 : cX3_append.data.toList.drop 47 = dktX3_append_2 := dk_seg dksX3_append_1 24 rfl rfl
theorem dX3_append_0 : decode cX3_append 0 = .ok (.aload_n 0, 1) := dk_42 (dk_at dksX3_append_0 0 rfl rfl)
theorem dX3_append_1 : decode cX3_append 1 = .ok (.iconst 0, 1) := dk_3 (dk_at dksX3_append_0 1 rfl rfl)
theorem dX3_append_2 : decode cX3_append 2 = .ok (.putfield 38, 3) := dk_181 0 38 (dk_at dksX3_append_0 2 rfl rfl)
theorem dX3_append_5 : decode cX3_append 5 = .ok (.iload_n 1, 1) := dk_27 (dk_at dksX3_append_0 5 rfl rfl)
theorem dX3_append_6 : decode cX3_append 6 = .ok (.bipush 33, 2) := dk_16 33 (dk_at dksX3_append_0 6 rfl rfl)
theorem dX3_append_8 : decode cX3_append 8 = .ok (.bipush 126, 2) := dk_16 126 (dk_at dksX3_append_0 8 rfl rfl)
theorem dX3_append_10 : decode cX3_append 10 = .ok (.invokestatic 42, 3) := dk_184 0 42 (dk_at dksX3_append_0 10 rfl rfl)
theorem dX3_append_13 : decode cX3_append 13 = .ok (.ifCond .ne 9, 3) := dk_154 0 9 (dk_at dksX3_append_0 13 rfl rfl)
theorem dX3_append_16 : decode cX3_append 16 = .ok (.aload_n 0, 1) := dk_42 (dk_at dksX3_append_0 16 rfl rfl)
theorem dX3_append_17 : decode cX3_append 17 = .ok (.iconst 1, 1) := dk_4 (dk_at dksX3_append_0 17 rfl rfl)
theorem dX3_append_18 : decode cX3_append 18 = .ok (.invokevirtual 50, 3) := dk_182 0 50 (dk_at dksX3_append_0 18 rfl rfl)
theorem dX3_append_21 : decode cX3_append 21 = .ok (.ireturn, 1) := dk_172 (dk_at dksX3_append_0 21 rfl rfl)
theorem dX3_append_22 : decode cX3_append 22 = .ok (.aload_n 0, 1) := dk_42 (dk_at dksX3_append_0 22 rfl rfl)
theorem dX3_append_23 : decode cX3_append 23 = .ok (.getfield 147, 3) := dk_180 0 147 (dk_at dksX3_append_1 0 rfl rfl)
theorem dX3_append_26 : decode cX3_append 26 = .ok (.bipush 60, 2) := dk_16 60 (dk_at dksX3_append_1 3 rfl rfl)
theorem dX3_append_28 : decode cX3_append 28 = .ok (.if_icmp .ne 9, 3) := dk_160 0 9 (dk_at dksX3_append_1 5 rfl rfl)
theorem dX3_append_31 : decode cX3_append 31 = .ok (.aload_n 0, 1) := dk_42 (dk_at dksX3_append_1 8 rfl rfl)
theorem dX3_append_32 : decode cX3_append 32 = .ok (.iconst 2, 1) := dk_5 (dk_at dksX3_append_1 9 rfl rfl)
theorem dX3_append_33 : decode cX3_append 33 = .ok (.invokevirtual 50, 3) := dk_182 0 50 (dk_at dksX3_append_1 10 rfl rfl)
theorem dX3_append_36 : decode cX3_append 36 = .ok (.ireturn, 1) := dk_172 (dk_at dksX3_append_1 13 rfl rfl)
theorem dX3_append_37 : decode cX3_append 37 = .ok (.aload_n 0, 1) := dk_42 (dk_at dksX3_append_1 14 rfl rfl)
theorem dX3_append_38 : decode cX3_append 38 = .ok (.getfield 26, 3) := dk_180 0 26 (dk_at dksX3_append_1 15 rfl rfl)
theorem dX3_append_41 : decode cX3_append 41 = .ok (.aload_n 0, 1) := dk_42 (dk_at dksX3_append_1 18 rfl rfl)
theorem dX3_append_42 : decode cX3_append 42 = .ok (.getfield 147, 3) := dk_180 0 147 (dk_at dksX3_append_1 19 rfl rfl)
theorem dX3_append_45 : decode cX3_append 45 = .ok (.iload_n 1, 1) := dk_27 (dk_at dksX3_append_1 22 rfl rfl)
theorem dX3_append_46 : decode cX3_append 46 = .ok (.iastore, 1) := dk_79 (dk_at dksX3_append_1 23 rfl rfl)
theorem dX3_append_47 : decode cX3_append 47 = .ok (.aload_n 0, 1) := dk_42 (dk_at dksX3_append_2 0 rfl rfl)
theorem dX3_append_48 : decode cX3_append 48 = .ok (.dup, 1) := dk_89 (dk_at dksX3_append_2 1 rfl rfl)
theorem dX3_append_49 : decode cX3_append 49 = .ok (.getfield 147, 3) := dk_180 0 147 (dk_at dksX3_append_2 2 rfl rfl)
theorem dX3_append_52 : decode cX3_append 52 = .ok (.iconst 1, 1) := dk_4 (dk_at dksX3_append_2 5 rfl rfl)
theorem dX3_append_53 : decode cX3_append 53 = .ok (.iadd, 1) := dk_96 (dk_at dksX3_append_2 6 rfl rfl)
theorem dX3_append_54 : decode cX3_append 54 = .ok (.putfield 147, 3) := dk_181 0 147 (dk_at dksX3_append_2 7 rfl rfl)
theorem dX3_append_57 : decode cX3_append 57 = .ok (.aload_n 0, 1) := dk_42 (dk_at dksX3_append_2 10 rfl rfl)
theorem dX3_append_58 : decode cX3_append 58 = .ok (.getfield 147, 3) := dk_180 0 147 (dk_at dksX3_append_2 11 rfl rfl)
theorem dX3_append_61 : decode cX3_append 61 = .ok (.ireturn, 1) := dk_172 (dk_at dksX3_append_2 14 rfl rfl)
abbrev cX3_clearBuffer : ByteArray := prog_11_method_48_code
def yX3_clearBuffer : MethodName := ⟨RX3, "clearBuffer", "()I"⟩
def dkwX3_clearBuffer_0 : List UInt8 := [42, 3, 181, 0, 38, 42, 180, 0, 147, 60, 42, 3, 181, 0, 147, 27, 172]
abbrev dktX3_clearBuffer_0 : List UInt8 := dkwX3_clearBuffer_0 ++ []
theorem dksX3_clearBuffer_0 : cX3_clearBuffer.data.toList.drop 0 = dktX3_clearBuffer_0 := by decide +kernel
theorem dX3_clearBuffer_0 : decode cX3_clearBuffer 0 = .ok (.aload_n 0, 1) := dk_42 (dk_at dksX3_clearBuffer_0 0 rfl rfl)
theorem dX3_clearBuffer_1 : decode cX3_clearBuffer 1 = .ok (.iconst 0, 1) := dk_3 (dk_at dksX3_clearBuffer_0 1 rfl rfl)
theorem dX3_clearBuffer_2 : decode cX3_clearBuffer 2 = .ok (.putfield 38, 3) := dk_181 0 38 (dk_at dksX3_clearBuffer_0 2 rfl rfl)
theorem dX3_clearBuffer_5 : decode cX3_clearBuffer 5 = .ok (.aload_n 0, 1) := dk_42 (dk_at dksX3_clearBuffer_0 5 rfl rfl)
theorem dX3_clearBuffer_6 : decode cX3_clearBuffer 6 = .ok (.getfield 147, 3) := dk_180 0 147 (dk_at dksX3_clearBuffer_0 6 rfl rfl)
theorem dX3_clearBuffer_9 : decode cX3_clearBuffer 9 = .ok (.istore_n 1, 1) := dk_60 (dk_at dksX3_clearBuffer_0 9 rfl rfl)
theorem dX3_clearBuffer_10 : decode cX3_clearBuffer 10 = .ok (.aload_n 0, 1) := dk_42 (dk_at dksX3_clearBuffer_0 10 rfl rfl)
theorem dX3_clearBuffer_11 : decode cX3_clearBuffer 11 = .ok (.iconst 0, 1) := dk_3 (dk_at dksX3_clearBuffer_0 11 rfl rfl)
theorem dX3_clearBuffer_12 : decode cX3_clearBuffer 12 = .ok (.putfield 147, 3) := dk_181 0 147 (dk_at dksX3_clearBuffer_0 12 rfl rfl)
theorem dX3_clearBuffer_15 : decode cX3_clearBuffer 15 = .ok (.iload_n 1, 1) := dk_27 (dk_at dksX3_clearBuffer_0 15 rfl rfl)
theorem dX3_clearBuffer_16 : decode cX3_clearBuffer 16 = .ok (.ireturn, 1) := dk_172 (dk_at dksX3_clearBuffer_0 16 rfl rfl)
abbrev cX3_firstError : ByteArray := prog_11_method_55_code
def yX3_firstError : MethodName := ⟨RX3, "firstError", "()I"⟩
def dkwX3_firstError_0 : List UInt8 := [42, 3, 181, 0, 38, 42, 182, 0, 175, 153, 0, 10, 42, 180, 0, 147, 167, 0, 7, 42, 180, 0, 150, 172]
abbrev dktX3_firstError_0 : List UInt8 := dkwX3_firstError_0 ++ []
theorem dksX3_firstError_0 : cX3_firstError.data.toList.drop 0 = dktX3_firstError_0 := by decide +kernel
theorem dX3_firstError_0 : decode cX3_firstError 0 = .ok (.aload_n 0, 1) := dk_42 (dk_at dksX3_firstError_0 0 rfl rfl)
theorem dX3_firstError_1 : decode cX3_firstError 1 = .ok (.iconst 0, 1) := dk_3 (dk_at dksX3_firstError_0 1 rfl rfl)
theorem dX3_firstError_2 : decode cX3_firstError 2 = .ok (.putfield 38, 3) := dk_181 0 38 (dk_at dksX3_firstError_0 2 rfl rfl)
theorem dX3_firstError_5 : decode cX3_firstError 5 = .ok (.aload_n 0, 1) := dk_42 (dk_at dksX3_firstError_0 5 rfl rfl)
theorem dX3_firstError_6 : decode cX3_firstError 6 = .ok (.invokevirtual 175, 3) := dk_182 0 175 (dk_at dksX3_firstError_0 6 rfl rfl)
theorem dX3_firstError_9 : decode cX3_firstError 9 = .ok (.ifCond .eq 10, 3) := dk_153 0 10 (dk_at dksX3_firstError_0 9 rfl rfl)
theorem dX3_firstError_12 : decode cX3_firstError 12 = .ok (.aload_n 0, 1) := dk_42 (dk_at dksX3_firstError_0 12 rfl rfl)
theorem dX3_firstError_13 : decode cX3_firstError 13 = .ok (.getfield 147, 3) := dk_180 0 147 (dk_at dksX3_firstError_0 13 rfl rfl)
theorem dX3_firstError_16 : decode cX3_firstError 16 = .ok (.goto 7, 3) := dk_167 0 7 (dk_at dksX3_firstError_0 16 rfl rfl)
theorem dX3_firstError_19 : decode cX3_firstError 19 = .ok (.aload_n 0, 1) := dk_42 (dk_at dksX3_firstError_0 19 rfl rfl)
theorem dX3_firstError_20 : decode cX3_firstError 20 = .ok (.getfield 150, 3) := dk_180 0 150 (dk_at dksX3_firstError_0 20 rfl rfl)
theorem dX3_firstError_23 : decode cX3_firstError 23 = .ok (.ireturn, 1) := dk_172 (dk_at dksX3_firstError_0 23 rfl rfl)
abbrev cX3_isComplete : ByteArray := prog_11_method_54_code
def yX3_isComplete : MethodName := ⟨RX3, "isComplete", "()Z"⟩
def dkwX3_isComplete_2 : List UInt8 := [180, 0, 147, 160, 0, 7, 4, 167, 0, 4, 3, 172]
abbrev dktX3_isComplete_2 : List UInt8 := dkwX3_isComplete_2 ++ []
def dkwX3_isComplete_1 : List UInt8 := [182, 0, 165, 153, 0, 11, 42, 182, 0, 171, 60, 167, 255, 238, 27, 153, 0, 18, 42, 180, 0, 150, 42]
abbrev dktX3_isComplete_1 : List UInt8 := dkwX3_isComplete_1 ++ dktX3_isComplete_2
def dkwX3_isComplete_0 : List UInt8 := [42, 3, 181, 0, 150, 42, 3, 181, 0, 162, 42, 182, 0, 171, 60, 27, 153, 0, 20, 42, 16, 59]
abbrev dktX3_isComplete_0 : List UInt8 := dkwX3_isComplete_0 ++ dktX3_isComplete_1
theorem dksX3_isComplete_0 : cX3_isComplete.data.toList.drop 0 = dktX3_isComplete_0 := by decide +kernel
theorem dksX3_isComplete_1 : cX3_isComplete.data.toList.drop 22 = dktX3_isComplete_1 := dk_seg dksX3_isComplete_0 22 rfl rfl
theorem dksX3_isComplete_2 : cX3_isComplete.data.toList.drop 45 = dktX3_isComplete_2 := dk_seg dksX3_isComplete_1 23 rfl rfl
theorem dX3_isComplete_0 : decode cX3_isComplete 0 = .ok (.aload_n 0, 1) := dk_42 (dk_at dksX3_isComplete_0 0 rfl rfl)
theorem dX3_isComplete_1 : decode cX3_isComplete 1 = .ok (.iconst 0, 1) := dk_3 (dk_at dksX3_isComplete_0 1 rfl rfl)
theorem dX3_isComplete_2 : decode cX3_isComplete 2 = .ok (.putfield 150, 3) := dk_181 0 150 (dk_at dksX3_isComplete_0 2 rfl rfl)
theorem dX3_isComplete_5 : decode cX3_isComplete 5 = .ok (.aload_n 0, 1) := dk_42 (dk_at dksX3_isComplete_0 5 rfl rfl)
theorem dX3_isComplete_6 : decode cX3_isComplete 6 = .ok (.iconst 0, 1) := dk_3 (dk_at dksX3_isComplete_0 6 rfl rfl)
theorem dX3_isComplete_7 : decode cX3_isComplete 7 = .ok (.putfield 162, 3) := dk_181 0 162 (dk_at dksX3_isComplete_0 7 rfl rfl)
theorem dX3_isComplete_10 : decode cX3_isComplete 10 = .ok (.aload_n 0, 1) := dk_42 (dk_at dksX3_isComplete_0 10 rfl rfl)
theorem dX3_isComplete_11 : decode cX3_isComplete 11 = .ok (.invokevirtual 171, 3) := dk_182 0 171 (dk_at dksX3_isComplete_0 11 rfl rfl)
theorem dX3_isComplete_14 : decode cX3_isComplete 14 = .ok (.istore_n 1, 1) := dk_60 (dk_at dksX3_isComplete_0 14 rfl rfl)
theorem dX3_isComplete_15 : decode cX3_isComplete 15 = .ok (.iload_n 1, 1) := dk_27 (dk_at dksX3_isComplete_0 15 rfl rfl)
theorem dX3_isComplete_16 : decode cX3_isComplete 16 = .ok (.ifCond .eq 20, 3) := dk_153 0 20 (dk_at dksX3_isComplete_0 16 rfl rfl)
theorem dX3_isComplete_19 : decode cX3_isComplete 19 = .ok (.aload_n 0, 1) := dk_42 (dk_at dksX3_isComplete_0 19 rfl rfl)
theorem dX3_isComplete_20 : decode cX3_isComplete 20 = .ok (.bipush 59, 2) := dk_16 59 (dk_at dksX3_isComplete_0 20 rfl rfl)
theorem dX3_isComplete_22 : decode cX3_isComplete 22 = .ok (.invokevirtual 165, 3) := dk_182 0 165 (dk_at dksX3_isComplete_1 0 rfl rfl)
theorem dX3_isComplete_25 : decode cX3_isComplete 25 = .ok (.ifCond .eq 11, 3) := dk_153 0 11 (dk_at dksX3_isComplete_1 3 rfl rfl)
theorem dX3_isComplete_28 : decode cX3_isComplete 28 = .ok (.aload_n 0, 1) := dk_42 (dk_at dksX3_isComplete_1 6 rfl rfl)
theorem dX3_isComplete_29 : decode cX3_isComplete 29 = .ok (.invokevirtual 171, 3) := dk_182 0 171 (dk_at dksX3_isComplete_1 7 rfl rfl)
theorem dX3_isComplete_32 : decode cX3_isComplete 32 = .ok (.istore_n 1, 1) := dk_60 (dk_at dksX3_isComplete_1 10 rfl rfl)
theorem dX3_isComplete_33 : decode cX3_isComplete 33 = .ok (.goto (-18), 3) := dk_167 255 238 (dk_at dksX3_isComplete_1 11 rfl rfl)
theorem dX3_isComplete_36 : decode cX3_isComplete 36 = .ok (.iload_n 1, 1) := dk_27 (dk_at dksX3_isComplete_1 14 rfl rfl)
theorem dX3_isComplete_37 : decode cX3_isComplete 37 = .ok (.ifCond .eq 18, 3) := dk_153 0 18 (dk_at dksX3_isComplete_1 15 rfl rfl)
theorem dX3_isComplete_40 : decode cX3_isComplete 40 = .ok (.aload_n 0, 1) := dk_42 (dk_at dksX3_isComplete_1 18 rfl rfl)
theorem dX3_isComplete_41 : decode cX3_isComplete 41 = .ok (.getfield 150, 3) := dk_180 0 150 (dk_at dksX3_isComplete_1 19 rfl rfl)
theorem dX3_isComplete_44 : decode cX3_isComplete 44 = .ok (.aload_n 0, 1) := dk_42 (dk_at dksX3_isComplete_1 22 rfl rfl)
theorem dX3_isComplete_45 : decode cX3_isComplete 45 = .ok (.getfield 147, 3) := dk_180 0 147 (dk_at dksX3_isComplete_2 0 rfl rfl)
theorem dX3_isComplete_48 : decode cX3_isComplete 48 = .ok (.if_icmp .ne 7, 3) := dk_160 0 7 (dk_at dksX3_isComplete_2 3 rfl rfl)
theorem dX3_isComplete_51 : decode cX3_isComplete 51 = .ok (.iconst 1, 1) := dk_4 (dk_at dksX3_isComplete_2 6 rfl rfl)
theorem dX3_isComplete_52 : decode cX3_isComplete 52 = .ok (.goto 4, 3) := dk_167 0 4 (dk_at dksX3_isComplete_2 7 rfl rfl)
theorem dX3_isComplete_55 : decode cX3_isComplete 55 = .ok (.iconst 0, 1) := dk_3 (dk_at dksX3_isComplete_2 10 rfl rfl)
theorem dX3_isComplete_56 : decode cX3_isComplete 56 = .ok (.ireturn, 1) := dk_172 (dk_at dksX3_isComplete_2 11 rfl rfl)
abbrev cX3_readOrder : ByteArray := prog_11_method_53_code
def yX3_readOrder : MethodName := ⟨RX3, "readOrder", "()Z"⟩
def dkwX3_readOrder_5 : List UInt8 := [180, 0, 162, 4, 96, 181, 0, 162, 4, 172]
abbrev dktX3_readOrder_5 : List UInt8 := dkwX3_readOrder_5 ++ []
def dkwX3_readOrder_4 : List UInt8 := [180, 0, 29, 42, 180, 0, 162, 27, 79, 42, 180, 0, 35, 42, 180, 0, 162, 42, 180, 0, 156, 79, 42, 89]
abbrev dktX3_readOrder_4 : List UInt8 := dkwX3_readOrder_4 ++ dktX3_readOrder_5
def dkwX3_readOrder_3 : List UInt8 := [4, 167, 0, 4, 3, 96, 181, 0, 150, 28, 153, 0, 11, 42, 27, 182, 0, 168, 154, 0, 5, 3, 172, 42]
abbrev dktX3_readOrder_3 : List UInt8 := dkwX3_readOrder_3 ++ dktX3_readOrder_4
def dkwX3_readOrder_2 : List UInt8 := [159, 0, 9, 27, 16, 114, 160, 0, 7, 4, 167, 0, 4, 3, 61, 42, 89, 180, 0, 150, 28, 153, 0, 7]
abbrev dktX3_readOrder_2 : List UInt8 := dkwX3_readOrder_2 ++ dktX3_readOrder_3
def dkwX3_readOrder_1 : List UInt8 := [60, 27, 16, 98, 159, 0, 27, 27, 16, 119, 159, 0, 21, 27, 16, 117, 159, 0, 15, 27, 16, 104]
abbrev dktX3_readOrder_1 : List UInt8 := dkwX3_readOrder_1 ++ dktX3_readOrder_2
def dkwX3_readOrder_0 : List UInt8 := [42, 180, 0, 150, 42, 180, 0, 147, 162, 0, 15, 42, 180, 0, 26, 42, 180, 0, 150, 46, 167, 0, 4, 3]
abbrev dktX3_readOrder_0 : List UInt8 := dkwX3_readOrder_0 ++ dktX3_readOrder_1
theorem dksX3_readOrder_0 : cX3_readOrder.data.toList.drop 0 = dktX3_readOrder_0 := by decide +kernel
theorem dksX3_readOrder_1 : cX3_readOrder.data.toList.drop 24 = dktX3_readOrder_1 := dk_seg dksX3_readOrder_0 24 rfl rfl
theorem dksX3_readOrder_2 : cX3_readOrder.data.toList.drop 46 = dktX3_readOrder_2 := dk_seg dksX3_readOrder_1 22 rfl rfl
theorem dksX3_readOrder_3 : cX3_readOrder.data.toList.drop 70 = dktX3_readOrder_3 := dk_seg dksX3_readOrder_2 24 rfl rfl
theorem dksX3_readOrder_4 : cX3_readOrder.data.toList.drop 94 = dktX3_readOrder_4 := dk_seg dksX3_readOrder_3 24 rfl rfl
theorem dksX3_readOrder_5 : cX3_readOrder.data.toList.drop 118 = dktX3_readOrder_5 := dk_seg dksX3_readOrder_4 24 rfl rfl
theorem dX3_readOrder_0 : decode cX3_readOrder 0 = .ok (.aload_n 0, 1) := dk_42 (dk_at dksX3_readOrder_0 0 rfl rfl)
theorem dX3_readOrder_1 : decode cX3_readOrder 1 = .ok (.getfield 150, 3) := dk_180 0 150 (dk_at dksX3_readOrder_0 1 rfl rfl)
theorem dX3_readOrder_4 : decode cX3_readOrder 4 = .ok (.aload_n 0, 1) := dk_42 (dk_at dksX3_readOrder_0 4 rfl rfl)
theorem dX3_readOrder_5 : decode cX3_readOrder 5 = .ok (.getfield 147, 3) := dk_180 0 147 (dk_at dksX3_readOrder_0 5 rfl rfl)
theorem dX3_readOrder_8 : decode cX3_readOrder 8 = .ok (.if_icmp .ge 15, 3) := dk_162 0 15 (dk_at dksX3_readOrder_0 8 rfl rfl)
theorem dX3_readOrder_11 : decode cX3_readOrder 11 = .ok (.aload_n 0, 1) := dk_42 (dk_at dksX3_readOrder_0 11 rfl rfl)
theorem dX3_readOrder_12 : decode cX3_readOrder 12 = .ok (.getfield 26, 3) := dk_180 0 26 (dk_at dksX3_readOrder_0 12 rfl rfl)
theorem dX3_readOrder_15 : decode cX3_readOrder 15 = .ok (.aload_n 0, 1) := dk_42 (dk_at dksX3_readOrder_0 15 rfl rfl)
theorem dX3_readOrder_16 : decode cX3_readOrder 16 = .ok (.getfield 150, 3) := dk_180 0 150 (dk_at dksX3_readOrder_0 16 rfl rfl)
theorem dX3_readOrder_19 : decode cX3_readOrder 19 = .ok (.iaload, 1) := dk_46 (dk_at dksX3_readOrder_0 19 rfl rfl)
theorem dX3_readOrder_20 : decode cX3_readOrder 20 = .ok (.goto 4, 3) := dk_167 0 4 (dk_at dksX3_readOrder_0 20 rfl rfl)
theorem dX3_readOrder_23 : decode cX3_readOrder 23 = .ok (.iconst 0, 1) := dk_3 (dk_at dksX3_readOrder_0 23 rfl rfl)
theorem dX3_readOrder_24 : decode cX3_readOrder 24 = .ok (.istore_n 1, 1) := dk_60 (dk_at dksX3_readOrder_1 0 rfl rfl)
theorem dX3_readOrder_25 : decode cX3_readOrder 25 = .ok (.iload_n 1, 1) := dk_27 (dk_at dksX3_readOrder_1 1 rfl rfl)
theorem dX3_readOrder_26 : decode cX3_readOrder 26 = .ok (.bipush 98, 2) := dk_16 98 (dk_at dksX3_readOrder_1 2 rfl rfl)
theorem dX3_readOrder_28 : decode cX3_readOrder 28 = .ok (.if_icmp .eq 27, 3) := dk_159 0 27 (dk_at dksX3_readOrder_1 4 rfl rfl)
theorem dX3_readOrder_31 : decode cX3_readOrder 31 = .ok (.iload_n 1, 1) := dk_27 (dk_at dksX3_readOrder_1 7 rfl rfl)
theorem dX3_readOrder_32 : decode cX3_readOrder 32 = .ok (.bipush 119, 2) := dk_16 119 (dk_at dksX3_readOrder_1 8 rfl rfl)
theorem dX3_readOrder_34 : decode cX3_readOrder 34 = .ok (.if_icmp .eq 21, 3) := dk_159 0 21 (dk_at dksX3_readOrder_1 10 rfl rfl)
theorem dX3_readOrder_37 : decode cX3_readOrder 37 = .ok (.iload_n 1, 1) := dk_27 (dk_at dksX3_readOrder_1 13 rfl rfl)
theorem dX3_readOrder_38 : decode cX3_readOrder 38 = .ok (.bipush 117, 2) := dk_16 117 (dk_at dksX3_readOrder_1 14 rfl rfl)
theorem dX3_readOrder_40 : decode cX3_readOrder 40 = .ok (.if_icmp .eq 15, 3) := dk_159 0 15 (dk_at dksX3_readOrder_1 16 rfl rfl)
theorem dX3_readOrder_43 : decode cX3_readOrder 43 = .ok (.iload_n 1, 1) := dk_27 (dk_at dksX3_readOrder_1 19 rfl rfl)
theorem dX3_readOrder_44 : decode cX3_readOrder 44 = .ok (.bipush 104, 2) := dk_16 104 (dk_at dksX3_readOrder_1 20 rfl rfl)
theorem dX3_readOrder_46 : decode cX3_readOrder 46 = .ok (.if_icmp .eq 9, 3) := dk_159 0 9 (dk_at dksX3_readOrder_2 0 rfl rfl)
theorem dX3_readOrder_49 : decode cX3_readOrder 49 = .ok (.iload_n 1, 1) := dk_27 (dk_at dksX3_readOrder_2 3 rfl rfl)
theorem dX3_readOrder_50 : decode cX3_readOrder 50 = .ok (.bipush 114, 2) := dk_16 114 (dk_at dksX3_readOrder_2 4 rfl rfl)
theorem dX3_readOrder_52 : decode cX3_readOrder 52 = .ok (.if_icmp .ne 7, 3) := dk_160 0 7 (dk_at dksX3_readOrder_2 6 rfl rfl)
theorem dX3_readOrder_55 : decode cX3_readOrder 55 = .ok (.iconst 1, 1) := dk_4 (dk_at dksX3_readOrder_2 9 rfl rfl)
theorem dX3_readOrder_56 : decode cX3_readOrder 56 = .ok (.goto 4, 3) := dk_167 0 4 (dk_at dksX3_readOrder_2 10 rfl rfl)
theorem dX3_readOrder_59 : decode cX3_readOrder 59 = .ok (.iconst 0, 1) := dk_3 (dk_at dksX3_readOrder_2 13 rfl rfl)
theorem dX3_readOrder_60 : decode cX3_readOrder 60 = .ok (.istore_n 2, 1) := dk_61 (dk_at dksX3_readOrder_2 14 rfl rfl)
theorem dX3_readOrder_61 : decode cX3_readOrder 61 = .ok (.aload_n 0, 1) := dk_42 (dk_at dksX3_readOrder_2 15 rfl rfl)
theorem dX3_readOrder_62 : decode cX3_readOrder 62 = .ok (.dup, 1) := dk_89 (dk_at dksX3_readOrder_2 16 rfl rfl)
theorem dX3_readOrder_63 : decode cX3_readOrder 63 = .ok (.getfield 150, 3) := dk_180 0 150 (dk_at dksX3_readOrder_2 17 rfl rfl)
theorem dX3_readOrder_66 : decode cX3_readOrder 66 = .ok (.iload_n 2, 1) := dk_28 (dk_at dksX3_readOrder_2 20 rfl rfl)
theorem dX3_readOrder_67 : decode cX3_readOrder 67 = .ok (.ifCond .eq 7, 3) := dk_153 0 7 (dk_at dksX3_readOrder_2 21 rfl rfl)
theorem dX3_readOrder_70 : decode cX3_readOrder 70 = .ok (.iconst 1, 1) := dk_4 (dk_at dksX3_readOrder_3 0 rfl rfl)
theorem dX3_readOrder_71 : decode cX3_readOrder 71 = .ok (.goto 4, 3) := dk_167 0 4 (dk_at dksX3_readOrder_3 1 rfl rfl)
theorem dX3_readOrder_74 : decode cX3_readOrder 74 = .ok (.iconst 0, 1) := dk_3 (dk_at dksX3_readOrder_3 4 rfl rfl)
theorem dX3_readOrder_75 : decode cX3_readOrder 75 = .ok (.iadd, 1) := dk_96 (dk_at dksX3_readOrder_3 5 rfl rfl)
theorem dX3_readOrder_76 : decode cX3_readOrder 76 = .ok (.putfield 150, 3) := dk_181 0 150 (dk_at dksX3_readOrder_3 6 rfl rfl)
theorem dX3_readOrder_79 : decode cX3_readOrder 79 = .ok (.iload_n 2, 1) := dk_28 (dk_at dksX3_readOrder_3 9 rfl rfl)
theorem dX3_readOrder_80 : decode cX3_readOrder 80 = .ok (.ifCond .eq 11, 3) := dk_153 0 11 (dk_at dksX3_readOrder_3 10 rfl rfl)
theorem dX3_readOrder_83 : decode cX3_readOrder 83 = .ok (.aload_n 0, 1) := dk_42 (dk_at dksX3_readOrder_3 13 rfl rfl)
theorem dX3_readOrder_84 : decode cX3_readOrder 84 = .ok (.iload_n 1, 1) := dk_27 (dk_at dksX3_readOrder_3 14 rfl rfl)
theorem dX3_readOrder_85 : decode cX3_readOrder 85 = .ok (.invokevirtual 168, 3) := dk_182 0 168 (dk_at dksX3_readOrder_3 15 rfl rfl)
theorem dX3_readOrder_88 : decode cX3_readOrder 88 = .ok (.ifCond .ne 5, 3) := dk_154 0 5 (dk_at dksX3_readOrder_3 18 rfl rfl)
theorem dX3_readOrder_91 : decode cX3_readOrder 91 = .ok (.iconst 0, 1) := dk_3 (dk_at dksX3_readOrder_3 21 rfl rfl)
theorem dX3_readOrder_92 : decode cX3_readOrder 92 = .ok (.ireturn, 1) := dk_172 (dk_at dksX3_readOrder_3 22 rfl rfl)
theorem dX3_readOrder_93 : decode cX3_readOrder 93 = .ok (.aload_n 0, 1) := dk_42 (dk_at dksX3_readOrder_3 23 rfl rfl)
theorem dX3_readOrder_94 : decode cX3_readOrder 94 = .ok (.getfield 29, 3) := dk_180 0 29 (dk_at dksX3_readOrder_4 0 rfl rfl)
theorem dX3_readOrder_97 : decode cX3_readOrder 97 = .ok (.aload_n 0, 1) := dk_42 (dk_at dksX3_readOrder_4 3 rfl rfl)
theorem dX3_readOrder_98 : decode cX3_readOrder 98 = .ok (.getfield 162, 3) := dk_180 0 162 (dk_at dksX3_readOrder_4 4 rfl rfl)
theorem dX3_readOrder_101 : decode cX3_readOrder 101 = .ok (.iload_n 1, 1) := dk_27 (dk_at dksX3_readOrder_4 7 rfl rfl)
theorem dX3_readOrder_102 : decode cX3_readOrder 102 = .ok (.iastore, 1) := dk_79 (dk_at dksX3_readOrder_4 8 rfl rfl)
theorem dX3_readOrder_103 : decode cX3_readOrder 103 = .ok (.aload_n 0, 1) := dk_42 (dk_at dksX3_readOrder_4 9 rfl rfl)
theorem dX3_readOrder_104 : decode cX3_readOrder 104 = .ok (.getfield 35, 3) := dk_180 0 35 (dk_at dksX3_readOrder_4 10 rfl rfl)
theorem dX3_readOrder_107 : decode cX3_readOrder 107 = .ok (.aload_n 0, 1) := dk_42 (dk_at dksX3_readOrder_4 13 rfl rfl)
theorem dX3_readOrder_108 : decode cX3_readOrder 108 = .ok (.getfield 162, 3) := dk_180 0 162 (dk_at dksX3_readOrder_4 14 rfl rfl)
theorem dX3_readOrder_111 : decode cX3_readOrder 111 = .ok (.aload_n 0, 1) := dk_42 (dk_at dksX3_readOrder_4 17 rfl rfl)
theorem dX3_readOrder_112 : decode cX3_readOrder 112 = .ok (.getfield 156, 3) := dk_180 0 156 (dk_at dksX3_readOrder_4 18 rfl rfl)
theorem dX3_readOrder_115 : decode cX3_readOrder 115 = .ok (.iastore, 1) := dk_79 (dk_at dksX3_readOrder_4 21 rfl rfl)
theorem dX3_readOrder_116 : decode cX3_readOrder 116 = .ok (.aload_n 0, 1) := dk_42 (dk_at dksX3_readOrder_4 22 rfl rfl)
theorem dX3_readOrder_117 : decode cX3_readOrder 117 = .ok (.dup, 1) := dk_89 (dk_at dksX3_readOrder_4 23 rfl rfl)
theorem dX3_readOrder_118 : decode cX3_readOrder 118 = .ok (.getfield 162, 3) := dk_180 0 162 (dk_at dksX3_readOrder_5 0 rfl rfl)
theorem dX3_readOrder_121 : decode cX3_readOrder 121 = .ok (.iconst 1, 1) := dk_4 (dk_at dksX3_readOrder_5 3 rfl rfl)
theorem dX3_readOrder_122 : decode cX3_readOrder 122 = .ok (.iadd, 1) := dk_96 (dk_at dksX3_readOrder_5 4 rfl rfl)
theorem dX3_readOrder_123 : decode cX3_readOrder 123 = .ok (.putfield 162, 3) := dk_181 0 162 (dk_at dksX3_readOrder_5 5 rfl rfl)
theorem dX3_readOrder_126 : decode cX3_readOrder 126 = .ok (.iconst 1, 1) := dk_4 (dk_at dksX3_readOrder_5 8 rfl rfl)
theorem dX3_readOrder_127 : decode cX3_readOrder 127 = .ok (.ireturn, 1) := dk_172 (dk_at dksX3_readOrder_5 9 rfl rfl)
abbrev cX3_readNumbers : ByteArray := prog_11_method_52_code
def yX3_readNumbers : MethodName := ⟨RX3, "readNumbers", "(I)Z"⟩
def dkwX3_readNumbers_7 : List UInt8 := [42, 4, 16, 60, 182, 0, 159, 172, 3, 172]
abbrev dktX3_readNumbers_7 : List UInt8 := dkwX3_readNumbers_7 ++ []
def dkwX3_readNumbers_6 : List UInt8 := [16, 44, 182, 0, 165, 153, 0, 17, 42, 4, 16, 60, 182, 0, 159, 153, 0, 7, 4, 167, 0, 4, 3, 172]
abbrev dktX3_readNumbers_6 : List UInt8 := dkwX3_readNumbers_6 ++ dktX3_readNumbers_7
def dkwX3_readNumbers_5 : List UInt8 := [16, 19, 182, 0, 159, 154, 0, 5, 3, 172, 42, 180, 0, 32, 42, 180, 0, 162, 42, 180, 0, 156, 79, 42]
abbrev dktX3_readNumbers_5 : List UInt8 := dkwX3_readNumbers_5 ++ dktX3_readNumbers_6
def dkwX3_readNumbers_4 : List UInt8 := [16, 19, 182, 0, 159, 153, 0, 7, 4, 167, 0, 4, 3, 172, 42, 3, 5, 182, 0, 159, 172, 42, 3]
abbrev dktX3_readNumbers_4 : List UInt8 := dkwX3_readNumbers_4 ++ dktX3_readNumbers_5
def dkwX3_readNumbers_3 : List UInt8 := [180, 0, 32, 42, 180, 0, 162, 42, 180, 0, 156, 79, 42, 16, 43, 182, 0, 165, 153, 0, 17, 42, 3]
abbrev dktX3_readNumbers_3 : List UInt8 := dkwX3_readNumbers_3 ++ dktX3_readNumbers_4
def dkwX3_readNumbers_2 : List UInt8 := [42, 17, 1, 244, 18, 112, 182, 0, 159, 172, 42, 3, 5, 182, 0, 159, 154, 0, 5, 3, 172, 42]
abbrev dktX3_readNumbers_2 : List UInt8 := dkwX3_readNumbers_2 ++ dktX3_readNumbers_3
def dkwX3_readNumbers_1 : List UInt8 := [171, 0, 0, 0, 0, 0, 175, 0, 0, 0, 5, 0, 0, 0, 98, 0, 0, 0, 51, 0, 0, 0, 104, 0, 0, 0, 117, 0, 0, 0, 114, 0, 0, 0, 167, 0, 0, 0, 117, 0, 0, 0, 110, 0, 0, 0, 119, 0, 0, 0, 61]
abbrev dktX3_readNumbers_1 : List UInt8 := dkwX3_readNumbers_1 ++ dktX3_readNumbers_2
def dkwX3_readNumbers_0 : List UInt8 := [27]
abbrev dktX3_readNumbers_0 : List UInt8 := dkwX3_readNumbers_0 ++ dktX3_readNumbers_1
theorem dksX3_readNumbers_0 : cX3_readNumbers.data.toList.drop 0 = dktX3_readNumbers_0 := by decide +kernel
theorem dksX3_readNumbers_1 : cX3_readNumbers.data.toList.drop 1 = dktX3_readNumbers_1 := dk_seg dksX3_readNumbers_0 1 rfl rfl
theorem dksX3_readNumbers_2 : cX3_readNumbers.data.toList.drop 52 = dktX3_readNumbers_2 := dk_seg dksX3_readNumbers_1 51 rfl rfl
theorem dksX3_readNumbers_3 : cX3_readNumbers.data.toList.drop 74 = dktX3_readNumbers_3 := dk_seg dksX3_readNumbers_2 22 rfl rfl
theorem dksX3_readNumbers_4 : cX3_readNumbers.data.toList.drop 97 = dktX3_readNumbers_4 := dk_seg dksX3_readNumbers_3 23 rfl rfl
theorem dksX3_readNumbers_5 : cX3_readNumbers.data.toList.drop 120 = dktX3_readNumbers_5 := dk_seg dksX3_readNumbers_4 23 rfl rfl
theorem dksX3_readNumbers_6 : cX3_readNumbers.data.toList.drop 144 = dktX3_readNumbers_6 := dk_seg dksX3_readNumbers_5 24 rfl rfl
theorem dksX3_readNumbers_7 : cX3_readNumbers.data.toList.drop 168 = dktX3_readNumbers_7 := dk_seg dksX3_readNumbers_6 24 rfl rfl
theorem dX3_readNumbers_0 : decode cX3_readNumbers 0 = .ok (.iload_n 1, 1) := dk_27 (dk_at dksX3_readNumbers_0 0 rfl rfl)
theorem dX3_readNumbers_1 : decode cX3_readNumbers 1 = .ok (.lookupswitch 175 #[(98, 51), (104, 117), (114, 167), (117, 110), (119, 61)], 51) := by decide +kernel
theorem dX3_readNumbers_52 : decode cX3_readNumbers 52 = .ok (.aload_n 0, 1) := dk_42 (dk_at dksX3_readNumbers_2 0 rfl rfl)
theorem dX3_readNumbers_53 : decode cX3_readNumbers 53 = .ok (.sipush 500, 3) := dk_17 1 244 (dk_at dksX3_readNumbers_2 1 rfl rfl)
theorem dX3_readNumbers_56 : decode cX3_readNumbers 56 = .ok (.ldc 112, 2) := dk_18 112 (dk_at dksX3_readNumbers_2 4 rfl rfl)
theorem dX3_readNumbers_58 : decode cX3_readNumbers 58 = .ok (.invokevirtual 159, 3) := dk_182 0 159 (dk_at dksX3_readNumbers_2 6 rfl rfl)
theorem dX3_readNumbers_61 : decode cX3_readNumbers 61 = .ok (.ireturn, 1) := dk_172 (dk_at dksX3_readNumbers_2 9 rfl rfl)
theorem dX3_readNumbers_62 : decode cX3_readNumbers 62 = .ok (.aload_n 0, 1) := dk_42 (dk_at dksX3_readNumbers_2 10 rfl rfl)
theorem dX3_readNumbers_63 : decode cX3_readNumbers 63 = .ok (.iconst 0, 1) := dk_3 (dk_at dksX3_readNumbers_2 11 rfl rfl)
theorem dX3_readNumbers_64 : decode cX3_readNumbers 64 = .ok (.iconst 2, 1) := dk_5 (dk_at dksX3_readNumbers_2 12 rfl rfl)
theorem dX3_readNumbers_65 : decode cX3_readNumbers 65 = .ok (.invokevirtual 159, 3) := dk_182 0 159 (dk_at dksX3_readNumbers_2 13 rfl rfl)
theorem dX3_readNumbers_68 : decode cX3_readNumbers 68 = .ok (.ifCond .ne 5, 3) := dk_154 0 5 (dk_at dksX3_readNumbers_2 16 rfl rfl)
theorem dX3_readNumbers_71 : decode cX3_readNumbers 71 = .ok (.iconst 0, 1) := dk_3 (dk_at dksX3_readNumbers_2 19 rfl rfl)
theorem dX3_readNumbers_72 : decode cX3_readNumbers 72 = .ok (.ireturn, 1) := dk_172 (dk_at dksX3_readNumbers_2 20 rfl rfl)
theorem dX3_readNumbers_73 : decode cX3_readNumbers 73 = .ok (.aload_n 0, 1) := dk_42 (dk_at dksX3_readNumbers_2 21 rfl rfl)
theorem dX3_readNumbers_74 : decode cX3_readNumbers 74 = .ok (.getfield 32, 3) := dk_180 0 32 (dk_at dksX3_readNumbers_3 0 rfl rfl)
theorem dX3_readNumbers_77 : decode cX3_readNumbers 77 = .ok (.aload_n 0, 1) := dk_42 (dk_at dksX3_readNumbers_3 3 rfl rfl)
theorem dX3_readNumbers_78 : decode cX3_readNumbers 78 = .ok (.getfield 162, 3) := dk_180 0 162 (dk_at dksX3_readNumbers_3 4 rfl rfl)
theorem dX3_readNumbers_81 : decode cX3_readNumbers 81 = .ok (.aload_n 0, 1) := dk_42 (dk_at dksX3_readNumbers_3 7 rfl rfl)
theorem dX3_readNumbers_82 : decode cX3_readNumbers 82 = .ok (.getfield 156, 3) := dk_180 0 156 (dk_at dksX3_readNumbers_3 8 rfl rfl)
theorem dX3_readNumbers_85 : decode cX3_readNumbers 85 = .ok (.iastore, 1) := dk_79 (dk_at dksX3_readNumbers_3 11 rfl rfl)
theorem dX3_readNumbers_86 : decode cX3_readNumbers 86 = .ok (.aload_n 0, 1) := dk_42 (dk_at dksX3_readNumbers_3 12 rfl rfl)
theorem dX3_readNumbers_87 : decode cX3_readNumbers 87 = .ok (.bipush 43, 2) := dk_16 43 (dk_at dksX3_readNumbers_3 13 rfl rfl)
theorem dX3_readNumbers_89 : decode cX3_readNumbers 89 = .ok (.invokevirtual 165, 3) := dk_182 0 165 (dk_at dksX3_readNumbers_3 15 rfl rfl)
theorem dX3_readNumbers_92 : decode cX3_readNumbers 92 = .ok (.ifCond .eq 17, 3) := dk_153 0 17 (dk_at dksX3_readNumbers_3 18 rfl rfl)
theorem dX3_readNumbers_95 : decode cX3_readNumbers 95 = .ok (.aload_n 0, 1) := dk_42 (dk_at dksX3_readNumbers_3 21 rfl rfl)
theorem dX3_readNumbers_96 : decode cX3_readNumbers 96 = .ok (.iconst 0, 1) := dk_3 (dk_at dksX3_readNumbers_3 22 rfl rfl)
theorem dX3_readNumbers_97 : decode cX3_readNumbers 97 = .ok (.bipush 19, 2) := dk_16 19 (dk_at dksX3_readNumbers_4 0 rfl rfl)
theorem dX3_readNumbers_99 : decode cX3_readNumbers 99 = .ok (.invokevirtual 159, 3) := dk_182 0 159 (dk_at dksX3_readNumbers_4 2 rfl rfl)
theorem dX3_readNumbers_102 : decode cX3_readNumbers 102 = .ok (.ifCond .eq 7, 3) := dk_153 0 7 (dk_at dksX3_readNumbers_4 5 rfl rfl)
theorem dX3_readNumbers_105 : decode cX3_readNumbers 105 = .ok (.iconst 1, 1) := dk_4 (dk_at dksX3_readNumbers_4 8 rfl rfl)
theorem dX3_readNumbers_106 : decode cX3_readNumbers 106 = .ok (.goto 4, 3) := dk_167 0 4 (dk_at dksX3_readNumbers_4 9 rfl rfl)
theorem dX3_readNumbers_109 : decode cX3_readNumbers 109 = .ok (.iconst 0, 1) := dk_3 (dk_at dksX3_readNumbers_4 12 rfl rfl)
theorem dX3_readNumbers_110 : decode cX3_readNumbers 110 = .ok (.ireturn, 1) := dk_172 (dk_at dksX3_readNumbers_4 13 rfl rfl)
theorem dX3_readNumbers_111 : decode cX3_readNumbers 111 = .ok (.aload_n 0, 1) := dk_42 (dk_at dksX3_readNumbers_4 14 rfl rfl)
theorem dX3_readNumbers_112 : decode cX3_readNumbers 112 = .ok (.iconst 0, 1) := dk_3 (dk_at dksX3_readNumbers_4 15 rfl rfl)
theorem dX3_readNumbers_113 : decode cX3_readNumbers 113 = .ok (.iconst 2, 1) := dk_5 (dk_at dksX3_readNumbers_4 16 rfl rfl)
theorem dX3_readNumbers_114 : decode cX3_readNumbers 114 = .ok (.invokevirtual 159, 3) := dk_182 0 159 (dk_at dksX3_readNumbers_4 17 rfl rfl)
theorem dX3_readNumbers_117 : decode cX3_readNumbers 117 = .ok (.ireturn, 1) := dk_172 (dk_at dksX3_readNumbers_4 20 rfl rfl)
theorem dX3_readNumbers_118 : decode cX3_readNumbers 118 = .ok (.aload_n 0, 1) := dk_42 (dk_at dksX3_readNumbers_4 21 rfl rfl)
theorem dX3_readNumbers_119 : decode cX3_readNumbers 119 = .ok (.iconst 0, 1) := dk_3 (dk_at dksX3_readNumbers_4 22 rfl rfl)
theorem dX3_readNumbers_120 : decode cX3_readNumbers 120 = .ok (.bipush 19, 2) := dk_16 19 (dk_at dksX3_readNumbers_5 0 rfl rfl)
theorem dX3_readNumbers_122 : decode cX3_readNumbers 122 = .ok (.invokevirtual 159, 3) := dk_182 0 159 (dk_at dksX3_readNumbers_5 2 rfl rfl)
theorem dX3_readNumbers_125 : decode cX3_readNumbers 125 = .ok (.ifCond .ne 5, 3) := dk_154 0 5 (dk_at dksX3_readNumbers_5 5 rfl rfl)
theorem dX3_readNumbers_128 : decode cX3_readNumbers 128 = .ok (.iconst 0, 1) := dk_3 (dk_at dksX3_readNumbers_5 8 rfl rfl)
theorem dX3_readNumbers_129 : decode cX3_readNumbers 129 = .ok (.ireturn, 1) := dk_172 (dk_at dksX3_readNumbers_5 9 rfl rfl)
theorem dX3_readNumbers_130 : decode cX3_readNumbers 130 = .ok (.aload_n 0, 1) := dk_42 (dk_at dksX3_readNumbers_5 10 rfl rfl)
theorem dX3_readNumbers_131 : decode cX3_readNumbers 131 = .ok (.getfield 32, 3) := dk_180 0 32 (dk_at dksX3_readNumbers_5 11 rfl rfl)
theorem dX3_readNumbers_134 : decode cX3_readNumbers 134 = .ok (.aload_n 0, 1) := dk_42 (dk_at dksX3_readNumbers_5 14 rfl rfl)
theorem dX3_readNumbers_135 : decode cX3_readNumbers 135 = .ok (.getfield 162, 3) := dk_180 0 162 (dk_at dksX3_readNumbers_5 15 rfl rfl)
theorem dX3_readNumbers_138 : decode cX3_readNumbers 138 = .ok (.aload_n 0, 1) := dk_42 (dk_at dksX3_readNumbers_5 18 rfl rfl)
theorem dX3_readNumbers_139 : decode cX3_readNumbers 139 = .ok (.getfield 156, 3) := dk_180 0 156 (dk_at dksX3_readNumbers_5 19 rfl rfl)
theorem dX3_readNumbers_142 : decode cX3_readNumbers 142 = .ok (.iastore, 1) := dk_79 (dk_at dksX3_readNumbers_5 22 rfl rfl)
theorem dX3_readNumbers_143 : decode cX3_readNumbers 143 = .ok (.aload_n 0, 1) := dk_42 (dk_at dksX3_readNumbers_5 23 rfl rfl)
theorem dX3_readNumbers_144 : decode cX3_readNumbers 144 = .ok (.bipush 44, 2) := dk_16 44 (dk_at dksX3_readNumbers_6 0 rfl rfl)
theorem dX3_readNumbers_146 : decode cX3_readNumbers 146 = .ok (.invokevirtual 165, 3) := dk_182 0 165 (dk_at dksX3_readNumbers_6 2 rfl rfl)
theorem dX3_readNumbers_149 : decode cX3_readNumbers 149 = .ok (.ifCond .eq 17, 3) := dk_153 0 17 (dk_at dksX3_readNumbers_6 5 rfl rfl)
theorem dX3_readNumbers_152 : decode cX3_readNumbers 152 = .ok (.aload_n 0, 1) := dk_42 (dk_at dksX3_readNumbers_6 8 rfl rfl)
theorem dX3_readNumbers_153 : decode cX3_readNumbers 153 = .ok (.iconst 1, 1) := dk_4 (dk_at dksX3_readNumbers_6 9 rfl rfl)
theorem dX3_readNumbers_154 : decode cX3_readNumbers 154 = .ok (.bipush 60, 2) := dk_16 60 (dk_at dksX3_readNumbers_6 10 rfl rfl)
theorem dX3_readNumbers_156 : decode cX3_readNumbers 156 = .ok (.invokevirtual 159, 3) := dk_182 0 159 (dk_at dksX3_readNumbers_6 12 rfl rfl)
theorem dX3_readNumbers_159 : decode cX3_readNumbers 159 = .ok (.ifCond .eq 7, 3) := dk_153 0 7 (dk_at dksX3_readNumbers_6 15 rfl rfl)
theorem dX3_readNumbers_162 : decode cX3_readNumbers 162 = .ok (.iconst 1, 1) := dk_4 (dk_at dksX3_readNumbers_6 18 rfl rfl)
theorem dX3_readNumbers_163 : decode cX3_readNumbers 163 = .ok (.goto 4, 3) := dk_167 0 4 (dk_at dksX3_readNumbers_6 19 rfl rfl)
theorem dX3_readNumbers_166 : decode cX3_readNumbers 166 = .ok (.iconst 0, 1) := dk_3 (dk_at dksX3_readNumbers_6 22 rfl rfl)
theorem dX3_readNumbers_167 : decode cX3_readNumbers 167 = .ok (.ireturn, 1) := dk_172 (dk_at dksX3_readNumbers_6 23 rfl rfl)
theorem dX3_readNumbers_168 : decode cX3_readNumbers 168 = .ok (.aload_n 0, 1) := dk_42 (dk_at dksX3_readNumbers_7 0 rfl rfl)
theorem dX3_readNumbers_169 : decode cX3_readNumbers 169 = .ok (.iconst 1, 1) := dk_4 (dk_at dksX3_readNumbers_7 1 rfl rfl)
theorem dX3_readNumbers_170 : decode cX3_readNumbers 170 = .ok (.bipush 60, 2) := dk_16 60 (dk_at dksX3_readNumbers_7 2 rfl rfl)
theorem dX3_readNumbers_172 : decode cX3_readNumbers 172 = .ok (.invokevirtual 159, 3) := dk_182 0 159 (dk_at dksX3_readNumbers_7 4 rfl rfl)
theorem dX3_readNumbers_175 : decode cX3_readNumbers 175 = .ok (.ireturn, 1) := dk_172 (dk_at dksX3_readNumbers_7 7 rfl rfl)
theorem dX3_readNumbers_176 : decode cX3_readNumbers 176 = .ok (.iconst 0, 1) := dk_3 (dk_at dksX3_readNumbers_7 8 rfl rfl)
theorem dX3_readNumbers_177 : decode cX3_readNumbers 177 = .ok (.ireturn, 1) := dk_172 (dk_at dksX3_readNumbers_7 9 rfl rfl)
abbrev cX3_reads : ByteArray := prog_11_method_51_code
def yX3_reads : MethodName := ⟨RX3, "reads", "(II)Z"⟩
def dkwX3_reads_6 : List UInt8 := [167, 255, 180, 42, 180, 0, 156, 27, 161, 0, 7, 4, 167, 0, 4, 3, 172]
abbrev dktX3_reads_6 : List UInt8 := dkwX3_reads_6 ++ []
def dkwX3_reads_5 : List UInt8 := [42, 180, 0, 150, 46, 96, 16, 48, 100, 181, 0, 156, 42, 89, 180, 0, 150, 4, 96, 181, 0, 150]
abbrev dktX3_reads_5 : List UInt8 := dkwX3_reads_5 ++ dktX3_reads_6
def dkwX3_reads_4 : List UInt8 := [180, 0, 150, 46, 96, 16, 48, 100, 28, 163, 0, 40, 42, 16, 10, 42, 180, 0, 156, 104, 42, 180, 0, 26]
abbrev dktX3_reads_4 : List UInt8 := dkwX3_reads_4 ++ dktX3_reads_5
def dkwX3_reads_3 : List UInt8 := [16, 48, 16, 57, 182, 0, 153, 153, 0, 64, 16, 10, 42, 180, 0, 156, 104, 42, 180, 0, 26, 42]
abbrev dktX3_reads_3 : List UInt8 := dkwX3_reads_3 ++ dktX3_reads_4
def dkwX3_reads_2 : List UInt8 := [16, 48, 100, 181, 0, 156, 42, 89, 180, 0, 150, 4, 96, 181, 0, 150, 42, 180, 0, 156, 158, 0, 75, 42]
abbrev dktX3_reads_2 : List UInt8 := dkwX3_reads_2 ++ dktX3_reads_3
def dkwX3_reads_1 : List UInt8 := [42, 180, 0, 150, 46, 16, 48, 100, 28, 164, 0, 5, 3, 172, 42, 42, 180, 0, 26, 42, 180, 0, 150, 46]
abbrev dktX3_reads_1 : List UInt8 := dkwX3_reads_1 ++ dktX3_reads_2
def dkwX3_reads_0 : List UInt8 := [42, 27, 158, 0, 8, 16, 49, 167, 0, 5, 16, 48, 16, 57, 182, 0, 153, 153, 0, 19, 42, 180, 0, 26]
abbrev dktX3_reads_0 : List UInt8 := dkwX3_reads_0 ++ dktX3_reads_1
theorem dksX3_reads_0 : cX3_reads.data.toList.drop 0 = dktX3_reads_0 := by decide +kernel
theorem dksX3_reads_1 : cX3_reads.data.toList.drop 24 = dktX3_reads_1 := dk_seg dksX3_reads_0 24 rfl rfl
theorem dksX3_reads_2 : cX3_reads.data.toList.drop 48 = dktX3_reads_2 := dk_seg dksX3_reads_1 24 rfl rfl
theorem dksX3_reads_3 : cX3_reads.data.toList.drop 72 = dktX3_reads_3 := dk_seg dksX3_reads_2 24 rfl rfl
theorem dksX3_reads_4 : cX3_reads.data.toList.drop 94 = dktX3_reads_4 := dk_seg dksX3_reads_3 22 rfl rfl
theorem dksX3_reads_5 : cX3_reads.data.toList.drop 118 = dktX3_reads_5 := dk_seg dksX3_reads_4 24 rfl rfl
theorem dksX3_reads_6 : cX3_reads.data.toList.drop 140 = dktX3_reads_6 := dk_seg dksX3_reads_5 22 rfl rfl
theorem dX3_reads_0 : decode cX3_reads 0 = .ok (.aload_n 0, 1) := dk_42 (dk_at dksX3_reads_0 0 rfl rfl)
theorem dX3_reads_1 : decode cX3_reads 1 = .ok (.iload_n 1, 1) := dk_27 (dk_at dksX3_reads_0 1 rfl rfl)
theorem dX3_reads_2 : decode cX3_reads 2 = .ok (.ifCond .le 8, 3) := dk_158 0 8 (dk_at dksX3_reads_0 2 rfl rfl)
theorem dX3_reads_5 : decode cX3_reads 5 = .ok (.bipush 49, 2) := dk_16 49 (dk_at dksX3_reads_0 5 rfl rfl)
theorem dX3_reads_7 : decode cX3_reads 7 = .ok (.goto 5, 3) := dk_167 0 5 (dk_at dksX3_reads_0 7 rfl rfl)
theorem dX3_reads_10 : decode cX3_reads 10 = .ok (.bipush 48, 2) := dk_16 48 (dk_at dksX3_reads_0 10 rfl rfl)
theorem dX3_reads_12 : decode cX3_reads 12 = .ok (.bipush 57, 2) := dk_16 57 (dk_at dksX3_reads_0 12 rfl rfl)
theorem dX3_reads_14 : decode cX3_reads 14 = .ok (.invokevirtual 153, 3) := dk_182 0 153 (dk_at dksX3_reads_0 14 rfl rfl)
theorem dX3_reads_17 : decode cX3_reads 17 = .ok (.ifCond .eq 19, 3) := dk_153 0 19 (dk_at dksX3_reads_0 17 rfl rfl)
theorem dX3_reads_20 : decode cX3_reads 20 = .ok (.aload_n 0, 1) := dk_42 (dk_at dksX3_reads_0 20 rfl rfl)
theorem dX3_reads_21 : decode cX3_reads 21 = .ok (.getfield 26, 3) := dk_180 0 26 (dk_at dksX3_reads_0 21 rfl rfl)
theorem dX3_reads_24 : decode cX3_reads 24 = .ok (.aload_n 0, 1) := dk_42 (dk_at dksX3_reads_1 0 rfl rfl)
theorem dX3_reads_25 : decode cX3_reads 25 = .ok (.getfield 150, 3) := dk_180 0 150 (dk_at dksX3_reads_1 1 rfl rfl)
theorem dX3_reads_28 : decode cX3_reads 28 = .ok (.iaload, 1) := dk_46 (dk_at dksX3_reads_1 4 rfl rfl)
theorem dX3_reads_29 : decode cX3_reads 29 = .ok (.bipush 48, 2) := dk_16 48 (dk_at dksX3_reads_1 5 rfl rfl)
theorem dX3_reads_31 : decode cX3_reads 31 = .ok (.isub, 1) := dk_100 (dk_at dksX3_reads_1 7 rfl rfl)
theorem dX3_reads_32 : decode cX3_reads 32 = .ok (.iload_n 2, 1) := dk_28 (dk_at dksX3_reads_1 8 rfl rfl)
theorem dX3_reads_33 : decode cX3_reads 33 = .ok (.if_icmp .le 5, 3) := dk_164 0 5 (dk_at dksX3_reads_1 9 rfl rfl)
theorem dX3_reads_36 : decode cX3_reads 36 = .ok (.iconst 0, 1) := dk_3 (dk_at dksX3_reads_1 12 rfl rfl)
theorem dX3_reads_37 : decode cX3_reads 37 = .ok (.ireturn, 1) := dk_172 (dk_at dksX3_reads_1 13 rfl rfl)
theorem dX3_reads_38 : decode cX3_reads 38 = .ok (.aload_n 0, 1) := dk_42 (dk_at dksX3_reads_1 14 rfl rfl)
theorem dX3_reads_39 : decode cX3_reads 39 = .ok (.aload_n 0, 1) := dk_42 (dk_at dksX3_reads_1 15 rfl rfl)
theorem dX3_reads_40 : decode cX3_reads 40 = .ok (.getfield 26, 3) := dk_180 0 26 (dk_at dksX3_reads_1 16 rfl rfl)
theorem dX3_reads_43 : decode cX3_reads 43 = .ok (.aload_n 0, 1) := dk_42 (dk_at dksX3_reads_1 19 rfl rfl)
theorem dX3_reads_44 : decode cX3_reads 44 = .ok (.getfield 150, 3) := dk_180 0 150 (dk_at dksX3_reads_1 20 rfl rfl)
theorem dX3_reads_47 : decode cX3_reads 47 = .ok (.iaload, 1) := dk_46 (dk_at dksX3_reads_1 23 rfl rfl)
theorem dX3_reads_48 : decode cX3_reads 48 = .ok (.bipush 48, 2) := dk_16 48 (dk_at dksX3_reads_2 0 rfl rfl)
theorem dX3_reads_50 : decode cX3_reads 50 = .ok (.isub, 1) := dk_100 (dk_at dksX3_reads_2 2 rfl rfl)
theorem dX3_reads_51 : decode cX3_reads 51 = .ok (.putfield 156, 3) := dk_181 0 156 (dk_at dksX3_reads_2 3 rfl rfl)
theorem dX3_reads_54 : decode cX3_reads 54 = .ok (.aload_n 0, 1) := dk_42 (dk_at dksX3_reads_2 6 rfl rfl)
theorem dX3_reads_55 : decode cX3_reads 55 = .ok (.dup, 1) := dk_89 (dk_at dksX3_reads_2 7 rfl rfl)
theorem dX3_reads_56 : decode cX3_reads 56 = .ok (.getfield 150, 3) := dk_180 0 150 (dk_at dksX3_reads_2 8 rfl rfl)
theorem dX3_reads_59 : decode cX3_reads 59 = .ok (.iconst 1, 1) := dk_4 (dk_at dksX3_reads_2 11 rfl rfl)
theorem dX3_reads_60 : decode cX3_reads 60 = .ok (.iadd, 1) := dk_96 (dk_at dksX3_reads_2 12 rfl rfl)
theorem dX3_reads_61 : decode cX3_reads 61 = .ok (.putfield 150, 3) := dk_181 0 150 (dk_at dksX3_reads_2 13 rfl rfl)
theorem dX3_reads_64 : decode cX3_reads 64 = .ok (.aload_n 0, 1) := dk_42 (dk_at dksX3_reads_2 16 rfl rfl)
theorem dX3_reads_65 : decode cX3_reads 65 = .ok (.getfield 156, 3) := dk_180 0 156 (dk_at dksX3_reads_2 17 rfl rfl)
theorem dX3_reads_68 : decode cX3_reads 68 = .ok (.ifCond .le 75, 3) := dk_158 0 75 (dk_at dksX3_reads_2 20 rfl rfl)
theorem dX3_reads_71 : decode cX3_reads 71 = .ok (.aload_n 0, 1) := dk_42 (dk_at dksX3_reads_2 23 rfl rfl)
theorem dX3_reads_72 : decode cX3_reads 72 = .ok (.bipush 48, 2) := dk_16 48 (dk_at dksX3_reads_3 0 rfl rfl)
theorem dX3_reads_74 : decode cX3_reads 74 = .ok (.bipush 57, 2) := dk_16 57 (dk_at dksX3_reads_3 2 rfl rfl)
theorem dX3_reads_76 : decode cX3_reads 76 = .ok (.invokevirtual 153, 3) := dk_182 0 153 (dk_at dksX3_reads_3 4 rfl rfl)
theorem dX3_reads_79 : decode cX3_reads 79 = .ok (.ifCond .eq 64, 3) := dk_153 0 64 (dk_at dksX3_reads_3 7 rfl rfl)
theorem dX3_reads_82 : decode cX3_reads 82 = .ok (.bipush 10, 2) := dk_16 10 (dk_at dksX3_reads_3 10 rfl rfl)
theorem dX3_reads_84 : decode cX3_reads 84 = .ok (.aload_n 0, 1) := dk_42 (dk_at dksX3_reads_3 12 rfl rfl)
theorem dX3_reads_85 : decode cX3_reads 85 = .ok (.getfield 156, 3) := dk_180 0 156 (dk_at dksX3_reads_3 13 rfl rfl)
theorem dX3_reads_88 : decode cX3_reads 88 = .ok (.imul, 1) := dk_104 (dk_at dksX3_reads_3 16 rfl rfl)
theorem dX3_reads_89 : decode cX3_reads 89 = .ok (.aload_n 0, 1) := dk_42 (dk_at dksX3_reads_3 17 rfl rfl)
theorem dX3_reads_90 : decode cX3_reads 90 = .ok (.getfield 26, 3) := dk_180 0 26 (dk_at dksX3_reads_3 18 rfl rfl)
theorem dX3_reads_93 : decode cX3_reads 93 = .ok (.aload_n 0, 1) := dk_42 (dk_at dksX3_reads_3 21 rfl rfl)
theorem dX3_reads_94 : decode cX3_reads 94 = .ok (.getfield 150, 3) := dk_180 0 150 (dk_at dksX3_reads_4 0 rfl rfl)
theorem dX3_reads_97 : decode cX3_reads 97 = .ok (.iaload, 1) := dk_46 (dk_at dksX3_reads_4 3 rfl rfl)
theorem dX3_reads_98 : decode cX3_reads 98 = .ok (.iadd, 1) := dk_96 (dk_at dksX3_reads_4 4 rfl rfl)
theorem dX3_reads_99 : decode cX3_reads 99 = .ok (.bipush 48, 2) := dk_16 48 (dk_at dksX3_reads_4 5 rfl rfl)
theorem dX3_reads_101 : decode cX3_reads 101 = .ok (.isub, 1) := dk_100 (dk_at dksX3_reads_4 7 rfl rfl)
theorem dX3_reads_102 : decode cX3_reads 102 = .ok (.iload_n 2, 1) := dk_28 (dk_at dksX3_reads_4 8 rfl rfl)
theorem dX3_reads_103 : decode cX3_reads 103 = .ok (.if_icmp .gt 40, 3) := dk_163 0 40 (dk_at dksX3_reads_4 9 rfl rfl)
theorem dX3_reads_106 : decode cX3_reads 106 = .ok (.aload_n 0, 1) := dk_42 (dk_at dksX3_reads_4 12 rfl rfl)
theorem dX3_reads_107 : decode cX3_reads 107 = .ok (.bipush 10, 2) := dk_16 10 (dk_at dksX3_reads_4 13 rfl rfl)
theorem dX3_reads_109 : decode cX3_reads 109 = .ok (.aload_n 0, 1) := dk_42 (dk_at dksX3_reads_4 15 rfl rfl)
theorem dX3_reads_110 : decode cX3_reads 110 = .ok (.getfield 156, 3) := dk_180 0 156 (dk_at dksX3_reads_4 16 rfl rfl)
theorem dX3_reads_113 : decode cX3_reads 113 = .ok (.imul, 1) := dk_104 (dk_at dksX3_reads_4 19 rfl rfl)
theorem dX3_reads_114 : decode cX3_reads 114 = .ok (.aload_n 0, 1) := dk_42 (dk_at dksX3_reads_4 20 rfl rfl)
theorem dX3_reads_115 : decode cX3_reads 115 = .ok (.getfield 26, 3) := dk_180 0 26 (dk_at dksX3_reads_4 21 rfl rfl)
theorem dX3_reads_118 : decode cX3_reads 118 = .ok (.aload_n 0, 1) := dk_42 (dk_at dksX3_reads_5 0 rfl rfl)
theorem dX3_reads_119 : decode cX3_reads 119 = .ok (.getfield 150, 3) := dk_180 0 150 (dk_at dksX3_reads_5 1 rfl rfl)
theorem dX3_reads_122 : decode cX3_reads 122 = .ok (.iaload, 1) := dk_46 (dk_at dksX3_reads_5 4 rfl rfl)
theorem dX3_reads_123 : decode cX3_reads 123 = .ok (.iadd, 1) := dk_96 (dk_at dksX3_reads_5 5 rfl rfl)
theorem dX3_reads_124 : decode cX3_reads 124 = .ok (.bipush 48, 2) := dk_16 48 (dk_at dksX3_reads_5 6 rfl rfl)
theorem dX3_reads_126 : decode cX3_reads 126 = .ok (.isub, 1) := dk_100 (dk_at dksX3_reads_5 8 rfl rfl)
theorem dX3_reads_127 : decode cX3_reads 127 = .ok (.putfield 156, 3) := dk_181 0 156 (dk_at dksX3_reads_5 9 rfl rfl)
theorem dX3_reads_130 : decode cX3_reads 130 = .ok (.aload_n 0, 1) := dk_42 (dk_at dksX3_reads_5 12 rfl rfl)
theorem dX3_reads_131 : decode cX3_reads 131 = .ok (.dup, 1) := dk_89 (dk_at dksX3_reads_5 13 rfl rfl)
theorem dX3_reads_132 : decode cX3_reads 132 = .ok (.getfield 150, 3) := dk_180 0 150 (dk_at dksX3_reads_5 14 rfl rfl)
theorem dX3_reads_135 : decode cX3_reads 135 = .ok (.iconst 1, 1) := dk_4 (dk_at dksX3_reads_5 17 rfl rfl)
theorem dX3_reads_136 : decode cX3_reads 136 = .ok (.iadd, 1) := dk_96 (dk_at dksX3_reads_5 18 rfl rfl)
theorem dX3_reads_137 : decode cX3_reads 137 = .ok (.putfield 150, 3) := dk_181 0 150 (dk_at dksX3_reads_5 19 rfl rfl)
theorem dX3_reads_140 : decode cX3_reads 140 = .ok (.goto (-76), 3) := dk_167 255 180 (dk_at dksX3_reads_6 0 rfl rfl)
theorem dX3_reads_143 : decode cX3_reads 143 = .ok (.aload_n 0, 1) := dk_42 (dk_at dksX3_reads_6 3 rfl rfl)
theorem dX3_reads_144 : decode cX3_reads 144 = .ok (.getfield 156, 3) := dk_180 0 156 (dk_at dksX3_reads_6 4 rfl rfl)
theorem dX3_reads_147 : decode cX3_reads 147 = .ok (.iload_n 1, 1) := dk_27 (dk_at dksX3_reads_6 7 rfl rfl)
theorem dX3_reads_148 : decode cX3_reads 148 = .ok (.if_icmp .lt 7, 3) := dk_161 0 7 (dk_at dksX3_reads_6 8 rfl rfl)
theorem dX3_reads_151 : decode cX3_reads 151 = .ok (.iconst 1, 1) := dk_4 (dk_at dksX3_reads_6 11 rfl rfl)
theorem dX3_reads_152 : decode cX3_reads 152 = .ok (.goto 4, 3) := dk_167 0 4 (dk_at dksX3_reads_6 12 rfl rfl)
theorem dX3_reads_155 : decode cX3_reads 155 = .ok (.iconst 0, 1) := dk_3 (dk_at dksX3_reads_6 15 rfl rfl)
theorem dX3_reads_156 : decode cX3_reads 156 = .ok (.ireturn, 1) := dk_172 (dk_at dksX3_reads_6 16 rfl rfl)
abbrev cX3_isAt : ByteArray := prog_11_method_49_code
def yX3_isAt : MethodName := ⟨RX3, "isAt", "(II)Z"⟩
def dkwX3_isAt_1 : List UInt8 := [184, 0, 42, 153, 0, 7, 4, 167, 0, 4, 3, 172]
abbrev dktX3_isAt_1 : List UInt8 := dkwX3_isAt_1 ++ []
def dkwX3_isAt_0 : List UInt8 := [42, 180, 0, 150, 42, 180, 0, 147, 162, 0, 24, 42, 180, 0, 26, 42, 180, 0, 150, 46, 27, 28]
abbrev dktX3_isAt_0 : List UInt8 := dkwX3_isAt_0 ++ dktX3_isAt_1
theorem dksX3_isAt_0 : cX3_isAt.data.toList.drop 0 = dktX3_isAt_0 := by decide +kernel
theorem dksX3_isAt_1 : cX3_isAt.data.toList.drop 22 = dktX3_isAt_1 := dk_seg dksX3_isAt_0 22 rfl rfl
theorem dX3_isAt_0 : decode cX3_isAt 0 = .ok (.aload_n 0, 1) := dk_42 (dk_at dksX3_isAt_0 0 rfl rfl)
theorem dX3_isAt_1 : decode cX3_isAt 1 = .ok (.getfield 150, 3) := dk_180 0 150 (dk_at dksX3_isAt_0 1 rfl rfl)
theorem dX3_isAt_4 : decode cX3_isAt 4 = .ok (.aload_n 0, 1) := dk_42 (dk_at dksX3_isAt_0 4 rfl rfl)
theorem dX3_isAt_5 : decode cX3_isAt 5 = .ok (.getfield 147, 3) := dk_180 0 147 (dk_at dksX3_isAt_0 5 rfl rfl)
theorem dX3_isAt_8 : decode cX3_isAt 8 = .ok (.if_icmp .ge 24, 3) := dk_162 0 24 (dk_at dksX3_isAt_0 8 rfl rfl)
theorem dX3_isAt_11 : decode cX3_isAt 11 = .ok (.aload_n 0, 1) := dk_42 (dk_at dksX3_isAt_0 11 rfl rfl)
theorem dX3_isAt_12 : decode cX3_isAt 12 = .ok (.getfield 26, 3) := dk_180 0 26 (dk_at dksX3_isAt_0 12 rfl rfl)
theorem dX3_isAt_15 : decode cX3_isAt 15 = .ok (.aload_n 0, 1) := dk_42 (dk_at dksX3_isAt_0 15 rfl rfl)
theorem dX3_isAt_16 : decode cX3_isAt 16 = .ok (.getfield 150, 3) := dk_180 0 150 (dk_at dksX3_isAt_0 16 rfl rfl)
theorem dX3_isAt_19 : decode cX3_isAt 19 = .ok (.iaload, 1) := dk_46 (dk_at dksX3_isAt_0 19 rfl rfl)
theorem dX3_isAt_20 : decode cX3_isAt 20 = .ok (.iload_n 1, 1) := dk_27 (dk_at dksX3_isAt_0 20 rfl rfl)
theorem dX3_isAt_21 : decode cX3_isAt 21 = .ok (.iload_n 2, 1) := dk_28 (dk_at dksX3_isAt_0 21 rfl rfl)
theorem dX3_isAt_22 : decode cX3_isAt 22 = .ok (.invokestatic 42, 3) := dk_184 0 42 (dk_at dksX3_isAt_1 0 rfl rfl)
theorem dX3_isAt_25 : decode cX3_isAt 25 = .ok (.ifCond .eq 7, 3) := dk_153 0 7 (dk_at dksX3_isAt_1 3 rfl rfl)
theorem dX3_isAt_28 : decode cX3_isAt 28 = .ok (.iconst 1, 1) := dk_4 (dk_at dksX3_isAt_1 6 rfl rfl)
theorem dX3_isAt_29 : decode cX3_isAt 29 = .ok (.goto 4, 3) := dk_167 0 4 (dk_at dksX3_isAt_1 7 rfl rfl)
theorem dX3_isAt_32 : decode cX3_isAt 32 = .ok (.iconst 0, 1) := dk_3 (dk_at dksX3_isAt_1 10 rfl rfl)
theorem dX3_isAt_33 : decode cX3_isAt 33 = .ok (.ireturn, 1) := dk_172 (dk_at dksX3_isAt_1 11 rfl rfl)
abbrev cX3_takes : ByteArray := prog_11_method_50_code
def yX3_takes : MethodName := ⟨RX3, "takes", "(I)Z"⟩
def dkwX3_takes_1 : List UInt8 := [181, 0, 150, 28, 172]
abbrev dktX3_takes_1 : List UInt8 := dkwX3_takes_1 ++ []
def dkwX3_takes_0 : List UInt8 := [42, 27, 27, 182, 0, 153, 61, 42, 89, 180, 0, 150, 28, 153, 0, 7, 4, 167, 0, 4, 3, 96]
abbrev dktX3_takes_0 : List UInt8 := dkwX3_takes_0 ++ dktX3_takes_1
theorem dksX3_takes_0 : cX3_takes.data.toList.drop 0 = dktX3_takes_0 := by decide +kernel
theorem dksX3_takes_1 : cX3_takes.data.toList.drop 22 = dktX3_takes_1 := dk_seg dksX3_takes_0 22 rfl rfl
theorem dX3_takes_0 : decode cX3_takes 0 = .ok (.aload_n 0, 1) := dk_42 (dk_at dksX3_takes_0 0 rfl rfl)
theorem dX3_takes_1 : decode cX3_takes 1 = .ok (.iload_n 1, 1) := dk_27 (dk_at dksX3_takes_0 1 rfl rfl)
theorem dX3_takes_2 : decode cX3_takes 2 = .ok (.iload_n 1, 1) := dk_27 (dk_at dksX3_takes_0 2 rfl rfl)
theorem dX3_takes_3 : decode cX3_takes 3 = .ok (.invokevirtual 153, 3) := dk_182 0 153 (dk_at dksX3_takes_0 3 rfl rfl)
theorem dX3_takes_6 : decode cX3_takes 6 = .ok (.istore_n 2, 1) := dk_61 (dk_at dksX3_takes_0 6 rfl rfl)
theorem dX3_takes_7 : decode cX3_takes 7 = .ok (.aload_n 0, 1) := dk_42 (dk_at dksX3_takes_0 7 rfl rfl)
theorem dX3_takes_8 : decode cX3_takes 8 = .ok (.dup, 1) := dk_89 (dk_at dksX3_takes_0 8 rfl rfl)
theorem dX3_takes_9 : decode cX3_takes 9 = .ok (.getfield 150, 3) := dk_180 0 150 (dk_at dksX3_takes_0 9 rfl rfl)
theorem dX3_takes_12 : decode cX3_takes 12 = .ok (.iload_n 2, 1) := dk_28 (dk_at dksX3_takes_0 12 rfl rfl)
theorem dX3_takes_13 : decode cX3_takes 13 = .ok (.ifCond .eq 7, 3) := dk_153 0 7 (dk_at dksX3_takes_0 13 rfl rfl)
theorem dX3_takes_16 : decode cX3_takes 16 = .ok (.iconst 1, 1) := dk_4 (dk_at dksX3_takes_0 16 rfl rfl)
theorem dX3_takes_17 : decode cX3_takes 17 = .ok (.goto 4, 3) := dk_167 0 4 (dk_at dksX3_takes_0 17 rfl rfl)
theorem dX3_takes_20 : decode cX3_takes 20 = .ok (.iconst 0, 1) := dk_3 (dk_at dksX3_takes_0 20 rfl rfl)
theorem dX3_takes_21 : decode cX3_takes 21 = .ok (.iadd, 1) := dk_96 (dk_at dksX3_takes_0 21 rfl rfl)
theorem dX3_takes_22 : decode cX3_takes 22 = .ok (.putfield 150, 3) := dk_181 0 150 (dk_at dksX3_takes_1 0 rfl rfl)
theorem dX3_takes_25 : decode cX3_takes 25 = .ok (.iload_n 2, 1) := dk_28 (dk_at dksX3_takes_1 3 rfl rfl)
theorem dX3_takes_26 : decode cX3_takes 26 = .ok (.ireturn, 1) := dk_172 (dk_at dksX3_takes_1 4 rfl rfl)
abbrev cX3_execute : ByteArray := prog_11_method_57_code
def yX3_execute : MethodName := ⟨RX3, "execute", "()I"⟩
def dkwX3_execute_2 : List UInt8 := [181, 0, 147, 27, 172]
abbrev dktX3_execute_2 : List UInt8 := dkwX3_execute_2 ++ []
def dkwX3_execute_1 : List UInt8 := [27, 42, 180, 0, 162, 162, 0, 17, 42, 27, 182, 0, 178, 153, 0, 9, 132, 1, 1, 167, 255, 237, 42, 3]
abbrev dktX3_execute_1 : List UInt8 := dkwX3_execute_1 ++ dktX3_execute_2
def dkwX3_execute_0 : List UInt8 := [42, 3, 181, 0, 38, 42, 182, 0, 175, 154, 0, 9, 42, 4, 182, 0, 50, 172, 42, 182, 0, 54, 3, 60]
abbrev dktX3_execute_0 : List UInt8 := dkwX3_execute_0 ++ dktX3_execute_1
theorem dksX3_execute_0 : cX3_execute.data.toList.drop 0 = dktX3_execute_0 := by decide +kernel
theorem dksX3_execute_1 : cX3_execute.data.toList.drop 24 = dktX3_execute_1 := dk_seg dksX3_execute_0 24 rfl rfl
theorem dksX3_execute_2 : cX3_execute.data.toList.drop 48 = dktX3_execute_2 := dk_seg dksX3_execute_1 24 rfl rfl
theorem dX3_execute_0 : decode cX3_execute 0 = .ok (.aload_n 0, 1) := dk_42 (dk_at dksX3_execute_0 0 rfl rfl)
theorem dX3_execute_1 : decode cX3_execute 1 = .ok (.iconst 0, 1) := dk_3 (dk_at dksX3_execute_0 1 rfl rfl)
theorem dX3_execute_2 : decode cX3_execute 2 = .ok (.putfield 38, 3) := dk_181 0 38 (dk_at dksX3_execute_0 2 rfl rfl)
theorem dX3_execute_5 : decode cX3_execute 5 = .ok (.aload_n 0, 1) := dk_42 (dk_at dksX3_execute_0 5 rfl rfl)
theorem dX3_execute_6 : decode cX3_execute 6 = .ok (.invokevirtual 175, 3) := dk_182 0 175 (dk_at dksX3_execute_0 6 rfl rfl)
theorem dX3_execute_9 : decode cX3_execute 9 = .ok (.ifCond .ne 9, 3) := dk_154 0 9 (dk_at dksX3_execute_0 9 rfl rfl)
theorem dX3_execute_12 : decode cX3_execute 12 = .ok (.aload_n 0, 1) := dk_42 (dk_at dksX3_execute_0 12 rfl rfl)
theorem dX3_execute_13 : decode cX3_execute 13 = .ok (.iconst 1, 1) := dk_4 (dk_at dksX3_execute_0 13 rfl rfl)
theorem dX3_execute_14 : decode cX3_execute 14 = .ok (.invokevirtual 50, 3) := dk_182 0 50 (dk_at dksX3_execute_0 14 rfl rfl)
theorem dX3_execute_17 : decode cX3_execute 17 = .ok (.ireturn, 1) := dk_172 (dk_at dksX3_execute_0 17 rfl rfl)
theorem dX3_execute_18 : decode cX3_execute 18 = .ok (.aload_n 0, 1) := dk_42 (dk_at dksX3_execute_0 18 rfl rfl)
theorem dX3_execute_19 : decode cX3_execute 19 = .ok (.invokevirtual 54, 3) := dk_182 0 54 (dk_at dksX3_execute_0 19 rfl rfl)
theorem dX3_execute_22 : decode cX3_execute 22 = .ok (.iconst 0, 1) := dk_3 (dk_at dksX3_execute_0 22 rfl rfl)
theorem dX3_execute_23 : decode cX3_execute 23 = .ok (.istore_n 1, 1) := dk_60 (dk_at dksX3_execute_0 23 rfl rfl)
theorem dX3_execute_24 : decode cX3_execute 24 = .ok (.iload_n 1, 1) := dk_27 (dk_at dksX3_execute_1 0 rfl rfl)
theorem dX3_execute_25 : decode cX3_execute 25 = .ok (.aload_n 0, 1) := dk_42 (dk_at dksX3_execute_1 1 rfl rfl)
theorem dX3_execute_26 : decode cX3_execute 26 = .ok (.getfield 162, 3) := dk_180 0 162 (dk_at dksX3_execute_1 2 rfl rfl)
theorem dX3_execute_29 : decode cX3_execute 29 = .ok (.if_icmp .ge 17, 3) := dk_162 0 17 (dk_at dksX3_execute_1 5 rfl rfl)
theorem dX3_execute_32 : decode cX3_execute 32 = .ok (.aload_n 0, 1) := dk_42 (dk_at dksX3_execute_1 8 rfl rfl)
theorem dX3_execute_33 : decode cX3_execute 33 = .ok (.iload_n 1, 1) := dk_27 (dk_at dksX3_execute_1 9 rfl rfl)
theorem dX3_execute_34 : decode cX3_execute 34 = .ok (.invokevirtual 178, 3) := dk_182 0 178 (dk_at dksX3_execute_1 10 rfl rfl)
theorem dX3_execute_37 : decode cX3_execute 37 = .ok (.ifCond .eq 9, 3) := dk_153 0 9 (dk_at dksX3_execute_1 13 rfl rfl)
theorem dX3_execute_40 : decode cX3_execute 40 = .ok (.iinc 1 1, 3) := dk_132 1 1 (dk_at dksX3_execute_1 16 rfl rfl)
theorem dX3_execute_43 : decode cX3_execute 43 = .ok (.goto (-19), 3) := dk_167 255 237 (dk_at dksX3_execute_1 19 rfl rfl)
theorem dX3_execute_46 : decode cX3_execute 46 = .ok (.aload_n 0, 1) := dk_42 (dk_at dksX3_execute_1 22 rfl rfl)
theorem dX3_execute_47 : decode cX3_execute 47 = .ok (.iconst 0, 1) := dk_3 (dk_at dksX3_execute_1 23 rfl rfl)
theorem dX3_execute_48 : decode cX3_execute 48 = .ok (.putfield 147, 3) := dk_181 0 147 (dk_at dksX3_execute_2 0 rfl rfl)
theorem dX3_execute_51 : decode cX3_execute 51 = .ok (.iload_n 1, 1) := dk_27 (dk_at dksX3_execute_2 3 rfl rfl)
theorem dX3_execute_52 : decode cX3_execute 52 = .ok (.ireturn, 1) := dk_172 (dk_at dksX3_execute_2 4 rfl rfl)
abbrev cX3_isDone : ByteArray := prog_11_method_56_code
def yX3_isDone : MethodName := ⟨RX3, "isDone", "(I)Z"⟩
def dkwX3_isDone_7 : List UInt8 := [155, 0, 7, 4, 167, 0, 4, 3, 172]
abbrev dktX3_isDone_7 : List UInt8 := dkwX3_isDone_7 ++ []
def dkwX3_isDone_6 : List UInt8 := [180, 0, 32, 27, 46, 28, 182, 0, 119, 155, 0, 7, 4, 167, 0, 4, 3, 172, 42, 28, 182, 0, 122]
abbrev dktX3_isDone_6 : List UInt8 := dkwX3_isDone_6 ++ dktX3_isDone_7
def dkwX3_isDone_5 : List UInt8 := [155, 0, 7, 4, 167, 0, 4, 3, 172, 42, 42, 180, 0, 32, 27, 46, 182, 0, 116, 153, 0, 21, 42, 42]
abbrev dktX3_isDone_5 : List UInt8 := dkwX3_isDone_5 ++ dktX3_isDone_6
def dkwX3_isDone_4 : List UInt8 := [154, 0, 7, 4, 167, 0, 4, 3, 172, 42, 28, 182, 0, 82, 158, 0, 15, 42, 28, 182, 0, 135]
abbrev dktX3_isDone_4 : List UInt8 := dkwX3_isDone_4 ++ dktX3_isDone_5
def dkwX3_isDone_3 : List UInt8 := [167, 0, 4, 3, 172, 42, 28, 182, 0, 116, 153, 0, 21, 42, 42, 180, 0, 32, 27, 46, 28, 182, 0, 132]
abbrev dktX3_isDone_3 : List UInt8 := dkwX3_isDone_3 ++ dktX3_isDone_4
def dkwX3_isDone_2 : List UInt8 := [42, 180, 0, 7, 16, 8, 46, 16, 20, 162, 0, 16, 42, 28, 3, 182, 0, 113, 155, 0, 7, 4]
abbrev dktX3_isDone_2 : List UInt8 := dkwX3_isDone_2 ++ dktX3_isDone_3
def dkwX3_isDone_1 : List UInt8 := [171, 0, 0, 0, 0, 0, 153, 0, 0, 0, 4, 0, 0, 0, 98, 0, 0, 0, 43, 0, 0, 0, 104, 0, 0, 0, 120, 0, 0, 0, 117, 0, 0, 0, 98, 0, 0, 0, 119, 0, 0, 0, 70]
abbrev dktX3_isDone_1 : List UInt8 := dkwX3_isDone_1 ++ dktX3_isDone_2
def dkwX3_isDone_0 : List UInt8 := [42, 180, 0, 35, 27, 46, 61, 42, 180, 0, 29, 27, 46]
abbrev dktX3_isDone_0 : List UInt8 := dkwX3_isDone_0 ++ dktX3_isDone_1
theorem dksX3_isDone_0 : cX3_isDone.data.toList.drop 0 = dktX3_isDone_0 := by decide +kernel
theorem dksX3_isDone_1 : cX3_isDone.data.toList.drop 13 = dktX3_isDone_1 := dk_seg dksX3_isDone_0 13 rfl rfl
theorem dksX3_isDone_2 : cX3_isDone.data.toList.drop 56 = dktX3_isDone_2 := dk_seg dksX3_isDone_1 43 rfl rfl
theorem dksX3_isDone_3 : cX3_isDone.data.toList.drop 78 = dktX3_isDone_3 := dk_seg dksX3_isDone_2 22 rfl rfl
theorem dksX3_isDone_4 : cX3_isDone.data.toList.drop 102 = dktX3_isDone_4 := dk_seg dksX3_isDone_3 24 rfl rfl
theorem dksX3_isDone_5 : cX3_isDone.data.toList.drop 124 = dktX3_isDone_5 := dk_seg dksX3_isDone_4 22 rfl rfl
theorem dksX3_isDone_6 : cX3_isDone.data.toList.drop 148 = dktX3_isDone_6 := dk_seg dksX3_isDone_5 24 rfl rfl
theorem dksX3_isDone_7 : cX3_isDone.data.toList.drop 171 = dktX3_isDone_7 := dk_seg dksX3_isDone_6 23 rfl rfl
theorem dX3_isDone_0 : decode cX3_isDone 0 = .ok (.aload_n 0, 1) := dk_42 (dk_at dksX3_isDone_0 0 rfl rfl)
theorem dX3_isDone_1 : decode cX3_isDone 1 = .ok (.getfield 35, 3) := dk_180 0 35 (dk_at dksX3_isDone_0 1 rfl rfl)
theorem dX3_isDone_4 : decode cX3_isDone 4 = .ok (.iload_n 1, 1) := dk_27 (dk_at dksX3_isDone_0 4 rfl rfl)
theorem dX3_isDone_5 : decode cX3_isDone 5 = .ok (.iaload, 1) := dk_46 (dk_at dksX3_isDone_0 5 rfl rfl)
theorem dX3_isDone_6 : decode cX3_isDone 6 = .ok (.istore_n 2, 1) := dk_61 (dk_at dksX3_isDone_0 6 rfl rfl)
theorem dX3_isDone_7 : decode cX3_isDone 7 = .ok (.aload_n 0, 1) := dk_42 (dk_at dksX3_isDone_0 7 rfl rfl)
theorem dX3_isDone_8 : decode cX3_isDone 8 = .ok (.getfield 29, 3) := dk_180 0 29 (dk_at dksX3_isDone_0 8 rfl rfl)
theorem dX3_isDone_11 : decode cX3_isDone 11 = .ok (.iload_n 1, 1) := dk_27 (dk_at dksX3_isDone_0 11 rfl rfl)
theorem dX3_isDone_12 : decode cX3_isDone 12 = .ok (.iaload, 1) := dk_46 (dk_at dksX3_isDone_0 12 rfl rfl)
theorem dX3_isDone_13 : decode cX3_isDone 13 = .ok (.lookupswitch 153 #[(98, 43), (104, 120), (117, 98), (119, 70)], 43) := by decide +kernel
theorem dX3_isDone_56 : decode cX3_isDone 56 = .ok (.aload_n 0, 1) := dk_42 (dk_at dksX3_isDone_2 0 rfl rfl)
theorem dX3_isDone_57 : decode cX3_isDone 57 = .ok (.getfield 7, 3) := dk_180 0 7 (dk_at dksX3_isDone_2 1 rfl rfl)
theorem dX3_isDone_60 : decode cX3_isDone 60 = .ok (.bipush 8, 2) := dk_16 8 (dk_at dksX3_isDone_2 4 rfl rfl)
theorem dX3_isDone_62 : decode cX3_isDone 62 = .ok (.iaload, 1) := dk_46 (dk_at dksX3_isDone_2 6 rfl rfl)
theorem dX3_isDone_63 : decode cX3_isDone 63 = .ok (.bipush 20, 2) := dk_16 20 (dk_at dksX3_isDone_2 7 rfl rfl)
theorem dX3_isDone_65 : decode cX3_isDone 65 = .ok (.if_icmp .ge 16, 3) := dk_162 0 16 (dk_at dksX3_isDone_2 9 rfl rfl)
theorem dX3_isDone_68 : decode cX3_isDone 68 = .ok (.aload_n 0, 1) := dk_42 (dk_at dksX3_isDone_2 12 rfl rfl)
theorem dX3_isDone_69 : decode cX3_isDone 69 = .ok (.iload_n 2, 1) := dk_28 (dk_at dksX3_isDone_2 13 rfl rfl)
theorem dX3_isDone_70 : decode cX3_isDone 70 = .ok (.iconst 0, 1) := dk_3 (dk_at dksX3_isDone_2 14 rfl rfl)
theorem dX3_isDone_71 : decode cX3_isDone 71 = .ok (.invokevirtual 113, 3) := dk_182 0 113 (dk_at dksX3_isDone_2 15 rfl rfl)
theorem dX3_isDone_74 : decode cX3_isDone 74 = .ok (.ifCond .lt 7, 3) := dk_155 0 7 (dk_at dksX3_isDone_2 18 rfl rfl)
theorem dX3_isDone_77 : decode cX3_isDone 77 = .ok (.iconst 1, 1) := dk_4 (dk_at dksX3_isDone_2 21 rfl rfl)
theorem dX3_isDone_78 : decode cX3_isDone 78 = .ok (.goto 4, 3) := dk_167 0 4 (dk_at dksX3_isDone_3 0 rfl rfl)
theorem dX3_isDone_81 : decode cX3_isDone 81 = .ok (.iconst 0, 1) := dk_3 (dk_at dksX3_isDone_3 3 rfl rfl)
theorem dX3_isDone_82 : decode cX3_isDone 82 = .ok (.ireturn, 1) := dk_172 (dk_at dksX3_isDone_3 4 rfl rfl)
theorem dX3_isDone_83 : decode cX3_isDone 83 = .ok (.aload_n 0, 1) := dk_42 (dk_at dksX3_isDone_3 5 rfl rfl)
theorem dX3_isDone_84 : decode cX3_isDone 84 = .ok (.iload_n 2, 1) := dk_28 (dk_at dksX3_isDone_3 6 rfl rfl)
theorem dX3_isDone_85 : decode cX3_isDone 85 = .ok (.invokevirtual 116, 3) := dk_182 0 116 (dk_at dksX3_isDone_3 7 rfl rfl)
theorem dX3_isDone_88 : decode cX3_isDone 88 = .ok (.ifCond .eq 21, 3) := dk_153 0 21 (dk_at dksX3_isDone_3 10 rfl rfl)
theorem dX3_isDone_91 : decode cX3_isDone 91 = .ok (.aload_n 0, 1) := dk_42 (dk_at dksX3_isDone_3 13 rfl rfl)
theorem dX3_isDone_92 : decode cX3_isDone 92 = .ok (.aload_n 0, 1) := dk_42 (dk_at dksX3_isDone_3 14 rfl rfl)
theorem dX3_isDone_93 : decode cX3_isDone 93 = .ok (.getfield 32, 3) := dk_180 0 32 (dk_at dksX3_isDone_3 15 rfl rfl)
theorem dX3_isDone_96 : decode cX3_isDone 96 = .ok (.iload_n 1, 1) := dk_27 (dk_at dksX3_isDone_3 18 rfl rfl)
theorem dX3_isDone_97 : decode cX3_isDone 97 = .ok (.iaload, 1) := dk_46 (dk_at dksX3_isDone_3 19 rfl rfl)
theorem dX3_isDone_98 : decode cX3_isDone 98 = .ok (.iload_n 2, 1) := dk_28 (dk_at dksX3_isDone_3 20 rfl rfl)
theorem dX3_isDone_99 : decode cX3_isDone 99 = .ok (.invokevirtual 132, 3) := dk_182 0 132 (dk_at dksX3_isDone_3 21 rfl rfl)
theorem dX3_isDone_102 : decode cX3_isDone 102 = .ok (.ifCond .ne 7, 3) := dk_154 0 7 (dk_at dksX3_isDone_4 0 rfl rfl)
theorem dX3_isDone_105 : decode cX3_isDone 105 = .ok (.iconst 1, 1) := dk_4 (dk_at dksX3_isDone_4 3 rfl rfl)
theorem dX3_isDone_106 : decode cX3_isDone 106 = .ok (.goto 4, 3) := dk_167 0 4 (dk_at dksX3_isDone_4 4 rfl rfl)
theorem dX3_isDone_109 : decode cX3_isDone 109 = .ok (.iconst 0, 1) := dk_3 (dk_at dksX3_isDone_4 7 rfl rfl)
theorem dX3_isDone_110 : decode cX3_isDone 110 = .ok (.ireturn, 1) := dk_172 (dk_at dksX3_isDone_4 8 rfl rfl)
theorem dX3_isDone_111 : decode cX3_isDone 111 = .ok (.aload_n 0, 1) := dk_42 (dk_at dksX3_isDone_4 9 rfl rfl)
theorem dX3_isDone_112 : decode cX3_isDone 112 = .ok (.iload_n 2, 1) := dk_28 (dk_at dksX3_isDone_4 10 rfl rfl)
theorem dX3_isDone_113 : decode cX3_isDone 113 = .ok (.invokevirtual 82, 3) := dk_182 0 82 (dk_at dksX3_isDone_4 11 rfl rfl)
theorem dX3_isDone_116 : decode cX3_isDone 116 = .ok (.ifCond .le 15, 3) := dk_158 0 15 (dk_at dksX3_isDone_4 14 rfl rfl)
theorem dX3_isDone_119 : decode cX3_isDone 119 = .ok (.aload_n 0, 1) := dk_42 (dk_at dksX3_isDone_4 17 rfl rfl)
theorem dX3_isDone_120 : decode cX3_isDone 120 = .ok (.iload_n 2, 1) := dk_28 (dk_at dksX3_isDone_4 18 rfl rfl)
theorem dX3_isDone_121 : decode cX3_isDone 121 = .ok (.invokevirtual 135, 3) := dk_182 0 135 (dk_at dksX3_isDone_4 19 rfl rfl)
theorem dX3_isDone_124 : decode cX3_isDone 124 = .ok (.ifCond .lt 7, 3) := dk_155 0 7 (dk_at dksX3_isDone_5 0 rfl rfl)
theorem dX3_isDone_127 : decode cX3_isDone 127 = .ok (.iconst 1, 1) := dk_4 (dk_at dksX3_isDone_5 3 rfl rfl)
theorem dX3_isDone_128 : decode cX3_isDone 128 = .ok (.goto 4, 3) := dk_167 0 4 (dk_at dksX3_isDone_5 4 rfl rfl)
theorem dX3_isDone_131 : decode cX3_isDone 131 = .ok (.iconst 0, 1) := dk_3 (dk_at dksX3_isDone_5 7 rfl rfl)
theorem dX3_isDone_132 : decode cX3_isDone 132 = .ok (.ireturn, 1) := dk_172 (dk_at dksX3_isDone_5 8 rfl rfl)
theorem dX3_isDone_133 : decode cX3_isDone 133 = .ok (.aload_n 0, 1) := dk_42 (dk_at dksX3_isDone_5 9 rfl rfl)
theorem dX3_isDone_134 : decode cX3_isDone 134 = .ok (.aload_n 0, 1) := dk_42 (dk_at dksX3_isDone_5 10 rfl rfl)
theorem dX3_isDone_135 : decode cX3_isDone 135 = .ok (.getfield 32, 3) := dk_180 0 32 (dk_at dksX3_isDone_5 11 rfl rfl)
theorem dX3_isDone_138 : decode cX3_isDone 138 = .ok (.iload_n 1, 1) := dk_27 (dk_at dksX3_isDone_5 14 rfl rfl)
theorem dX3_isDone_139 : decode cX3_isDone 139 = .ok (.iaload, 1) := dk_46 (dk_at dksX3_isDone_5 15 rfl rfl)
theorem dX3_isDone_140 : decode cX3_isDone 140 = .ok (.invokevirtual 116, 3) := dk_182 0 116 (dk_at dksX3_isDone_5 16 rfl rfl)
theorem dX3_isDone_143 : decode cX3_isDone 143 = .ok (.ifCond .eq 21, 3) := dk_153 0 21 (dk_at dksX3_isDone_5 19 rfl rfl)
theorem dX3_isDone_146 : decode cX3_isDone 146 = .ok (.aload_n 0, 1) := dk_42 (dk_at dksX3_isDone_5 22 rfl rfl)
theorem dX3_isDone_147 : decode cX3_isDone 147 = .ok (.aload_n 0, 1) := dk_42 (dk_at dksX3_isDone_5 23 rfl rfl)
theorem dX3_isDone_148 : decode cX3_isDone 148 = .ok (.getfield 32, 3) := dk_180 0 32 (dk_at dksX3_isDone_6 0 rfl rfl)
theorem dX3_isDone_151 : decode cX3_isDone 151 = .ok (.iload_n 1, 1) := dk_27 (dk_at dksX3_isDone_6 3 rfl rfl)
theorem dX3_isDone_152 : decode cX3_isDone 152 = .ok (.iaload, 1) := dk_46 (dk_at dksX3_isDone_6 4 rfl rfl)
theorem dX3_isDone_153 : decode cX3_isDone 153 = .ok (.iload_n 2, 1) := dk_28 (dk_at dksX3_isDone_6 5 rfl rfl)
theorem dX3_isDone_154 : decode cX3_isDone 154 = .ok (.invokevirtual 119, 3) := dk_182 0 119 (dk_at dksX3_isDone_6 6 rfl rfl)
theorem dX3_isDone_157 : decode cX3_isDone 157 = .ok (.ifCond .lt 7, 3) := dk_155 0 7 (dk_at dksX3_isDone_6 9 rfl rfl)
theorem dX3_isDone_160 : decode cX3_isDone 160 = .ok (.iconst 1, 1) := dk_4 (dk_at dksX3_isDone_6 12 rfl rfl)
theorem dX3_isDone_161 : decode cX3_isDone 161 = .ok (.goto 4, 3) := dk_167 0 4 (dk_at dksX3_isDone_6 13 rfl rfl)
theorem dX3_isDone_164 : decode cX3_isDone 164 = .ok (.iconst 0, 1) := dk_3 (dk_at dksX3_isDone_6 16 rfl rfl)
theorem dX3_isDone_165 : decode cX3_isDone 165 = .ok (.ireturn, 1) := dk_172 (dk_at dksX3_isDone_6 17 rfl rfl)
theorem dX3_isDone_166 : decode cX3_isDone 166 = .ok (.aload_n 0, 1) := dk_42 (dk_at dksX3_isDone_6 18 rfl rfl)
theorem dX3_isDone_167 : decode cX3_isDone 167 = .ok (.iload_n 2, 1) := dk_28 (dk_at dksX3_isDone_6 19 rfl rfl)
theorem dX3_isDone_168 : decode cX3_isDone 168 = .ok (.invokevirtual 122, 3) := dk_182 0 122 (dk_at dksX3_isDone_6 20 rfl rfl)
theorem dX3_isDone_171 : decode cX3_isDone 171 = .ok (.ifCond .lt 7, 3) := dk_155 0 7 (dk_at dksX3_isDone_7 0 rfl rfl)
theorem dX3_isDone_174 : decode cX3_isDone 174 = .ok (.iconst 1, 1) := dk_4 (dk_at dksX3_isDone_7 3 rfl rfl)
theorem dX3_isDone_175 : decode cX3_isDone 175 = .ok (.goto 4, 3) := dk_167 0 4 (dk_at dksX3_isDone_7 4 rfl rfl)
theorem dX3_isDone_178 : decode cX3_isDone 178 = .ok (.iconst 0, 1) := dk_3 (dk_at dksX3_isDone_7 7 rfl rfl)
theorem dX3_isDone_179 : decode cX3_isDone 179 = .ok (.ireturn, 1) := dk_172 (dk_at dksX3_isDone_7 8 rfl rfl)
abbrev cX3_blockOf : ByteArray := prog_11_method_59_code
def yX3_blockOf : MethodName := ⟨RX3, "blockOf", "(II)I"⟩
def dkwX3_blockOf_1 : List UInt8 := [184, 0, 42, 153, 0, 12, 42, 27, 28, 182, 0, 184, 167, 0, 8, 42, 5, 182, 0, 50, 172]
abbrev dktX3_blockOf_1 : List UInt8 := dkwX3_blockOf_1 ++ []
def dkwX3_blockOf_0 : List UInt8 := [42, 3, 181, 0, 38, 42, 27, 182, 0, 116, 154, 0, 9, 42, 4, 182, 0, 50, 172, 28, 3, 16, 8]
abbrev dktX3_blockOf_0 : List UInt8 := dkwX3_blockOf_0 ++ dktX3_blockOf_1
theorem dksX3_blockOf_0 : cX3_blockOf.data.toList.drop 0 = dktX3_blockOf_0 := by decide +kernel
theorem dksX3_blockOf_1 : cX3_blockOf.data.toList.drop 23 = dktX3_blockOf_1 := dk_seg dksX3_blockOf_0 23 rfl rfl
theorem dX3_blockOf_0 : decode cX3_blockOf 0 = .ok (.aload_n 0, 1) := dk_42 (dk_at dksX3_blockOf_0 0 rfl rfl)
theorem dX3_blockOf_1 : decode cX3_blockOf 1 = .ok (.iconst 0, 1) := dk_3 (dk_at dksX3_blockOf_0 1 rfl rfl)
theorem dX3_blockOf_2 : decode cX3_blockOf 2 = .ok (.putfield 38, 3) := dk_181 0 38 (dk_at dksX3_blockOf_0 2 rfl rfl)
theorem dX3_blockOf_5 : decode cX3_blockOf 5 = .ok (.aload_n 0, 1) := dk_42 (dk_at dksX3_blockOf_0 5 rfl rfl)
theorem dX3_blockOf_6 : decode cX3_blockOf 6 = .ok (.iload_n 1, 1) := dk_27 (dk_at dksX3_blockOf_0 6 rfl rfl)
theorem dX3_blockOf_7 : decode cX3_blockOf 7 = .ok (.invokevirtual 116, 3) := dk_182 0 116 (dk_at dksX3_blockOf_0 7 rfl rfl)
theorem dX3_blockOf_10 : decode cX3_blockOf 10 = .ok (.ifCond .ne 9, 3) := dk_154 0 9 (dk_at dksX3_blockOf_0 10 rfl rfl)
theorem dX3_blockOf_13 : decode cX3_blockOf 13 = .ok (.aload_n 0, 1) := dk_42 (dk_at dksX3_blockOf_0 13 rfl rfl)
theorem dX3_blockOf_14 : decode cX3_blockOf 14 = .ok (.iconst 1, 1) := dk_4 (dk_at dksX3_blockOf_0 14 rfl rfl)
theorem dX3_blockOf_15 : decode cX3_blockOf 15 = .ok (.invokevirtual 50, 3) := dk_182 0 50 (dk_at dksX3_blockOf_0 15 rfl rfl)
theorem dX3_blockOf_18 : decode cX3_blockOf 18 = .ok (.ireturn, 1) := dk_172 (dk_at dksX3_blockOf_0 18 rfl rfl)
theorem dX3_blockOf_19 : decode cX3_blockOf 19 = .ok (.iload_n 2, 1) := dk_28 (dk_at dksX3_blockOf_0 19 rfl rfl)
theorem dX3_blockOf_20 : decode cX3_blockOf 20 = .ok (.iconst 0, 1) := dk_3 (dk_at dksX3_blockOf_0 20 rfl rfl)
theorem dX3_blockOf_21 : decode cX3_blockOf 21 = .ok (.bipush 8, 2) := dk_16 8 (dk_at dksX3_blockOf_0 21 rfl rfl)
theorem dX3_blockOf_23 : decode cX3_blockOf 23 = .ok (.invokestatic 42, 3) := dk_184 0 42 (dk_at dksX3_blockOf_1 0 rfl rfl)
theorem dX3_blockOf_26 : decode cX3_blockOf 26 = .ok (.ifCond .eq 12, 3) := dk_153 0 12 (dk_at dksX3_blockOf_1 3 rfl rfl)
theorem dX3_blockOf_29 : decode cX3_blockOf 29 = .ok (.aload_n 0, 1) := dk_42 (dk_at dksX3_blockOf_1 6 rfl rfl)
theorem dX3_blockOf_30 : decode cX3_blockOf 30 = .ok (.iload_n 1, 1) := dk_27 (dk_at dksX3_blockOf_1 7 rfl rfl)
theorem dX3_blockOf_31 : decode cX3_blockOf 31 = .ok (.iload_n 2, 1) := dk_28 (dk_at dksX3_blockOf_1 8 rfl rfl)
theorem dX3_blockOf_32 : decode cX3_blockOf 32 = .ok (.invokevirtual 184, 3) := dk_182 0 184 (dk_at dksX3_blockOf_1 9 rfl rfl)
theorem dX3_blockOf_35 : decode cX3_blockOf 35 = .ok (.goto 8, 3) := dk_167 0 8 (dk_at dksX3_blockOf_1 12 rfl rfl)
theorem dX3_blockOf_38 : decode cX3_blockOf 38 = .ok (.aload_n 0, 1) := dk_42 (dk_at dksX3_blockOf_1 15 rfl rfl)
theorem dX3_blockOf_39 : decode cX3_blockOf 39 = .ok (.iconst 2, 1) := dk_5 (dk_at dksX3_blockOf_1 16 rfl rfl)
theorem dX3_blockOf_40 : decode cX3_blockOf 40 = .ok (.invokevirtual 50, 3) := dk_182 0 50 (dk_at dksX3_blockOf_1 17 rfl rfl)
theorem dX3_blockOf_43 : decode cX3_blockOf 43 = .ok (.ireturn, 1) := dk_172 (dk_at dksX3_blockOf_1 20 rfl rfl)
abbrev cX3_ofBlock : ByteArray := prog_11_method_58_code
def yX3_ofBlock : MethodName := ⟨RX3, "ofBlock", "(II)I"⟩
def dkwX3_ofBlock_4 : List UInt8 := [172, 42, 27, 7, 182, 0, 57, 172, 42, 27, 8, 182, 0, 57, 172, 42, 27, 16, 6, 182, 0, 57, 172]
abbrev dktX3_ofBlock_4 : List UInt8 := dkwX3_ofBlock_4 ++ []
def dkwX3_ofBlock_3 : List UInt8 := [42, 27, 6, 182, 0, 57, 172, 42, 27, 182, 0, 85, 172, 42, 27, 42, 27, 6, 182, 0, 57, 182, 0, 181]
abbrev dktX3_ofBlock_3 : List UInt8 := dkwX3_ofBlock_3 ++ dktX3_ofBlock_4
def dkwX3_ofBlock_2 : List UInt8 := [42, 27, 3, 182, 0, 57, 172, 42, 27, 182, 0, 61, 17, 39, 16, 96, 172, 42, 27, 5, 182, 0, 57, 172]
abbrev dktX3_ofBlock_2 : List UInt8 := dkwX3_ofBlock_2 ++ dktX3_ofBlock_3
def dkwX3_ofBlock_1 : List UInt8 := [170, 0, 0, 0, 0, 0, 110, 0, 0, 0, 0, 0, 0, 0, 7, 0, 0, 0, 47, 0, 0, 0, 54, 0, 0, 0, 64, 0, 0, 0, 71, 0, 0, 0, 78, 0, 0, 0, 84, 0, 0, 0, 96, 0, 0, 0, 103]
abbrev dktX3_ofBlock_1 : List UInt8 := dkwX3_ofBlock_1 ++ dktX3_ofBlock_2
def dkwX3_ofBlock_0 : List UInt8 := [28]
abbrev dktX3_ofBlock_0 : List UInt8 := dkwX3_ofBlock_0 ++ dktX3_ofBlock_1
theorem dksX3_ofBlock_0 : cX3_ofBlock.data.toList.drop 0 = dktX3_ofBlock_0 := by decide +kernel
theorem dksX3_ofBlock_1 : cX3_ofBlock.data.toList.drop 1 = dktX3_ofBlock_1 := dk_seg dksX3_ofBlock_0 1 rfl rfl
theorem dksX3_ofBlock_2 : cX3_ofBlock.data.toList.drop 48 = dktX3_ofBlock_2 := dk_seg dksX3_ofBlock_1 47 rfl rfl
theorem dksX3_ofBlock_3 : cX3_ofBlock.data.toList.drop 72 = dktX3_ofBlock_3 := dk_seg dksX3_ofBlock_2 24 rfl rfl
theorem dksX3_ofBlock_4 : cX3_ofBlock.data.toList.drop 96 = dktX3_ofBlock_4 := dk_seg dksX3_ofBlock_3 24 rfl rfl
theorem dX3_ofBlock_0 : decode cX3_ofBlock 0 = .ok (.iload_n 2, 1) := dk_28 (dk_at dksX3_ofBlock_0 0 rfl rfl)
theorem dX3_ofBlock_1 : decode cX3_ofBlock 1 = .ok (.tableswitch 110 0 7 #[47, 54, 64, 71, 78, 84, 96, 103], 47) := by decide +kernel
theorem dX3_ofBlock_48 : decode cX3_ofBlock 48 = .ok (.aload_n 0, 1) := dk_42 (dk_at dksX3_ofBlock_2 0 rfl rfl)
theorem dX3_ofBlock_49 : decode cX3_ofBlock 49 = .ok (.iload_n 1, 1) := dk_27 (dk_at dksX3_ofBlock_2 1 rfl rfl)
theorem dX3_ofBlock_50 : decode cX3_ofBlock 50 = .ok (.iconst 0, 1) := dk_3 (dk_at dksX3_ofBlock_2 2 rfl rfl)
theorem dX3_ofBlock_51 : decode cX3_ofBlock 51 = .ok (.invokevirtual 57, 3) := dk_182 0 57 (dk_at dksX3_ofBlock_2 3 rfl rfl)
theorem dX3_ofBlock_54 : decode cX3_ofBlock 54 = .ok (.ireturn, 1) := dk_172 (dk_at dksX3_ofBlock_2 6 rfl rfl)
theorem dX3_ofBlock_55 : decode cX3_ofBlock 55 = .ok (.aload_n 0, 1) := dk_42 (dk_at dksX3_ofBlock_2 7 rfl rfl)
theorem dX3_ofBlock_56 : decode cX3_ofBlock 56 = .ok (.iload_n 1, 1) := dk_27 (dk_at dksX3_ofBlock_2 8 rfl rfl)
theorem dX3_ofBlock_57 : decode cX3_ofBlock 57 = .ok (.invokevirtual 61, 3) := dk_182 0 61 (dk_at dksX3_ofBlock_2 9 rfl rfl)
theorem dX3_ofBlock_60 : decode cX3_ofBlock 60 = .ok (.sipush 10000, 3) := dk_17 39 16 (dk_at dksX3_ofBlock_2 12 rfl rfl)
theorem dX3_ofBlock_63 : decode cX3_ofBlock 63 = .ok (.iadd, 1) := dk_96 (dk_at dksX3_ofBlock_2 15 rfl rfl)
theorem dX3_ofBlock_64 : decode cX3_ofBlock 64 = .ok (.ireturn, 1) := dk_172 (dk_at dksX3_ofBlock_2 16 rfl rfl)
theorem dX3_ofBlock_65 : decode cX3_ofBlock 65 = .ok (.aload_n 0, 1) := dk_42 (dk_at dksX3_ofBlock_2 17 rfl rfl)
theorem dX3_ofBlock_66 : decode cX3_ofBlock 66 = .ok (.iload_n 1, 1) := dk_27 (dk_at dksX3_ofBlock_2 18 rfl rfl)
theorem dX3_ofBlock_67 : decode cX3_ofBlock 67 = .ok (.iconst 2, 1) := dk_5 (dk_at dksX3_ofBlock_2 19 rfl rfl)
theorem dX3_ofBlock_68 : decode cX3_ofBlock 68 = .ok (.invokevirtual 57, 3) := dk_182 0 57 (dk_at dksX3_ofBlock_2 20 rfl rfl)
theorem dX3_ofBlock_71 : decode cX3_ofBlock 71 = .ok (.ireturn, 1) := dk_172 (dk_at dksX3_ofBlock_2 23 rfl rfl)
theorem dX3_ofBlock_72 : decode cX3_ofBlock 72 = .ok (.aload_n 0, 1) := dk_42 (dk_at dksX3_ofBlock_3 0 rfl rfl)
theorem dX3_ofBlock_73 : decode cX3_ofBlock 73 = .ok (.iload_n 1, 1) := dk_27 (dk_at dksX3_ofBlock_3 1 rfl rfl)
theorem dX3_ofBlock_74 : decode cX3_ofBlock 74 = .ok (.iconst 3, 1) := dk_6 (dk_at dksX3_ofBlock_3 2 rfl rfl)
theorem dX3_ofBlock_75 : decode cX3_ofBlock 75 = .ok (.invokevirtual 57, 3) := dk_182 0 57 (dk_at dksX3_ofBlock_3 3 rfl rfl)
theorem dX3_ofBlock_78 : decode cX3_ofBlock 78 = .ok (.ireturn, 1) := dk_172 (dk_at dksX3_ofBlock_3 6 rfl rfl)
theorem dX3_ofBlock_79 : decode cX3_ofBlock 79 = .ok (.aload_n 0, 1) := dk_42 (dk_at dksX3_ofBlock_3 7 rfl rfl)
theorem dX3_ofBlock_80 : decode cX3_ofBlock 80 = .ok (.iload_n 1, 1) := dk_27 (dk_at dksX3_ofBlock_3 8 rfl rfl)
theorem dX3_ofBlock_81 : decode cX3_ofBlock 81 = .ok (.invokevirtual 85, 3) := dk_182 0 85 (dk_at dksX3_ofBlock_3 9 rfl rfl)
theorem dX3_ofBlock_84 : decode cX3_ofBlock 84 = .ok (.ireturn, 1) := dk_172 (dk_at dksX3_ofBlock_3 12 rfl rfl)
theorem dX3_ofBlock_85 : decode cX3_ofBlock 85 = .ok (.aload_n 0, 1) := dk_42 (dk_at dksX3_ofBlock_3 13 rfl rfl)
theorem dX3_ofBlock_86 : decode cX3_ofBlock 86 = .ok (.iload_n 1, 1) := dk_27 (dk_at dksX3_ofBlock_3 14 rfl rfl)
theorem dX3_ofBlock_87 : decode cX3_ofBlock 87 = .ok (.aload_n 0, 1) := dk_42 (dk_at dksX3_ofBlock_3 15 rfl rfl)
theorem dX3_ofBlock_88 : decode cX3_ofBlock 88 = .ok (.iload_n 1, 1) := dk_27 (dk_at dksX3_ofBlock_3 16 rfl rfl)
theorem dX3_ofBlock_89 : decode cX3_ofBlock 89 = .ok (.iconst 3, 1) := dk_6 (dk_at dksX3_ofBlock_3 17 rfl rfl)
theorem dX3_ofBlock_90 : decode cX3_ofBlock 90 = .ok (.invokevirtual 57, 3) := dk_182 0 57 (dk_at dksX3_ofBlock_3 18 rfl rfl)
theorem dX3_ofBlock_93 : decode cX3_ofBlock 93 = .ok (.invokevirtual 181, 3) := dk_182 0 181 (dk_at dksX3_ofBlock_3 21 rfl rfl)
theorem dX3_ofBlock_96 : decode cX3_ofBlock 96 = .ok (.ireturn, 1) := dk_172 (dk_at dksX3_ofBlock_4 0 rfl rfl)
theorem dX3_ofBlock_97 : decode cX3_ofBlock 97 = .ok (.aload_n 0, 1) := dk_42 (dk_at dksX3_ofBlock_4 1 rfl rfl)
theorem dX3_ofBlock_98 : decode cX3_ofBlock 98 = .ok (.iload_n 1, 1) := dk_27 (dk_at dksX3_ofBlock_4 2 rfl rfl)
theorem dX3_ofBlock_99 : decode cX3_ofBlock 99 = .ok (.iconst 4, 1) := dk_7 (dk_at dksX3_ofBlock_4 3 rfl rfl)
theorem dX3_ofBlock_100 : decode cX3_ofBlock 100 = .ok (.invokevirtual 57, 3) := dk_182 0 57 (dk_at dksX3_ofBlock_4 4 rfl rfl)
theorem dX3_ofBlock_103 : decode cX3_ofBlock 103 = .ok (.ireturn, 1) := dk_172 (dk_at dksX3_ofBlock_4 7 rfl rfl)
theorem dX3_ofBlock_104 : decode cX3_ofBlock 104 = .ok (.aload_n 0, 1) := dk_42 (dk_at dksX3_ofBlock_4 8 rfl rfl)
theorem dX3_ofBlock_105 : decode cX3_ofBlock 105 = .ok (.iload_n 1, 1) := dk_27 (dk_at dksX3_ofBlock_4 9 rfl rfl)
theorem dX3_ofBlock_106 : decode cX3_ofBlock 106 = .ok (.iconst 5, 1) := dk_8 (dk_at dksX3_ofBlock_4 10 rfl rfl)
theorem dX3_ofBlock_107 : decode cX3_ofBlock 107 = .ok (.invokevirtual 57, 3) := dk_182 0 57 (dk_at dksX3_ofBlock_4 11 rfl rfl)
theorem dX3_ofBlock_110 : decode cX3_ofBlock 110 = .ok (.ireturn, 1) := dk_172 (dk_at dksX3_ofBlock_4 14 rfl rfl)
theorem dX3_ofBlock_111 : decode cX3_ofBlock 111 = .ok (.aload_n 0, 1) := dk_42 (dk_at dksX3_ofBlock_4 15 rfl rfl)
theorem dX3_ofBlock_112 : decode cX3_ofBlock 112 = .ok (.iload_n 1, 1) := dk_27 (dk_at dksX3_ofBlock_4 16 rfl rfl)
theorem dX3_ofBlock_113 : decode cX3_ofBlock 113 = .ok (.bipush 6, 2) := dk_16 6 (dk_at dksX3_ofBlock_4 17 rfl rfl)
theorem dX3_ofBlock_115 : decode cX3_ofBlock 115 = .ok (.invokevirtual 57, 3) := dk_182 0 57 (dk_at dksX3_ofBlock_4 19 rfl rfl)
theorem dX3_ofBlock_118 : decode cX3_ofBlock 118 = .ok (.ireturn, 1) := dk_172 (dk_at dksX3_ofBlock_4 22 rfl rfl)
abbrev cX3_trueLength : ByteArray := prog_11_method_18_code
def yX3_trueLength : MethodName := ⟨RX3, "trueLength", "(II)I"⟩
def dkwX3_trueLength_1 : List UInt8 := [108, 16, 115, 104, 17, 3, 232, 108, 96, 172]
abbrev dktX3_trueLength_1 : List UInt8 := dkwX3_trueLength_1 ++ []
def dkwX3_trueLength_0 : List UInt8 := [42, 27, 3, 182, 0, 57, 62, 17, 3, 232, 29, 104, 42, 27, 182, 0, 61, 96, 29, 28, 104, 17, 3, 232]
abbrev dktX3_trueLength_0 : List UInt8 := dkwX3_trueLength_0 ++ dktX3_trueLength_1
theorem dksX3_trueLength_0 : cX3_trueLength.data.toList.drop 0 = dktX3_trueLength_0 := by decide +kernel
theorem dksX3_trueLength_1 : cX3_trueLength.data.toList.drop 24 = dktX3_trueLength_1 := dk_seg dksX3_trueLength_0 24 rfl rfl
theorem dX3_trueLength_0 : decode cX3_trueLength 0 = .ok (.aload_n 0, 1) := dk_42 (dk_at dksX3_trueLength_0 0 rfl rfl)
theorem dX3_trueLength_1 : decode cX3_trueLength 1 = .ok (.iload_n 1, 1) := dk_27 (dk_at dksX3_trueLength_0 1 rfl rfl)
theorem dX3_trueLength_2 : decode cX3_trueLength 2 = .ok (.iconst 0, 1) := dk_3 (dk_at dksX3_trueLength_0 2 rfl rfl)
theorem dX3_trueLength_3 : decode cX3_trueLength 3 = .ok (.invokevirtual 57, 3) := dk_182 0 57 (dk_at dksX3_trueLength_0 3 rfl rfl)
theorem dX3_trueLength_6 : decode cX3_trueLength 6 = .ok (.istore_n 3, 1) := dk_62 (dk_at dksX3_trueLength_0 6 rfl rfl)
theorem dX3_trueLength_7 : decode cX3_trueLength 7 = .ok (.sipush 1000, 3) := dk_17 3 232 (dk_at dksX3_trueLength_0 7 rfl rfl)
theorem dX3_trueLength_10 : decode cX3_trueLength 10 = .ok (.iload_n 3, 1) := dk_29 (dk_at dksX3_trueLength_0 10 rfl rfl)
theorem dX3_trueLength_11 : decode cX3_trueLength 11 = .ok (.imul, 1) := dk_104 (dk_at dksX3_trueLength_0 11 rfl rfl)
theorem dX3_trueLength_12 : decode cX3_trueLength 12 = .ok (.aload_n 0, 1) := dk_42 (dk_at dksX3_trueLength_0 12 rfl rfl)
theorem dX3_trueLength_13 : decode cX3_trueLength 13 = .ok (.iload_n 1, 1) := dk_27 (dk_at dksX3_trueLength_0 13 rfl rfl)
theorem dX3_trueLength_14 : decode cX3_trueLength 14 = .ok (.invokevirtual 61, 3) := dk_182 0 61 (dk_at dksX3_trueLength_0 14 rfl rfl)
theorem dX3_trueLength_17 : decode cX3_trueLength 17 = .ok (.iadd, 1) := dk_96 (dk_at dksX3_trueLength_0 17 rfl rfl)
theorem dX3_trueLength_18 : decode cX3_trueLength 18 = .ok (.iload_n 3, 1) := dk_29 (dk_at dksX3_trueLength_0 18 rfl rfl)
theorem dX3_trueLength_19 : decode cX3_trueLength 19 = .ok (.iload_n 2, 1) := dk_28 (dk_at dksX3_trueLength_0 19 rfl rfl)
theorem dX3_trueLength_20 : decode cX3_trueLength 20 = .ok (.imul, 1) := dk_104 (dk_at dksX3_trueLength_0 20 rfl rfl)
theorem dX3_trueLength_21 : decode cX3_trueLength 21 = .ok (.sipush 1000, 3) := dk_17 3 232 (dk_at dksX3_trueLength_0 21 rfl rfl)
theorem dX3_trueLength_24 : decode cX3_trueLength 24 = .ok (.idiv, 1) := dk_108 (dk_at dksX3_trueLength_1 0 rfl rfl)
theorem dX3_trueLength_25 : decode cX3_trueLength 25 = .ok (.bipush 115, 2) := dk_16 115 (dk_at dksX3_trueLength_1 1 rfl rfl)
theorem dX3_trueLength_27 : decode cX3_trueLength 27 = .ok (.imul, 1) := dk_104 (dk_at dksX3_trueLength_1 3 rfl rfl)
theorem dX3_trueLength_28 : decode cX3_trueLength 28 = .ok (.sipush 1000, 3) := dk_17 3 232 (dk_at dksX3_trueLength_1 4 rfl rfl)
theorem dX3_trueLength_31 : decode cX3_trueLength 31 = .ok (.idiv, 1) := dk_108 (dk_at dksX3_trueLength_1 7 rfl rfl)
theorem dX3_trueLength_32 : decode cX3_trueLength 32 = .ok (.iadd, 1) := dk_96 (dk_at dksX3_trueLength_1 8 rfl rfl)
theorem dX3_trueLength_33 : decode cX3_trueLength 33 = .ok (.ireturn, 1) := dk_172 (dk_at dksX3_trueLength_1 9 rfl rfl)
abbrev cX3_stackOf : ByteArray := prog_11_method_63_code
def yX3_stackOf : MethodName := ⟨RX3, "stackOf", "(II)I"⟩
def dkwX3_stackOf_1 : List UInt8 := [184, 0, 42, 153, 0, 12, 42, 27, 28, 182, 0, 193, 167, 0, 8, 42, 5, 182, 0, 50, 172]
abbrev dktX3_stackOf_1 : List UInt8 := dkwX3_stackOf_1 ++ []
def dkwX3_stackOf_0 : List UInt8 := [42, 3, 181, 0, 38, 27, 184, 0, 129, 154, 0, 9, 42, 4, 182, 0, 50, 172, 28, 3, 16, 6]
abbrev dktX3_stackOf_0 : List UInt8 := dkwX3_stackOf_0 ++ dktX3_stackOf_1
theorem dksX3_stackOf_0 : cX3_stackOf.data.toList.drop 0 = dktX3_stackOf_0 := by decide +kernel
theorem dksX3_stackOf_1 : cX3_stackOf.data.toList.drop 22 = dktX3_stackOf_1 := dk_seg dksX3_stackOf_0 22 rfl rfl
theorem dX3_stackOf_0 : decode cX3_stackOf 0 = .ok (.aload_n 0, 1) := dk_42 (dk_at dksX3_stackOf_0 0 rfl rfl)
theorem dX3_stackOf_1 : decode cX3_stackOf 1 = .ok (.iconst 0, 1) := dk_3 (dk_at dksX3_stackOf_0 1 rfl rfl)
theorem dX3_stackOf_2 : decode cX3_stackOf 2 = .ok (.putfield 38, 3) := dk_181 0 38 (dk_at dksX3_stackOf_0 2 rfl rfl)
theorem dX3_stackOf_5 : decode cX3_stackOf 5 = .ok (.iload_n 1, 1) := dk_27 (dk_at dksX3_stackOf_0 5 rfl rfl)
theorem dX3_stackOf_6 : decode cX3_stackOf 6 = .ok (.invokestatic 129, 3) := dk_184 0 129 (dk_at dksX3_stackOf_0 6 rfl rfl)
theorem dX3_stackOf_9 : decode cX3_stackOf 9 = .ok (.ifCond .ne 9, 3) := dk_154 0 9 (dk_at dksX3_stackOf_0 9 rfl rfl)
theorem dX3_stackOf_12 : decode cX3_stackOf 12 = .ok (.aload_n 0, 1) := dk_42 (dk_at dksX3_stackOf_0 12 rfl rfl)
theorem dX3_stackOf_13 : decode cX3_stackOf 13 = .ok (.iconst 1, 1) := dk_4 (dk_at dksX3_stackOf_0 13 rfl rfl)
theorem dX3_stackOf_14 : decode cX3_stackOf 14 = .ok (.invokevirtual 50, 3) := dk_182 0 50 (dk_at dksX3_stackOf_0 14 rfl rfl)
theorem dX3_stackOf_17 : decode cX3_stackOf 17 = .ok (.ireturn, 1) := dk_172 (dk_at dksX3_stackOf_0 17 rfl rfl)
theorem dX3_stackOf_18 : decode cX3_stackOf 18 = .ok (.iload_n 2, 1) := dk_28 (dk_at dksX3_stackOf_0 18 rfl rfl)
theorem dX3_stackOf_19 : decode cX3_stackOf 19 = .ok (.iconst 0, 1) := dk_3 (dk_at dksX3_stackOf_0 19 rfl rfl)
theorem dX3_stackOf_20 : decode cX3_stackOf 20 = .ok (.bipush 6, 2) := dk_16 6 (dk_at dksX3_stackOf_0 20 rfl rfl)
theorem dX3_stackOf_22 : decode cX3_stackOf 22 = .ok (.invokestatic 42, 3) := dk_184 0 42 (dk_at dksX3_stackOf_1 0 rfl rfl)
theorem dX3_stackOf_25 : decode cX3_stackOf 25 = .ok (.ifCond .eq 12, 3) := dk_153 0 12 (dk_at dksX3_stackOf_1 3 rfl rfl)
theorem dX3_stackOf_28 : decode cX3_stackOf 28 = .ok (.aload_n 0, 1) := dk_42 (dk_at dksX3_stackOf_1 6 rfl rfl)
theorem dX3_stackOf_29 : decode cX3_stackOf 29 = .ok (.iload_n 1, 1) := dk_27 (dk_at dksX3_stackOf_1 7 rfl rfl)
theorem dX3_stackOf_30 : decode cX3_stackOf 30 = .ok (.iload_n 2, 1) := dk_28 (dk_at dksX3_stackOf_1 8 rfl rfl)
theorem dX3_stackOf_31 : decode cX3_stackOf 31 = .ok (.invokevirtual 193, 3) := dk_182 0 193 (dk_at dksX3_stackOf_1 9 rfl rfl)
theorem dX3_stackOf_34 : decode cX3_stackOf 34 = .ok (.goto 8, 3) := dk_167 0 8 (dk_at dksX3_stackOf_1 12 rfl rfl)
theorem dX3_stackOf_37 : decode cX3_stackOf 37 = .ok (.aload_n 0, 1) := dk_42 (dk_at dksX3_stackOf_1 15 rfl rfl)
theorem dX3_stackOf_38 : decode cX3_stackOf 38 = .ok (.iconst 2, 1) := dk_5 (dk_at dksX3_stackOf_1 16 rfl rfl)
theorem dX3_stackOf_39 : decode cX3_stackOf 39 = .ok (.invokevirtual 50, 3) := dk_182 0 50 (dk_at dksX3_stackOf_1 17 rfl rfl)
theorem dX3_stackOf_42 : decode cX3_stackOf 42 = .ok (.ireturn, 1) := dk_172 (dk_at dksX3_stackOf_1 20 rfl rfl)
abbrev cX3_ofStack : ByteArray := prog_11_method_62_code
def yX3_ofStack : MethodName := ⟨RX3, "ofStack", "(II)I"⟩
def dkwX3_ofStack_4 : List UInt8 := [42, 27, 3, 182, 0, 190, 17, 3, 232, 42, 27, 3, 182, 0, 187, 104, 100, 184, 0, 64, 172]
abbrev dktX3_ofStack_4 : List UInt8 := dkwX3_ofStack_4 ++ []
def dkwX3_ofStack_3 : List UInt8 := [182, 0, 187, 172, 42, 27, 42, 27, 182, 0, 82, 4, 100, 182, 0, 88, 172, 42, 27, 5, 182, 0, 187, 172]
abbrev dktX3_ofStack_3 : List UInt8 := dkwX3_ofStack_3 ++ dktX3_ofStack_4
def dkwX3_ofStack_2 : List UInt8 := [42, 27, 182, 0, 82, 172, 42, 27, 3, 182, 0, 187, 172, 42, 27, 3, 182, 0, 190, 172, 42, 27, 4]
abbrev dktX3_ofStack_2 : List UInt8 := dkwX3_ofStack_2 ++ dktX3_ofStack_3
def dkwX3_ofStack_1 : List UInt8 := [170, 0, 0, 0, 0, 0, 86, 0, 0, 0, 0, 0, 0, 0, 5, 0, 0, 0, 39, 0, 0, 0, 45, 0, 0, 0, 52, 0, 0, 0, 59, 0, 0, 0, 66, 0, 0, 0, 79]
abbrev dktX3_ofStack_1 : List UInt8 := dkwX3_ofStack_1 ++ dktX3_ofStack_2
def dkwX3_ofStack_0 : List UInt8 := [28]
abbrev dktX3_ofStack_0 : List UInt8 := dkwX3_ofStack_0 ++ dktX3_ofStack_1
theorem dksX3_ofStack_0 : cX3_ofStack.data.toList.drop 0 = dktX3_ofStack_0 := by decide +kernel
theorem dksX3_ofStack_1 : cX3_ofStack.data.toList.drop 1 = dktX3_ofStack_1 := dk_seg dksX3_ofStack_0 1 rfl rfl
theorem dksX3_ofStack_2 : cX3_ofStack.data.toList.drop 40 = dktX3_ofStack_2 := dk_seg dksX3_ofStack_1 39 rfl rfl
theorem dksX3_ofStack_3 : cX3_ofStack.data.toList.drop 63 = dktX3_ofStack_3 := dk_seg dksX3_ofStack_2 23 rfl rfl
theorem dksX3_ofStack_4 : cX3_ofStack.data.toList.drop 87 = dktX3_ofStack_4 := dk_seg dksX3_ofStack_3 24 rfl rfl
theorem dX3_ofStack_0 : decode cX3_ofStack 0 = .ok (.iload_n 2, 1) := dk_28 (dk_at dksX3_ofStack_0 0 rfl rfl)
theorem dX3_ofStack_1 : decode cX3_ofStack 1 = .ok (.tableswitch 86 0 5 #[39, 45, 52, 59, 66, 79], 39) := by decide +kernel
theorem dX3_ofStack_40 : decode cX3_ofStack 40 = .ok (.aload_n 0, 1) := dk_42 (dk_at dksX3_ofStack_2 0 rfl rfl)
theorem dX3_ofStack_41 : decode cX3_ofStack 41 = .ok (.iload_n 1, 1) := dk_27 (dk_at dksX3_ofStack_2 1 rfl rfl)
theorem dX3_ofStack_42 : decode cX3_ofStack 42 = .ok (.invokevirtual 82, 3) := dk_182 0 82 (dk_at dksX3_ofStack_2 2 rfl rfl)
theorem dX3_ofStack_45 : decode cX3_ofStack 45 = .ok (.ireturn, 1) := dk_172 (dk_at dksX3_ofStack_2 5 rfl rfl)
theorem dX3_ofStack_46 : decode cX3_ofStack 46 = .ok (.aload_n 0, 1) := dk_42 (dk_at dksX3_ofStack_2 6 rfl rfl)
theorem dX3_ofStack_47 : decode cX3_ofStack 47 = .ok (.iload_n 1, 1) := dk_27 (dk_at dksX3_ofStack_2 7 rfl rfl)
theorem dX3_ofStack_48 : decode cX3_ofStack 48 = .ok (.iconst 0, 1) := dk_3 (dk_at dksX3_ofStack_2 8 rfl rfl)
theorem dX3_ofStack_49 : decode cX3_ofStack 49 = .ok (.invokevirtual 187, 3) := dk_182 0 187 (dk_at dksX3_ofStack_2 9 rfl rfl)
theorem dX3_ofStack_52 : decode cX3_ofStack 52 = .ok (.ireturn, 1) := dk_172 (dk_at dksX3_ofStack_2 12 rfl rfl)
theorem dX3_ofStack_53 : decode cX3_ofStack 53 = .ok (.aload_n 0, 1) := dk_42 (dk_at dksX3_ofStack_2 13 rfl rfl)
theorem dX3_ofStack_54 : decode cX3_ofStack 54 = .ok (.iload_n 1, 1) := dk_27 (dk_at dksX3_ofStack_2 14 rfl rfl)
theorem dX3_ofStack_55 : decode cX3_ofStack 55 = .ok (.iconst 0, 1) := dk_3 (dk_at dksX3_ofStack_2 15 rfl rfl)
theorem dX3_ofStack_56 : decode cX3_ofStack 56 = .ok (.invokevirtual 190, 3) := dk_182 0 190 (dk_at dksX3_ofStack_2 16 rfl rfl)
theorem dX3_ofStack_59 : decode cX3_ofStack 59 = .ok (.ireturn, 1) := dk_172 (dk_at dksX3_ofStack_2 19 rfl rfl)
theorem dX3_ofStack_60 : decode cX3_ofStack 60 = .ok (.aload_n 0, 1) := dk_42 (dk_at dksX3_ofStack_2 20 rfl rfl)
theorem dX3_ofStack_61 : decode cX3_ofStack 61 = .ok (.iload_n 1, 1) := dk_27 (dk_at dksX3_ofStack_2 21 rfl rfl)
theorem dX3_ofStack_62 : decode cX3_ofStack 62 = .ok (.iconst 1, 1) := dk_4 (dk_at dksX3_ofStack_2 22 rfl rfl)
theorem dX3_ofStack_63 : decode cX3_ofStack 63 = .ok (.invokevirtual 187, 3) := dk_182 0 187 (dk_at dksX3_ofStack_3 0 rfl rfl)
theorem dX3_ofStack_66 : decode cX3_ofStack 66 = .ok (.ireturn, 1) := dk_172 (dk_at dksX3_ofStack_3 3 rfl rfl)
theorem dX3_ofStack_67 : decode cX3_ofStack 67 = .ok (.aload_n 0, 1) := dk_42 (dk_at dksX3_ofStack_3 4 rfl rfl)
theorem dX3_ofStack_68 : decode cX3_ofStack 68 = .ok (.iload_n 1, 1) := dk_27 (dk_at dksX3_ofStack_3 5 rfl rfl)
theorem dX3_ofStack_69 : decode cX3_ofStack 69 = .ok (.aload_n 0, 1) := dk_42 (dk_at dksX3_ofStack_3 6 rfl rfl)
theorem dX3_ofStack_70 : decode cX3_ofStack 70 = .ok (.iload_n 1, 1) := dk_27 (dk_at dksX3_ofStack_3 7 rfl rfl)
theorem dX3_ofStack_71 : decode cX3_ofStack 71 = .ok (.invokevirtual 82, 3) := dk_182 0 82 (dk_at dksX3_ofStack_3 8 rfl rfl)
theorem dX3_ofStack_74 : decode cX3_ofStack 74 = .ok (.iconst 1, 1) := dk_4 (dk_at dksX3_ofStack_3 11 rfl rfl)
theorem dX3_ofStack_75 : decode cX3_ofStack 75 = .ok (.isub, 1) := dk_100 (dk_at dksX3_ofStack_3 12 rfl rfl)
theorem dX3_ofStack_76 : decode cX3_ofStack 76 = .ok (.invokevirtual 88, 3) := dk_182 0 88 (dk_at dksX3_ofStack_3 13 rfl rfl)
theorem dX3_ofStack_79 : decode cX3_ofStack 79 = .ok (.ireturn, 1) := dk_172 (dk_at dksX3_ofStack_3 16 rfl rfl)
theorem dX3_ofStack_80 : decode cX3_ofStack 80 = .ok (.aload_n 0, 1) := dk_42 (dk_at dksX3_ofStack_3 17 rfl rfl)
theorem dX3_ofStack_81 : decode cX3_ofStack 81 = .ok (.iload_n 1, 1) := dk_27 (dk_at dksX3_ofStack_3 18 rfl rfl)
theorem dX3_ofStack_82 : decode cX3_ofStack 82 = .ok (.iconst 2, 1) := dk_5 (dk_at dksX3_ofStack_3 19 rfl rfl)
theorem dX3_ofStack_83 : decode cX3_ofStack 83 = .ok (.invokevirtual 187, 3) := dk_182 0 187 (dk_at dksX3_ofStack_3 20 rfl rfl)
theorem dX3_ofStack_86 : decode cX3_ofStack 86 = .ok (.ireturn, 1) := dk_172 (dk_at dksX3_ofStack_3 23 rfl rfl)
theorem dX3_ofStack_87 : decode cX3_ofStack 87 = .ok (.aload_n 0, 1) := dk_42 (dk_at dksX3_ofStack_4 0 rfl rfl)
theorem dX3_ofStack_88 : decode cX3_ofStack 88 = .ok (.iload_n 1, 1) := dk_27 (dk_at dksX3_ofStack_4 1 rfl rfl)
theorem dX3_ofStack_89 : decode cX3_ofStack 89 = .ok (.iconst 0, 1) := dk_3 (dk_at dksX3_ofStack_4 2 rfl rfl)
theorem dX3_ofStack_90 : decode cX3_ofStack 90 = .ok (.invokevirtual 190, 3) := dk_182 0 190 (dk_at dksX3_ofStack_4 3 rfl rfl)
theorem dX3_ofStack_93 : decode cX3_ofStack 93 = .ok (.sipush 1000, 3) := dk_17 3 232 (dk_at dksX3_ofStack_4 6 rfl rfl)
theorem dX3_ofStack_96 : decode cX3_ofStack 96 = .ok (.aload_n 0, 1) := dk_42 (dk_at dksX3_ofStack_4 9 rfl rfl)
theorem dX3_ofStack_97 : decode cX3_ofStack 97 = .ok (.iload_n 1, 1) := dk_27 (dk_at dksX3_ofStack_4 10 rfl rfl)
theorem dX3_ofStack_98 : decode cX3_ofStack 98 = .ok (.iconst 0, 1) := dk_3 (dk_at dksX3_ofStack_4 11 rfl rfl)
theorem dX3_ofStack_99 : decode cX3_ofStack 99 = .ok (.invokevirtual 187, 3) := dk_182 0 187 (dk_at dksX3_ofStack_4 12 rfl rfl)
theorem dX3_ofStack_102 : decode cX3_ofStack 102 = .ok (.imul, 1) := dk_104 (dk_at dksX3_ofStack_4 15 rfl rfl)
theorem dX3_ofStack_103 : decode cX3_ofStack 103 = .ok (.isub, 1) := dk_100 (dk_at dksX3_ofStack_4 16 rfl rfl)
theorem dX3_ofStack_104 : decode cX3_ofStack 104 = .ok (.invokestatic 64, 3) := dk_184 0 64 (dk_at dksX3_ofStack_4 17 rfl rfl)
theorem dX3_ofStack_107 : decode cX3_ofStack 107 = .ok (.ireturn, 1) := dk_172 (dk_at dksX3_ofStack_4 20 rfl rfl)
abbrev cX3_together : ByteArray := prog_11_method_61_code
def yX3_together : MethodName := ⟨RX3, "together", "(II)I"⟩
def dkwX3_together_4 : List UInt8 := [29, 172]
abbrev dktX3_together_4 : List UInt8 := dkwX3_together_4 ++ []
def dkwX3_together_3 : List UInt8 := [120, 128, 167, 0, 15, 21, 5, 29, 164, 0, 8, 21, 5, 167, 0, 4, 29, 62, 132, 4, 1, 167, 255, 179]
abbrev dktX3_together_3 : List UInt8 := dkwX3_together_3 ++ dktX3_together_4
def dkwX3_together_2 : List UInt8 := [154, 0, 15, 29, 42, 21, 4, 3, 182, 0, 57, 96, 167, 0, 29, 28, 4, 160, 0, 12, 29, 4, 21, 4]
abbrev dktX3_together_2 : List UInt8 := dkwX3_together_2 ++ dktX3_together_3
def dkwX3_together_1 : List UInt8 := [162, 0, 71, 42, 21, 4, 7, 182, 0, 57, 27, 160, 0, 54, 42, 21, 4, 182, 0, 85, 54, 5, 28]
abbrev dktX3_together_1 : List UInt8 := dkwX3_together_1 ++ dktX3_together_2
def dkwX3_together_0 : List UInt8 := [28, 5, 160, 0, 7, 2, 167, 0, 4, 3, 62, 3, 54, 4, 21, 4, 42, 180, 0, 7, 16, 8, 46]
abbrev dktX3_together_0 : List UInt8 := dkwX3_together_0 ++ dktX3_together_1
theorem dksX3_together_0 : cX3_together.data.toList.drop 0 = dktX3_together_0 := by decide +kernel
theorem dksX3_together_1 : cX3_together.data.toList.drop 23 = dktX3_together_1 := dk_seg dksX3_together_0 23 rfl rfl
theorem dksX3_together_2 : cX3_together.data.toList.drop 46 = dktX3_together_2 := dk_seg dksX3_together_1 23 rfl rfl
theorem dksX3_together_3 : cX3_together.data.toList.drop 70 = dktX3_together_3 := dk_seg dksX3_together_2 24 rfl rfl
theorem dksX3_together_4 : cX3_together.data.toList.drop 94 = dktX3_together_4 := dk_seg dksX3_together_3 24 rfl rfl
theorem dX3_together_0 : decode cX3_together 0 = .ok (.iload_n 2, 1) := dk_28 (dk_at dksX3_together_0 0 rfl rfl)
theorem dX3_together_1 : decode cX3_together 1 = .ok (.iconst 2, 1) := dk_5 (dk_at dksX3_together_0 1 rfl rfl)
theorem dX3_together_2 : decode cX3_together 2 = .ok (.if_icmp .ne 7, 3) := dk_160 0 7 (dk_at dksX3_together_0 2 rfl rfl)
theorem dX3_together_5 : decode cX3_together 5 = .ok (.iconst (-1), 1) := dk_2 (dk_at dksX3_together_0 5 rfl rfl)
theorem dX3_together_6 : decode cX3_together 6 = .ok (.goto 4, 3) := dk_167 0 4 (dk_at dksX3_together_0 6 rfl rfl)
theorem dX3_together_9 : decode cX3_together 9 = .ok (.iconst 0, 1) := dk_3 (dk_at dksX3_together_0 9 rfl rfl)
theorem dX3_together_10 : decode cX3_together 10 = .ok (.istore_n 3, 1) := dk_62 (dk_at dksX3_together_0 10 rfl rfl)
theorem dX3_together_11 : decode cX3_together 11 = .ok (.iconst 0, 1) := dk_3 (dk_at dksX3_together_0 11 rfl rfl)
theorem dX3_together_12 : decode cX3_together 12 = .ok (.istore 4, 2) := dk_54 4 (dk_at dksX3_together_0 12 rfl rfl)
theorem dX3_together_14 : decode cX3_together 14 = .ok (.iload 4, 2) := dk_21 4 (dk_at dksX3_together_0 14 rfl rfl)
theorem dX3_together_16 : decode cX3_together 16 = .ok (.aload_n 0, 1) := dk_42 (dk_at dksX3_together_0 16 rfl rfl)
theorem dX3_together_17 : decode cX3_together 17 = .ok (.getfield 7, 3) := dk_180 0 7 (dk_at dksX3_together_0 17 rfl rfl)
theorem dX3_together_20 : decode cX3_together 20 = .ok (.bipush 8, 2) := dk_16 8 (dk_at dksX3_together_0 20 rfl rfl)
theorem dX3_together_22 : decode cX3_together 22 = .ok (.iaload, 1) := dk_46 (dk_at dksX3_together_0 22 rfl rfl)
theorem dX3_together_23 : decode cX3_together 23 = .ok (.if_icmp .ge 71, 3) := dk_162 0 71 (dk_at dksX3_together_1 0 rfl rfl)
theorem dX3_together_26 : decode cX3_together 26 = .ok (.aload_n 0, 1) := dk_42 (dk_at dksX3_together_1 3 rfl rfl)
theorem dX3_together_27 : decode cX3_together 27 = .ok (.iload 4, 2) := dk_21 4 (dk_at dksX3_together_1 4 rfl rfl)
theorem dX3_together_29 : decode cX3_together 29 = .ok (.iconst 4, 1) := dk_7 (dk_at dksX3_together_1 6 rfl rfl)
theorem dX3_together_30 : decode cX3_together 30 = .ok (.invokevirtual 57, 3) := dk_182 0 57 (dk_at dksX3_together_1 7 rfl rfl)
theorem dX3_together_33 : decode cX3_together 33 = .ok (.iload_n 1, 1) := dk_27 (dk_at dksX3_together_1 10 rfl rfl)
theorem dX3_together_34 : decode cX3_together 34 = .ok (.if_icmp .ne 54, 3) := dk_160 0 54 (dk_at dksX3_together_1 11 rfl rfl)
theorem dX3_together_37 : decode cX3_together 37 = .ok (.aload_n 0, 1) := dk_42 (dk_at dksX3_together_1 14 rfl rfl)
theorem dX3_together_38 : decode cX3_together 38 = .ok (.iload 4, 2) := dk_21 4 (dk_at dksX3_together_1 15 rfl rfl)
theorem dX3_together_40 : decode cX3_together 40 = .ok (.invokevirtual 85, 3) := dk_182 0 85 (dk_at dksX3_together_1 17 rfl rfl)
theorem dX3_together_43 : decode cX3_together 43 = .ok (.istore 5, 2) := dk_54 5 (dk_at dksX3_together_1 20 rfl rfl)
theorem dX3_together_45 : decode cX3_together 45 = .ok (.iload_n 2, 1) := dk_28 (dk_at dksX3_together_1 22 rfl rfl)
theorem dX3_together_46 : decode cX3_together 46 = .ok (.ifCond .ne 15, 3) := dk_154 0 15 (dk_at dksX3_together_2 0 rfl rfl)
theorem dX3_together_49 : decode cX3_together 49 = .ok (.iload_n 3, 1) := dk_29 (dk_at dksX3_together_2 3 rfl rfl)
theorem dX3_together_50 : decode cX3_together 50 = .ok (.aload_n 0, 1) := dk_42 (dk_at dksX3_together_2 4 rfl rfl)
theorem dX3_together_51 : decode cX3_together 51 = .ok (.iload 4, 2) := dk_21 4 (dk_at dksX3_together_2 5 rfl rfl)
theorem dX3_together_53 : decode cX3_together 53 = .ok (.iconst 0, 1) := dk_3 (dk_at dksX3_together_2 7 rfl rfl)
theorem dX3_together_54 : decode cX3_together 54 = .ok (.invokevirtual 57, 3) := dk_182 0 57 (dk_at dksX3_together_2 8 rfl rfl)
theorem dX3_together_57 : decode cX3_together 57 = .ok (.iadd, 1) := dk_96 (dk_at dksX3_together_2 11 rfl rfl)
theorem dX3_together_58 : decode cX3_together 58 = .ok (.goto 29, 3) := dk_167 0 29 (dk_at dksX3_together_2 12 rfl rfl)
theorem dX3_together_61 : decode cX3_together 61 = .ok (.iload_n 2, 1) := dk_28 (dk_at dksX3_together_2 15 rfl rfl)
theorem dX3_together_62 : decode cX3_together 62 = .ok (.iconst 1, 1) := dk_4 (dk_at dksX3_together_2 16 rfl rfl)
theorem dX3_together_63 : decode cX3_together 63 = .ok (.if_icmp .ne 12, 3) := dk_160 0 12 (dk_at dksX3_together_2 17 rfl rfl)
theorem dX3_together_66 : decode cX3_together 66 = .ok (.iload_n 3, 1) := dk_29 (dk_at dksX3_together_2 20 rfl rfl)
theorem dX3_together_67 : decode cX3_together 67 = .ok (.iconst 1, 1) := dk_4 (dk_at dksX3_together_2 21 rfl rfl)
theorem dX3_together_68 : decode cX3_together 68 = .ok (.iload 4, 2) := dk_21 4 (dk_at dksX3_together_2 22 rfl rfl)
theorem dX3_together_70 : decode cX3_together 70 = .ok (.ishl, 1) := dk_120 (dk_at dksX3_together_3 0 rfl rfl)
theorem dX3_together_71 : decode cX3_together 71 = .ok (.ior, 1) := dk_128 (dk_at dksX3_together_3 1 rfl rfl)
theorem dX3_together_72 : decode cX3_together 72 = .ok (.goto 15, 3) := dk_167 0 15 (dk_at dksX3_together_3 2 rfl rfl)
theorem dX3_together_75 : decode cX3_together 75 = .ok (.iload 5, 2) := dk_21 5 (dk_at dksX3_together_3 5 rfl rfl)
theorem dX3_together_77 : decode cX3_together 77 = .ok (.iload_n 3, 1) := dk_29 (dk_at dksX3_together_3 7 rfl rfl)
theorem dX3_together_78 : decode cX3_together 78 = .ok (.if_icmp .le 8, 3) := dk_164 0 8 (dk_at dksX3_together_3 8 rfl rfl)
theorem dX3_together_81 : decode cX3_together 81 = .ok (.iload 5, 2) := dk_21 5 (dk_at dksX3_together_3 11 rfl rfl)
theorem dX3_together_83 : decode cX3_together 83 = .ok (.goto 4, 3) := dk_167 0 4 (dk_at dksX3_together_3 13 rfl rfl)
theorem dX3_together_86 : decode cX3_together 86 = .ok (.iload_n 3, 1) := dk_29 (dk_at dksX3_together_3 16 rfl rfl)
theorem dX3_together_87 : decode cX3_together 87 = .ok (.istore_n 3, 1) := dk_62 (dk_at dksX3_together_3 17 rfl rfl)
theorem dX3_together_88 : decode cX3_together 88 = .ok (.iinc 4 1, 3) := dk_132 4 1 (dk_at dksX3_together_3 18 rfl rfl)
theorem dX3_together_91 : decode cX3_together 91 = .ok (.goto (-77), 3) := dk_167 255 179 (dk_at dksX3_together_3 21 rfl rfl)
theorem dX3_together_94 : decode cX3_together 94 = .ok (.iload_n 3, 1) := dk_29 (dk_at dksX3_together_4 0 rfl rfl)
theorem dX3_together_95 : decode cX3_together 95 = .ok (.ireturn, 1) := dk_172 (dk_at dksX3_together_4 1 rfl rfl)
abbrev cX3_lengthBehind : ByteArray := prog_11_method_60_code
def yX3_lengthBehind : MethodName := ⟨RX3, "lengthBehind", "(II)I"⟩
def dkwX3_lengthBehind_4 : List UInt8 := [167, 255, 167, 29, 172]
abbrev dktX3_lengthBehind_4 : List UInt8 := dkwX3_lengthBehind_4 ++ []
def dkwX3_lengthBehind_3 : List UInt8 := [182, 0, 57, 158, 0, 12, 42, 180, 0, 7, 3, 46, 167, 0, 4, 3, 96, 96, 62, 132, 4, 1]
abbrev dktX3_lengthBehind_3 : List UInt8 := dkwX3_lengthBehind_3 ++ dktX3_lengthBehind_4
def dkwX3_lengthBehind_2 : List UInt8 := [184, 0, 75, 54, 5, 132, 6, 1, 167, 255, 240, 29, 42, 21, 4, 21, 5, 182, 0, 181, 42, 21, 4, 8]
abbrev dktX3_lengthBehind_2 : List UInt8 := dkwX3_lengthBehind_2 ++ dktX3_lengthBehind_3
def dkwX3_lengthBehind_1 : List UInt8 := [27, 160, 0, 66, 42, 21, 4, 6, 182, 0, 57, 54, 5, 3, 54, 6, 21, 6, 28, 162, 0, 16, 21, 5]
abbrev dktX3_lengthBehind_1 : List UInt8 := dkwX3_lengthBehind_1 ++ dktX3_lengthBehind_2
def dkwX3_lengthBehind_0 : List UInt8 := [3, 62, 3, 54, 4, 21, 4, 42, 180, 0, 7, 16, 8, 46, 162, 0, 83, 42, 21, 4, 7, 182, 0, 57]
abbrev dktX3_lengthBehind_0 : List UInt8 := dkwX3_lengthBehind_0 ++ dktX3_lengthBehind_1
theorem dksX3_lengthBehind_0 : cX3_lengthBehind.data.toList.drop 0 = dktX3_lengthBehind_0 := by decide +kernel
theorem dksX3_lengthBehind_1 : cX3_lengthBehind.data.toList.drop 24 = dktX3_lengthBehind_1 := dk_seg dksX3_lengthBehind_0 24 rfl rfl
theorem dksX3_lengthBehind_2 : cX3_lengthBehind.data.toList.drop 48 = dktX3_lengthBehind_2 := dk_seg dksX3_lengthBehind_1 24 rfl rfl
theorem dksX3_lengthBehind_3 : cX3_lengthBehind.data.toList.drop 72 = dktX3_lengthBehind_3 := dk_seg dksX3_lengthBehind_2 24 rfl rfl
theorem dksX3_lengthBehind_4 : cX3_lengthBehind.data.toList.drop 94 = dktX3_lengthBehind_4 := dk_seg dksX3_lengthBehind_3 22 rfl rfl
theorem dX3_lengthBehind_0 : decode cX3_lengthBehind 0 = .ok (.iconst 0, 1) := dk_3 (dk_at dksX3_lengthBehind_0 0 rfl rfl)
theorem dX3_lengthBehind_1 : decode cX3_lengthBehind 1 = .ok (.istore_n 3, 1) := dk_62 (dk_at dksX3_lengthBehind_0 1 rfl rfl)
theorem dX3_lengthBehind_2 : decode cX3_lengthBehind 2 = .ok (.iconst 0, 1) := dk_3 (dk_at dksX3_lengthBehind_0 2 rfl rfl)
theorem dX3_lengthBehind_3 : decode cX3_lengthBehind 3 = .ok (.istore 4, 2) := dk_54 4 (dk_at dksX3_lengthBehind_0 3 rfl rfl)
theorem dX3_lengthBehind_5 : decode cX3_lengthBehind 5 = .ok (.iload 4, 2) := dk_21 4 (dk_at dksX3_lengthBehind_0 5 rfl rfl)
theorem dX3_lengthBehind_7 : decode cX3_lengthBehind 7 = .ok (.aload_n 0, 1) := dk_42 (dk_at dksX3_lengthBehind_0 7 rfl rfl)
theorem dX3_lengthBehind_8 : decode cX3_lengthBehind 8 = .ok (.getfield 7, 3) := dk_180 0 7 (dk_at dksX3_lengthBehind_0 8 rfl rfl)
theorem dX3_lengthBehind_11 : decode cX3_lengthBehind 11 = .ok (.bipush 8, 2) := dk_16 8 (dk_at dksX3_lengthBehind_0 11 rfl rfl)
theorem dX3_lengthBehind_13 : decode cX3_lengthBehind 13 = .ok (.iaload, 1) := dk_46 (dk_at dksX3_lengthBehind_0 13 rfl rfl)
theorem dX3_lengthBehind_14 : decode cX3_lengthBehind 14 = .ok (.if_icmp .ge 83, 3) := dk_162 0 83 (dk_at dksX3_lengthBehind_0 14 rfl rfl)
theorem dX3_lengthBehind_17 : decode cX3_lengthBehind 17 = .ok (.aload_n 0, 1) := dk_42 (dk_at dksX3_lengthBehind_0 17 rfl rfl)
theorem dX3_lengthBehind_18 : decode cX3_lengthBehind 18 = .ok (.iload 4, 2) := dk_21 4 (dk_at dksX3_lengthBehind_0 18 rfl rfl)
theorem dX3_lengthBehind_20 : decode cX3_lengthBehind 20 = .ok (.iconst 4, 1) := dk_7 (dk_at dksX3_lengthBehind_0 20 rfl rfl)
theorem dX3_lengthBehind_21 : decode cX3_lengthBehind 21 = .ok (.invokevirtual 57, 3) := dk_182 0 57 (dk_at dksX3_lengthBehind_0 21 rfl rfl)
theorem dX3_lengthBehind_24 : decode cX3_lengthBehind 24 = .ok (.iload_n 1, 1) := dk_27 (dk_at dksX3_lengthBehind_1 0 rfl rfl)
theorem dX3_lengthBehind_25 : decode cX3_lengthBehind 25 = .ok (.if_icmp .ne 66, 3) := dk_160 0 66 (dk_at dksX3_lengthBehind_1 1 rfl rfl)
theorem dX3_lengthBehind_28 : decode cX3_lengthBehind 28 = .ok (.aload_n 0, 1) := dk_42 (dk_at dksX3_lengthBehind_1 4 rfl rfl)
theorem dX3_lengthBehind_29 : decode cX3_lengthBehind 29 = .ok (.iload 4, 2) := dk_21 4 (dk_at dksX3_lengthBehind_1 5 rfl rfl)
theorem dX3_lengthBehind_31 : decode cX3_lengthBehind 31 = .ok (.iconst 3, 1) := dk_6 (dk_at dksX3_lengthBehind_1 7 rfl rfl)
theorem dX3_lengthBehind_32 : decode cX3_lengthBehind 32 = .ok (.invokevirtual 57, 3) := dk_182 0 57 (dk_at dksX3_lengthBehind_1 8 rfl rfl)
theorem dX3_lengthBehind_35 : decode cX3_lengthBehind 35 = .ok (.istore 5, 2) := dk_54 5 (dk_at dksX3_lengthBehind_1 11 rfl rfl)
theorem dX3_lengthBehind_37 : decode cX3_lengthBehind 37 = .ok (.iconst 0, 1) := dk_3 (dk_at dksX3_lengthBehind_1 13 rfl rfl)
theorem dX3_lengthBehind_38 : decode cX3_lengthBehind 38 = .ok (.istore 6, 2) := dk_54 6 (dk_at dksX3_lengthBehind_1 14 rfl rfl)
theorem dX3_lengthBehind_40 : decode cX3_lengthBehind 40 = .ok (.iload 6, 2) := dk_21 6 (dk_at dksX3_lengthBehind_1 16 rfl rfl)
theorem dX3_lengthBehind_42 : decode cX3_lengthBehind 42 = .ok (.iload_n 2, 1) := dk_28 (dk_at dksX3_lengthBehind_1 18 rfl rfl)
theorem dX3_lengthBehind_43 : decode cX3_lengthBehind 43 = .ok (.if_icmp .ge 16, 3) := dk_162 0 16 (dk_at dksX3_lengthBehind_1 19 rfl rfl)
theorem dX3_lengthBehind_46 : decode cX3_lengthBehind 46 = .ok (.iload 5, 2) := dk_21 5 (dk_at dksX3_lengthBehind_1 22 rfl rfl)
theorem dX3_lengthBehind_48 : decode cX3_lengthBehind 48 = .ok (.invokestatic 75, 3) := dk_184 0 75 (dk_at dksX3_lengthBehind_2 0 rfl rfl)
theorem dX3_lengthBehind_51 : decode cX3_lengthBehind 51 = .ok (.istore 5, 2) := dk_54 5 (dk_at dksX3_lengthBehind_2 3 rfl rfl)
theorem dX3_lengthBehind_53 : decode cX3_lengthBehind 53 = .ok (.iinc 6 1, 3) := dk_132 6 1 (dk_at dksX3_lengthBehind_2 5 rfl rfl)
theorem dX3_lengthBehind_56 : decode cX3_lengthBehind 56 = .ok (.goto (-16), 3) := dk_167 255 240 (dk_at dksX3_lengthBehind_2 8 rfl rfl)
theorem dX3_lengthBehind_59 : decode cX3_lengthBehind 59 = .ok (.iload_n 3, 1) := dk_29 (dk_at dksX3_lengthBehind_2 11 rfl rfl)
theorem dX3_lengthBehind_60 : decode cX3_lengthBehind 60 = .ok (.aload_n 0, 1) := dk_42 (dk_at dksX3_lengthBehind_2 12 rfl rfl)
theorem dX3_lengthBehind_61 : decode cX3_lengthBehind 61 = .ok (.iload 4, 2) := dk_21 4 (dk_at dksX3_lengthBehind_2 13 rfl rfl)
theorem dX3_lengthBehind_63 : decode cX3_lengthBehind 63 = .ok (.iload 5, 2) := dk_21 5 (dk_at dksX3_lengthBehind_2 15 rfl rfl)
theorem dX3_lengthBehind_65 : decode cX3_lengthBehind 65 = .ok (.invokevirtual 181, 3) := dk_182 0 181 (dk_at dksX3_lengthBehind_2 17 rfl rfl)
theorem dX3_lengthBehind_68 : decode cX3_lengthBehind 68 = .ok (.aload_n 0, 1) := dk_42 (dk_at dksX3_lengthBehind_2 20 rfl rfl)
theorem dX3_lengthBehind_69 : decode cX3_lengthBehind 69 = .ok (.iload 4, 2) := dk_21 4 (dk_at dksX3_lengthBehind_2 21 rfl rfl)
theorem dX3_lengthBehind_71 : decode cX3_lengthBehind 71 = .ok (.iconst 5, 1) := dk_8 (dk_at dksX3_lengthBehind_2 23 rfl rfl)
theorem dX3_lengthBehind_72 : decode cX3_lengthBehind 72 = .ok (.invokevirtual 57, 3) := dk_182 0 57 (dk_at dksX3_lengthBehind_3 0 rfl rfl)
theorem dX3_lengthBehind_75 : decode cX3_lengthBehind 75 = .ok (.ifCond .le 12, 3) := dk_158 0 12 (dk_at dksX3_lengthBehind_3 3 rfl rfl)
theorem dX3_lengthBehind_78 : decode cX3_lengthBehind 78 = .ok (.aload_n 0, 1) := dk_42 (dk_at dksX3_lengthBehind_3 6 rfl rfl)
theorem dX3_lengthBehind_79 : decode cX3_lengthBehind 79 = .ok (.getfield 7, 3) := dk_180 0 7 (dk_at dksX3_lengthBehind_3 7 rfl rfl)
theorem dX3_lengthBehind_82 : decode cX3_lengthBehind 82 = .ok (.iconst 0, 1) := dk_3 (dk_at dksX3_lengthBehind_3 10 rfl rfl)
theorem dX3_lengthBehind_83 : decode cX3_lengthBehind 83 = .ok (.iaload, 1) := dk_46 (dk_at dksX3_lengthBehind_3 11 rfl rfl)
theorem dX3_lengthBehind_84 : decode cX3_lengthBehind 84 = .ok (.goto 4, 3) := dk_167 0 4 (dk_at dksX3_lengthBehind_3 12 rfl rfl)
theorem dX3_lengthBehind_87 : decode cX3_lengthBehind 87 = .ok (.iconst 0, 1) := dk_3 (dk_at dksX3_lengthBehind_3 15 rfl rfl)
theorem dX3_lengthBehind_88 : decode cX3_lengthBehind 88 = .ok (.iadd, 1) := dk_96 (dk_at dksX3_lengthBehind_3 16 rfl rfl)
theorem dX3_lengthBehind_89 : decode cX3_lengthBehind 89 = .ok (.iadd, 1) := dk_96 (dk_at dksX3_lengthBehind_3 17 rfl rfl)
theorem dX3_lengthBehind_90 : decode cX3_lengthBehind 90 = .ok (.istore_n 3, 1) := dk_62 (dk_at dksX3_lengthBehind_3 18 rfl rfl)
theorem dX3_lengthBehind_91 : decode cX3_lengthBehind 91 = .ok (.iinc 4 1, 3) := dk_132 4 1 (dk_at dksX3_lengthBehind_3 19 rfl rfl)
theorem dX3_lengthBehind_94 : decode cX3_lengthBehind 94 = .ok (.goto (-89), 3) := dk_167 255 167 (dk_at dksX3_lengthBehind_4 0 rfl rfl)
theorem dX3_lengthBehind_97 : decode cX3_lengthBehind 97 = .ok (.iload_n 3, 1) := dk_29 (dk_at dksX3_lengthBehind_4 3 rfl rfl)
theorem dX3_lengthBehind_98 : decode cX3_lengthBehind 98 = .ok (.ireturn, 1) := dk_172 (dk_at dksX3_lengthBehind_4 4 rfl rfl)
abbrev cX3_ranked : ByteArray := prog_11_method_66_code
def yX3_ranked : MethodName := ⟨RX3, "ranked", "(II)I"⟩
def dkwX3_ranked_1 : List UInt8 := [167, 0, 8, 42, 4, 182, 0, 50, 172]
abbrev dktX3_ranked_1 : List UInt8 := dkwX3_ranked_1 ++ []
def dkwX3_ranked_0 : List UInt8 := [42, 3, 181, 0, 38, 27, 3, 5, 184, 0, 42, 153, 0, 16, 28, 155, 0, 12, 42, 27, 28, 182, 0, 199]
abbrev dktX3_ranked_0 : List UInt8 := dkwX3_ranked_0 ++ dktX3_ranked_1
theorem dksX3_ranked_0 : cX3_ranked.data.toList.drop 0 = dktX3_ranked_0 := by decide +kernel
theorem dksX3_ranked_1 : cX3_ranked.data.toList.drop 24 = dktX3_ranked_1 := dk_seg dksX3_ranked_0 24 rfl rfl
theorem dX3_ranked_0 : decode cX3_ranked 0 = .ok (.aload_n 0, 1) := dk_42 (dk_at dksX3_ranked_0 0 rfl rfl)
theorem dX3_ranked_1 : decode cX3_ranked 1 = .ok (.iconst 0, 1) := dk_3 (dk_at dksX3_ranked_0 1 rfl rfl)
theorem dX3_ranked_2 : decode cX3_ranked 2 = .ok (.putfield 38, 3) := dk_181 0 38 (dk_at dksX3_ranked_0 2 rfl rfl)
theorem dX3_ranked_5 : decode cX3_ranked 5 = .ok (.iload_n 1, 1) := dk_27 (dk_at dksX3_ranked_0 5 rfl rfl)
theorem dX3_ranked_6 : decode cX3_ranked 6 = .ok (.iconst 0, 1) := dk_3 (dk_at dksX3_ranked_0 6 rfl rfl)
theorem dX3_ranked_7 : decode cX3_ranked 7 = .ok (.iconst 2, 1) := dk_5 (dk_at dksX3_ranked_0 7 rfl rfl)
theorem dX3_ranked_8 : decode cX3_ranked 8 = .ok (.invokestatic 42, 3) := dk_184 0 42 (dk_at dksX3_ranked_0 8 rfl rfl)
theorem dX3_ranked_11 : decode cX3_ranked 11 = .ok (.ifCond .eq 16, 3) := dk_153 0 16 (dk_at dksX3_ranked_0 11 rfl rfl)
theorem dX3_ranked_14 : decode cX3_ranked 14 = .ok (.iload_n 2, 1) := dk_28 (dk_at dksX3_ranked_0 14 rfl rfl)
theorem dX3_ranked_15 : decode cX3_ranked 15 = .ok (.ifCond .lt 12, 3) := dk_155 0 12 (dk_at dksX3_ranked_0 15 rfl rfl)
theorem dX3_ranked_18 : decode cX3_ranked 18 = .ok (.aload_n 0, 1) := dk_42 (dk_at dksX3_ranked_0 18 rfl rfl)
theorem dX3_ranked_19 : decode cX3_ranked 19 = .ok (.iload_n 1, 1) := dk_27 (dk_at dksX3_ranked_0 19 rfl rfl)
theorem dX3_ranked_20 : decode cX3_ranked 20 = .ok (.iload_n 2, 1) := dk_28 (dk_at dksX3_ranked_0 20 rfl rfl)
theorem dX3_ranked_21 : decode cX3_ranked 21 = .ok (.invokevirtual 199, 3) := dk_182 0 199 (dk_at dksX3_ranked_0 21 rfl rfl)
theorem dX3_ranked_24 : decode cX3_ranked 24 = .ok (.goto 8, 3) := dk_167 0 8 (dk_at dksX3_ranked_1 0 rfl rfl)
theorem dX3_ranked_27 : decode cX3_ranked 27 = .ok (.aload_n 0, 1) := dk_42 (dk_at dksX3_ranked_1 3 rfl rfl)
theorem dX3_ranked_28 : decode cX3_ranked 28 = .ok (.iconst 1, 1) := dk_4 (dk_at dksX3_ranked_1 4 rfl rfl)
theorem dX3_ranked_29 : decode cX3_ranked 29 = .ok (.invokevirtual 50, 3) := dk_182 0 50 (dk_at dksX3_ranked_1 5 rfl rfl)
theorem dX3_ranked_32 : decode cX3_ranked 32 = .ok (.ireturn, 1) := dk_172 (dk_at dksX3_ranked_1 8 rfl rfl)
abbrev cX3_blockOfRank : ByteArray := prog_11_method_65_code
def yX3_blockOfRank : MethodName := ⟨RX3, "blockOfRank", "(II)I"⟩
def dkwX3_blockOfRank_4 : List UInt8 := [21, 4, 167, 0, 4, 29, 62, 132, 4, 1, 167, 255, 160, 29, 172]
abbrev dktX3_blockOfRank_4 : List UInt8 := dkwX3_blockOfRank_4 ++ []
def dkwX3_blockOfRank_3 : List UInt8 := [162, 0, 7, 4, 167, 0, 4, 3, 96, 54, 5, 132, 6, 1, 167, 255, 197, 21, 5, 28, 160, 0, 8]
abbrev dktX3_blockOfRank_3 : List UInt8 := dkwX3_blockOfRank_3 ++ dktX3_blockOfRank_4
def dkwX3_blockOfRank_2 : List UInt8 := [182, 0, 196, 100, 54, 7, 21, 5, 21, 7, 157, 0, 15, 21, 7, 154, 0, 14, 21, 6, 21, 4]
abbrev dktX3_blockOfRank_2 : List UInt8 := dkwX3_blockOfRank_2 ++ dktX3_blockOfRank_3
def dkwX3_blockOfRank_1 : List UInt8 := [21, 6, 42, 180, 0, 7, 16, 8, 46, 162, 0, 53, 42, 21, 6, 27, 182, 0, 196, 42, 21, 4, 27]
abbrev dktX3_blockOfRank_1 : List UInt8 := dkwX3_blockOfRank_1 ++ dktX3_blockOfRank_2
def dkwX3_blockOfRank_0 : List UInt8 := [2, 62, 3, 54, 4, 21, 4, 42, 180, 0, 7, 16, 8, 46, 162, 0, 90, 3, 54, 5, 3, 54, 6]
abbrev dktX3_blockOfRank_0 : List UInt8 := dkwX3_blockOfRank_0 ++ dktX3_blockOfRank_1
theorem dksX3_blockOfRank_0 : cX3_blockOfRank.data.toList.drop 0 = dktX3_blockOfRank_0 := by decide +kernel
theorem dksX3_blockOfRank_1 : cX3_blockOfRank.data.toList.drop 23 = dktX3_blockOfRank_1 := dk_seg dksX3_blockOfRank_0 23 rfl rfl
theorem dksX3_blockOfRank_2 : cX3_blockOfRank.data.toList.drop 46 = dktX3_blockOfRank_2 := dk_seg dksX3_blockOfRank_1 23 rfl rfl
theorem dksX3_blockOfRank_3 : cX3_blockOfRank.data.toList.drop 68 = dktX3_blockOfRank_3 := dk_seg dksX3_blockOfRank_2 22 rfl rfl
theorem dksX3_blockOfRank_4 : cX3_blockOfRank.data.toList.drop 91 = dktX3_blockOfRank_4 := dk_seg dksX3_blockOfRank_3 23 rfl rfl
theorem dX3_blockOfRank_0 : decode cX3_blockOfRank 0 = .ok (.iconst (-1), 1) := dk_2 (dk_at dksX3_blockOfRank_0 0 rfl rfl)
theorem dX3_blockOfRank_1 : decode cX3_blockOfRank 1 = .ok (.istore_n 3, 1) := dk_62 (dk_at dksX3_blockOfRank_0 1 rfl rfl)
theorem dX3_blockOfRank_2 : decode cX3_blockOfRank 2 = .ok (.iconst 0, 1) := dk_3 (dk_at dksX3_blockOfRank_0 2 rfl rfl)
theorem dX3_blockOfRank_3 : decode cX3_blockOfRank 3 = .ok (.istore 4, 2) := dk_54 4 (dk_at dksX3_blockOfRank_0 3 rfl rfl)
theorem dX3_blockOfRank_5 : decode cX3_blockOfRank 5 = .ok (.iload 4, 2) := dk_21 4 (dk_at dksX3_blockOfRank_0 5 rfl rfl)
theorem dX3_blockOfRank_7 : decode cX3_blockOfRank 7 = .ok (.aload_n 0, 1) := dk_42 (dk_at dksX3_blockOfRank_0 7 rfl rfl)
theorem dX3_blockOfRank_8 : decode cX3_blockOfRank 8 = .ok (.getfield 7, 3) := dk_180 0 7 (dk_at dksX3_blockOfRank_0 8 rfl rfl)
theorem dX3_blockOfRank_11 : decode cX3_blockOfRank 11 = .ok (.bipush 8, 2) := dk_16 8 (dk_at dksX3_blockOfRank_0 11 rfl rfl)
theorem dX3_blockOfRank_13 : decode cX3_blockOfRank 13 = .ok (.iaload, 1) := dk_46 (dk_at dksX3_blockOfRank_0 13 rfl rfl)
theorem dX3_blockOfRank_14 : decode cX3_blockOfRank 14 = .ok (.if_icmp .ge 90, 3) := dk_162 0 90 (dk_at dksX3_blockOfRank_0 14 rfl rfl)
theorem dX3_blockOfRank_17 : decode cX3_blockOfRank 17 = .ok (.iconst 0, 1) := dk_3 (dk_at dksX3_blockOfRank_0 17 rfl rfl)
theorem dX3_blockOfRank_18 : decode cX3_blockOfRank 18 = .ok (.istore 5, 2) := dk_54 5 (dk_at dksX3_blockOfRank_0 18 rfl rfl)
theorem dX3_blockOfRank_20 : decode cX3_blockOfRank 20 = .ok (.iconst 0, 1) := dk_3 (dk_at dksX3_blockOfRank_0 20 rfl rfl)
theorem dX3_blockOfRank_21 : decode cX3_blockOfRank 21 = .ok (.istore 6, 2) := dk_54 6 (dk_at dksX3_blockOfRank_0 21 rfl rfl)
theorem dX3_blockOfRank_23 : decode cX3_blockOfRank 23 = .ok (.iload 6, 2) := dk_21 6 (dk_at dksX3_blockOfRank_1 0 rfl rfl)
theorem dX3_blockOfRank_25 : decode cX3_blockOfRank 25 = .ok (.aload_n 0, 1) := dk_42 (dk_at dksX3_blockOfRank_1 2 rfl rfl)
theorem dX3_blockOfRank_26 : decode cX3_blockOfRank 26 = .ok (.getfield 7, 3) := dk_180 0 7 (dk_at dksX3_blockOfRank_1 3 rfl rfl)
theorem dX3_blockOfRank_29 : decode cX3_blockOfRank 29 = .ok (.bipush 8, 2) := dk_16 8 (dk_at dksX3_blockOfRank_1 6 rfl rfl)
theorem dX3_blockOfRank_31 : decode cX3_blockOfRank 31 = .ok (.iaload, 1) := dk_46 (dk_at dksX3_blockOfRank_1 8 rfl rfl)
theorem dX3_blockOfRank_32 : decode cX3_blockOfRank 32 = .ok (.if_icmp .ge 53, 3) := dk_162 0 53 (dk_at dksX3_blockOfRank_1 9 rfl rfl)
theorem dX3_blockOfRank_35 : decode cX3_blockOfRank 35 = .ok (.aload_n 0, 1) := dk_42 (dk_at dksX3_blockOfRank_1 12 rfl rfl)
theorem dX3_blockOfRank_36 : decode cX3_blockOfRank 36 = .ok (.iload 6, 2) := dk_21 6 (dk_at dksX3_blockOfRank_1 13 rfl rfl)
theorem dX3_blockOfRank_38 : decode cX3_blockOfRank 38 = .ok (.iload_n 1, 1) := dk_27 (dk_at dksX3_blockOfRank_1 15 rfl rfl)
theorem dX3_blockOfRank_39 : decode cX3_blockOfRank 39 = .ok (.invokevirtual 196, 3) := dk_182 0 196 (dk_at dksX3_blockOfRank_1 16 rfl rfl)
theorem dX3_blockOfRank_42 : decode cX3_blockOfRank 42 = .ok (.aload_n 0, 1) := dk_42 (dk_at dksX3_blockOfRank_1 19 rfl rfl)
theorem dX3_blockOfRank_43 : decode cX3_blockOfRank 43 = .ok (.iload 4, 2) := dk_21 4 (dk_at dksX3_blockOfRank_1 20 rfl rfl)
theorem dX3_blockOfRank_45 : decode cX3_blockOfRank 45 = .ok (.iload_n 1, 1) := dk_27 (dk_at dksX3_blockOfRank_1 22 rfl rfl)
theorem dX3_blockOfRank_46 : decode cX3_blockOfRank 46 = .ok (.invokevirtual 196, 3) := dk_182 0 196 (dk_at dksX3_blockOfRank_2 0 rfl rfl)
theorem dX3_blockOfRank_49 : decode cX3_blockOfRank 49 = .ok (.isub, 1) := dk_100 (dk_at dksX3_blockOfRank_2 3 rfl rfl)
theorem dX3_blockOfRank_50 : decode cX3_blockOfRank 50 = .ok (.istore 7, 2) := dk_54 7 (dk_at dksX3_blockOfRank_2 4 rfl rfl)
theorem dX3_blockOfRank_52 : decode cX3_blockOfRank 52 = .ok (.iload 5, 2) := dk_21 5 (dk_at dksX3_blockOfRank_2 6 rfl rfl)
theorem dX3_blockOfRank_54 : decode cX3_blockOfRank 54 = .ok (.iload 7, 2) := dk_21 7 (dk_at dksX3_blockOfRank_2 8 rfl rfl)
theorem dX3_blockOfRank_56 : decode cX3_blockOfRank 56 = .ok (.ifCond .gt 15, 3) := dk_157 0 15 (dk_at dksX3_blockOfRank_2 10 rfl rfl)
theorem dX3_blockOfRank_59 : decode cX3_blockOfRank 59 = .ok (.iload 7, 2) := dk_21 7 (dk_at dksX3_blockOfRank_2 13 rfl rfl)
theorem dX3_blockOfRank_61 : decode cX3_blockOfRank 61 = .ok (.ifCond .ne 14, 3) := dk_154 0 14 (dk_at dksX3_blockOfRank_2 15 rfl rfl)
theorem dX3_blockOfRank_64 : decode cX3_blockOfRank 64 = .ok (.iload 6, 2) := dk_21 6 (dk_at dksX3_blockOfRank_2 18 rfl rfl)
theorem dX3_blockOfRank_66 : decode cX3_blockOfRank 66 = .ok (.iload 4, 2) := dk_21 4 (dk_at dksX3_blockOfRank_2 20 rfl rfl)
theorem dX3_blockOfRank_68 : decode cX3_blockOfRank 68 = .ok (.if_icmp .ge 7, 3) := dk_162 0 7 (dk_at dksX3_blockOfRank_3 0 rfl rfl)
theorem dX3_blockOfRank_71 : decode cX3_blockOfRank 71 = .ok (.iconst 1, 1) := dk_4 (dk_at dksX3_blockOfRank_3 3 rfl rfl)
theorem dX3_blockOfRank_72 : decode cX3_blockOfRank 72 = .ok (.goto 4, 3) := dk_167 0 4 (dk_at dksX3_blockOfRank_3 4 rfl rfl)
theorem dX3_blockOfRank_75 : decode cX3_blockOfRank 75 = .ok (.iconst 0, 1) := dk_3 (dk_at dksX3_blockOfRank_3 7 rfl rfl)
theorem dX3_blockOfRank_76 : decode cX3_blockOfRank 76 = .ok (.iadd, 1) := dk_96 (dk_at dksX3_blockOfRank_3 8 rfl rfl)
theorem dX3_blockOfRank_77 : decode cX3_blockOfRank 77 = .ok (.istore 5, 2) := dk_54 5 (dk_at dksX3_blockOfRank_3 9 rfl rfl)
theorem dX3_blockOfRank_79 : decode cX3_blockOfRank 79 = .ok (.iinc 6 1, 3) := dk_132 6 1 (dk_at dksX3_blockOfRank_3 11 rfl rfl)
theorem dX3_blockOfRank_82 : decode cX3_blockOfRank 82 = .ok (.goto (-59), 3) := dk_167 255 197 (dk_at dksX3_blockOfRank_3 14 rfl rfl)
theorem dX3_blockOfRank_85 : decode cX3_blockOfRank 85 = .ok (.iload 5, 2) := dk_21 5 (dk_at dksX3_blockOfRank_3 17 rfl rfl)
theorem dX3_blockOfRank_87 : decode cX3_blockOfRank 87 = .ok (.iload_n 2, 1) := dk_28 (dk_at dksX3_blockOfRank_3 19 rfl rfl)
theorem dX3_blockOfRank_88 : decode cX3_blockOfRank 88 = .ok (.if_icmp .ne 8, 3) := dk_160 0 8 (dk_at dksX3_blockOfRank_3 20 rfl rfl)
theorem dX3_blockOfRank_91 : decode cX3_blockOfRank 91 = .ok (.iload 4, 2) := dk_21 4 (dk_at dksX3_blockOfRank_4 0 rfl rfl)
theorem dX3_blockOfRank_93 : decode cX3_blockOfRank 93 = .ok (.goto 4, 3) := dk_167 0 4 (dk_at dksX3_blockOfRank_4 2 rfl rfl)
theorem dX3_blockOfRank_96 : decode cX3_blockOfRank 96 = .ok (.iload_n 3, 1) := dk_29 (dk_at dksX3_blockOfRank_4 5 rfl rfl)
theorem dX3_blockOfRank_97 : decode cX3_blockOfRank 97 = .ok (.istore_n 3, 1) := dk_62 (dk_at dksX3_blockOfRank_4 6 rfl rfl)
theorem dX3_blockOfRank_98 : decode cX3_blockOfRank 98 = .ok (.iinc 4 1, 3) := dk_132 4 1 (dk_at dksX3_blockOfRank_4 7 rfl rfl)
theorem dX3_blockOfRank_101 : decode cX3_blockOfRank 101 = .ok (.goto (-96), 3) := dk_167 255 160 (dk_at dksX3_blockOfRank_4 10 rfl rfl)
theorem dX3_blockOfRank_104 : decode cX3_blockOfRank 104 = .ok (.iload_n 3, 1) := dk_29 (dk_at dksX3_blockOfRank_4 13 rfl rfl)
theorem dX3_blockOfRank_105 : decode cX3_blockOfRank 105 = .ok (.ireturn, 1) := dk_172 (dk_at dksX3_blockOfRank_4 14 rfl rfl)
abbrev cX3_keyOf : ByteArray := prog_11_method_64_code
def yX3_keyOf : MethodName := ⟨RX3, "keyOf", "(II)I"⟩
def dkwX3_keyOf_1 : List UInt8 := [182, 0, 57, 167, 0, 11, 42, 27, 182, 0, 61, 184, 0, 64, 172]
abbrev dktX3_keyOf_1 : List UInt8 := dkwX3_keyOf_1 ++ []
def dkwX3_keyOf_0 : List UInt8 := [28, 154, 0, 13, 42, 27, 3, 182, 0, 57, 116, 167, 0, 25, 28, 4, 160, 0, 12, 42, 27, 6]
abbrev dktX3_keyOf_0 : List UInt8 := dkwX3_keyOf_0 ++ dktX3_keyOf_1
theorem dksX3_keyOf_0 : cX3_keyOf.data.toList.drop 0 = dktX3_keyOf_0 := by decide +kernel
theorem dksX3_keyOf_1 : cX3_keyOf.data.toList.drop 22 = dktX3_keyOf_1 := dk_seg dksX3_keyOf_0 22 rfl rfl
theorem dX3_keyOf_0 : decode cX3_keyOf 0 = .ok (.iload_n 2, 1) := dk_28 (dk_at dksX3_keyOf_0 0 rfl rfl)
theorem dX3_keyOf_1 : decode cX3_keyOf 1 = .ok (.ifCond .ne 13, 3) := dk_154 0 13 (dk_at dksX3_keyOf_0 1 rfl rfl)
theorem dX3_keyOf_4 : decode cX3_keyOf 4 = .ok (.aload_n 0, 1) := dk_42 (dk_at dksX3_keyOf_0 4 rfl rfl)
theorem dX3_keyOf_5 : decode cX3_keyOf 5 = .ok (.iload_n 1, 1) := dk_27 (dk_at dksX3_keyOf_0 5 rfl rfl)
theorem dX3_keyOf_6 : decode cX3_keyOf 6 = .ok (.iconst 0, 1) := dk_3 (dk_at dksX3_keyOf_0 6 rfl rfl)
theorem dX3_keyOf_7 : decode cX3_keyOf 7 = .ok (.invokevirtual 57, 3) := dk_182 0 57 (dk_at dksX3_keyOf_0 7 rfl rfl)
theorem dX3_keyOf_10 : decode cX3_keyOf 10 = .ok (.ineg, 1) := dk_116 (dk_at dksX3_keyOf_0 10 rfl rfl)
theorem dX3_keyOf_11 : decode cX3_keyOf 11 = .ok (.goto 25, 3) := dk_167 0 25 (dk_at dksX3_keyOf_0 11 rfl rfl)
theorem dX3_keyOf_14 : decode cX3_keyOf 14 = .ok (.iload_n 2, 1) := dk_28 (dk_at dksX3_keyOf_0 14 rfl rfl)
theorem dX3_keyOf_15 : decode cX3_keyOf 15 = .ok (.iconst 1, 1) := dk_4 (dk_at dksX3_keyOf_0 15 rfl rfl)
theorem dX3_keyOf_16 : decode cX3_keyOf 16 = .ok (.if_icmp .ne 12, 3) := dk_160 0 12 (dk_at dksX3_keyOf_0 16 rfl rfl)
theorem dX3_keyOf_19 : decode cX3_keyOf 19 = .ok (.aload_n 0, 1) := dk_42 (dk_at dksX3_keyOf_0 19 rfl rfl)
theorem dX3_keyOf_20 : decode cX3_keyOf 20 = .ok (.iload_n 1, 1) := dk_27 (dk_at dksX3_keyOf_0 20 rfl rfl)
theorem dX3_keyOf_21 : decode cX3_keyOf 21 = .ok (.iconst 3, 1) := dk_6 (dk_at dksX3_keyOf_0 21 rfl rfl)
theorem dX3_keyOf_22 : decode cX3_keyOf 22 = .ok (.invokevirtual 57, 3) := dk_182 0 57 (dk_at dksX3_keyOf_1 0 rfl rfl)
theorem dX3_keyOf_25 : decode cX3_keyOf 25 = .ok (.goto 11, 3) := dk_167 0 11 (dk_at dksX3_keyOf_1 3 rfl rfl)
theorem dX3_keyOf_28 : decode cX3_keyOf 28 = .ok (.aload_n 0, 1) := dk_42 (dk_at dksX3_keyOf_1 6 rfl rfl)
theorem dX3_keyOf_29 : decode cX3_keyOf 29 = .ok (.iload_n 1, 1) := dk_27 (dk_at dksX3_keyOf_1 7 rfl rfl)
theorem dX3_keyOf_30 : decode cX3_keyOf 30 = .ok (.invokevirtual 61, 3) := dk_182 0 61 (dk_at dksX3_keyOf_1 8 rfl rfl)
theorem dX3_keyOf_33 : decode cX3_keyOf 33 = .ok (.invokestatic 64, 3) := dk_184 0 64 (dk_at dksX3_keyOf_1 11 rfl rfl)
theorem dX3_keyOf_36 : decode cX3_keyOf 36 = .ok (.ireturn, 1) := dk_172 (dk_at dksX3_keyOf_1 14 rfl rfl)
abbrev cX3_lengths : ByteArray := prog_11_method_69_code
def yX3_lengths : MethodName := ⟨RX3, "lengths", "(I)I"⟩
def dkwX3_lengths_0 : List UInt8 := [42, 3, 181, 0, 38, 27, 2, 162, 0, 11, 42, 4, 182, 0, 50, 167, 0, 8, 42, 27, 182, 0, 205, 172]
abbrev dktX3_lengths_0 : List UInt8 := dkwX3_lengths_0 ++ []
theorem dksX3_lengths_0 : cX3_lengths.data.toList.drop 0 = dktX3_lengths_0 := by decide +kernel
theorem dX3_lengths_0 : decode cX3_lengths 0 = .ok (.aload_n 0, 1) := dk_42 (dk_at dksX3_lengths_0 0 rfl rfl)
theorem dX3_lengths_1 : decode cX3_lengths 1 = .ok (.iconst 0, 1) := dk_3 (dk_at dksX3_lengths_0 1 rfl rfl)
theorem dX3_lengths_2 : decode cX3_lengths 2 = .ok (.putfield 38, 3) := dk_181 0 38 (dk_at dksX3_lengths_0 2 rfl rfl)
theorem dX3_lengths_5 : decode cX3_lengths 5 = .ok (.iload_n 1, 1) := dk_27 (dk_at dksX3_lengths_0 5 rfl rfl)
theorem dX3_lengths_6 : decode cX3_lengths 6 = .ok (.iconst (-1), 1) := dk_2 (dk_at dksX3_lengths_0 6 rfl rfl)
theorem dX3_lengths_7 : decode cX3_lengths 7 = .ok (.if_icmp .ge 11, 3) := dk_162 0 11 (dk_at dksX3_lengths_0 7 rfl rfl)
theorem dX3_lengths_10 : decode cX3_lengths 10 = .ok (.aload_n 0, 1) := dk_42 (dk_at dksX3_lengths_0 10 rfl rfl)
theorem dX3_lengths_11 : decode cX3_lengths 11 = .ok (.iconst 1, 1) := dk_4 (dk_at dksX3_lengths_0 11 rfl rfl)
theorem dX3_lengths_12 : decode cX3_lengths 12 = .ok (.invokevirtual 50, 3) := dk_182 0 50 (dk_at dksX3_lengths_0 12 rfl rfl)
theorem dX3_lengths_15 : decode cX3_lengths 15 = .ok (.goto 8, 3) := dk_167 0 8 (dk_at dksX3_lengths_0 15 rfl rfl)
theorem dX3_lengths_18 : decode cX3_lengths 18 = .ok (.aload_n 0, 1) := dk_42 (dk_at dksX3_lengths_0 18 rfl rfl)
theorem dX3_lengths_19 : decode cX3_lengths 19 = .ok (.iload_n 1, 1) := dk_27 (dk_at dksX3_lengths_0 19 rfl rfl)
theorem dX3_lengths_20 : decode cX3_lengths 20 = .ok (.invokevirtual 205, 3) := dk_182 0 205 (dk_at dksX3_lengths_0 20 rfl rfl)
theorem dX3_lengths_23 : decode cX3_lengths 23 = .ok (.ireturn, 1) := dk_172 (dk_at dksX3_lengths_0 23 rfl rfl)
abbrev cX3_lengthOfRank : ByteArray := prog_11_method_68_code
def yX3_lengthOfRank : MethodName := ⟨RX3, "lengthOfRank", "(I)I"⟩
def dkwX3_lengthOfRank_1 : List UInt8 := [132, 2, 1, 167, 255, 237, 27, 2, 160, 0, 7, 28, 167, 0, 4, 29, 172]
abbrev dktX3_lengthOfRank_1 : List UInt8 := dkwX3_lengthOfRank_1 ++ []
def dkwX3_lengthOfRank_0 : List UInt8 := [3, 61, 42, 3, 182, 0, 202, 62, 29, 2, 159, 0, 20, 28, 27, 159, 0, 15, 42, 29, 182, 0, 202, 62]
abbrev dktX3_lengthOfRank_0 : List UInt8 := dkwX3_lengthOfRank_0 ++ dktX3_lengthOfRank_1
theorem dksX3_lengthOfRank_0 : cX3_lengthOfRank.data.toList.drop 0 = dktX3_lengthOfRank_0 := by decide +kernel
theorem dksX3_lengthOfRank_1 : cX3_lengthOfRank.data.toList.drop 24 = dktX3_lengthOfRank_1 := dk_seg dksX3_lengthOfRank_0 24 rfl rfl
theorem dX3_lengthOfRank_0 : decode cX3_lengthOfRank 0 = .ok (.iconst 0, 1) := dk_3 (dk_at dksX3_lengthOfRank_0 0 rfl rfl)
theorem dX3_lengthOfRank_1 : decode cX3_lengthOfRank 1 = .ok (.istore_n 2, 1) := dk_61 (dk_at dksX3_lengthOfRank_0 1 rfl rfl)
theorem dX3_lengthOfRank_2 : decode cX3_lengthOfRank 2 = .ok (.aload_n 0, 1) := dk_42 (dk_at dksX3_lengthOfRank_0 2 rfl rfl)
theorem dX3_lengthOfRank_3 : decode cX3_lengthOfRank 3 = .ok (.iconst 0, 1) := dk_3 (dk_at dksX3_lengthOfRank_0 3 rfl rfl)
theorem dX3_lengthOfRank_4 : decode cX3_lengthOfRank 4 = .ok (.invokevirtual 202, 3) := dk_182 0 202 (dk_at dksX3_lengthOfRank_0 4 rfl rfl)
theorem dX3_lengthOfRank_7 : decode cX3_lengthOfRank 7 = .ok (.istore_n 3, 1) := dk_62 (dk_at dksX3_lengthOfRank_0 7 rfl rfl)
theorem dX3_lengthOfRank_8 : decode cX3_lengthOfRank 8 = .ok (.iload_n 3, 1) := dk_29 (dk_at dksX3_lengthOfRank_0 8 rfl rfl)
theorem dX3_lengthOfRank_9 : decode cX3_lengthOfRank 9 = .ok (.iconst (-1), 1) := dk_2 (dk_at dksX3_lengthOfRank_0 9 rfl rfl)
theorem dX3_lengthOfRank_10 : decode cX3_lengthOfRank 10 = .ok (.if_icmp .eq 20, 3) := dk_159 0 20 (dk_at dksX3_lengthOfRank_0 10 rfl rfl)
theorem dX3_lengthOfRank_13 : decode cX3_lengthOfRank 13 = .ok (.iload_n 2, 1) := dk_28 (dk_at dksX3_lengthOfRank_0 13 rfl rfl)
theorem dX3_lengthOfRank_14 : decode cX3_lengthOfRank 14 = .ok (.iload_n 1, 1) := dk_27 (dk_at dksX3_lengthOfRank_0 14 rfl rfl)
theorem dX3_lengthOfRank_15 : decode cX3_lengthOfRank 15 = .ok (.if_icmp .eq 15, 3) := dk_159 0 15 (dk_at dksX3_lengthOfRank_0 15 rfl rfl)
theorem dX3_lengthOfRank_18 : decode cX3_lengthOfRank 18 = .ok (.aload_n 0, 1) := dk_42 (dk_at dksX3_lengthOfRank_0 18 rfl rfl)
theorem dX3_lengthOfRank_19 : decode cX3_lengthOfRank 19 = .ok (.iload_n 3, 1) := dk_29 (dk_at dksX3_lengthOfRank_0 19 rfl rfl)
theorem dX3_lengthOfRank_20 : decode cX3_lengthOfRank 20 = .ok (.invokevirtual 202, 3) := dk_182 0 202 (dk_at dksX3_lengthOfRank_0 20 rfl rfl)
theorem dX3_lengthOfRank_23 : decode cX3_lengthOfRank 23 = .ok (.istore_n 3, 1) := dk_62 (dk_at dksX3_lengthOfRank_0 23 rfl rfl)
theorem dX3_lengthOfRank_24 : decode cX3_lengthOfRank 24 = .ok (.iinc 2 1, 3) := dk_132 2 1 (dk_at dksX3_lengthOfRank_1 0 rfl rfl)
theorem dX3_lengthOfRank_27 : decode cX3_lengthOfRank 27 = .ok (.goto (-19), 3) := dk_167 255 237 (dk_at dksX3_lengthOfRank_1 3 rfl rfl)
theorem dX3_lengthOfRank_30 : decode cX3_lengthOfRank 30 = .ok (.iload_n 1, 1) := dk_27 (dk_at dksX3_lengthOfRank_1 6 rfl rfl)
theorem dX3_lengthOfRank_31 : decode cX3_lengthOfRank 31 = .ok (.iconst (-1), 1) := dk_2 (dk_at dksX3_lengthOfRank_1 7 rfl rfl)
theorem dX3_lengthOfRank_32 : decode cX3_lengthOfRank 32 = .ok (.if_icmp .ne 7, 3) := dk_160 0 7 (dk_at dksX3_lengthOfRank_1 8 rfl rfl)
theorem dX3_lengthOfRank_35 : decode cX3_lengthOfRank 35 = .ok (.iload_n 2, 1) := dk_28 (dk_at dksX3_lengthOfRank_1 11 rfl rfl)
theorem dX3_lengthOfRank_36 : decode cX3_lengthOfRank 36 = .ok (.goto 4, 3) := dk_167 0 4 (dk_at dksX3_lengthOfRank_1 12 rfl rfl)
theorem dX3_lengthOfRank_39 : decode cX3_lengthOfRank 39 = .ok (.iload_n 3, 1) := dk_29 (dk_at dksX3_lengthOfRank_1 15 rfl rfl)
theorem dX3_lengthOfRank_40 : decode cX3_lengthOfRank 40 = .ok (.ireturn, 1) := dk_172 (dk_at dksX3_lengthOfRank_1 16 rfl rfl)
abbrev cX3_lengthBeyond : ByteArray := prog_11_method_67_code
def yX3_lengthBeyond : MethodName := ⟨RX3, "lengthBeyond", "(I)I"⟩
def dkwX3_lengthBeyond_2 : List UInt8 := [21, 4, 167, 0, 4, 28, 61, 132, 3, 1, 167, 255, 202, 28, 172]
abbrev dktX3_lengthBeyond_2 : List UInt8 := dkwX3_lengthBeyond_2 ++ []
def dkwX3_lengthBeyond_1 : List UInt8 := [29, 182, 0, 78, 153, 0, 25, 21, 4, 27, 164, 0, 19, 28, 2, 159, 0, 9, 21, 4, 28, 162, 0, 8]
abbrev dktX3_lengthBeyond_1 : List UInt8 := dkwX3_lengthBeyond_1 ++ dktX3_lengthBeyond_2
def dkwX3_lengthBeyond_0 : List UInt8 := [2, 61, 3, 62, 29, 42, 180, 0, 7, 16, 8, 46, 162, 0, 49, 42, 29, 3, 182, 0, 57, 54, 4, 42]
abbrev dktX3_lengthBeyond_0 : List UInt8 := dkwX3_lengthBeyond_0 ++ dktX3_lengthBeyond_1
theorem dksX3_lengthBeyond_0 : cX3_lengthBeyond.data.toList.drop 0 = dktX3_lengthBeyond_0 := by decide +kernel
theorem dksX3_lengthBeyond_1 : cX3_lengthBeyond.data.toList.drop 24 = dktX3_lengthBeyond_1 := dk_seg dksX3_lengthBeyond_0 24 rfl rfl
theorem dksX3_lengthBeyond_2 : cX3_lengthBeyond.data.toList.drop 48 = dktX3_lengthBeyond_2 := dk_seg dksX3_lengthBeyond_1 24 rfl rfl
theorem dX3_lengthBeyond_0 : decode cX3_lengthBeyond 0 = .ok (.iconst (-1), 1) := dk_2 (dk_at dksX3_lengthBeyond_0 0 rfl rfl)
theorem dX3_lengthBeyond_1 : decode cX3_lengthBeyond 1 = .ok (.istore_n 2, 1) := dk_61 (dk_at dksX3_lengthBeyond_0 1 rfl rfl)
theorem dX3_lengthBeyond_2 : decode cX3_lengthBeyond 2 = .ok (.iconst 0, 1) := dk_3 (dk_at dksX3_lengthBeyond_0 2 rfl rfl)
theorem dX3_lengthBeyond_3 : decode cX3_lengthBeyond 3 = .ok (.istore_n 3, 1) := dk_62 (dk_at dksX3_lengthBeyond_0 3 rfl rfl)
theorem dX3_lengthBeyond_4 : decode cX3_lengthBeyond 4 = .ok (.iload_n 3, 1) := dk_29 (dk_at dksX3_lengthBeyond_0 4 rfl rfl)
theorem dX3_lengthBeyond_5 : decode cX3_lengthBeyond 5 = .ok (.aload_n 0, 1) := dk_42 (dk_at dksX3_lengthBeyond_0 5 rfl rfl)
theorem dX3_lengthBeyond_6 : decode cX3_lengthBeyond 6 = .ok (.getfield 7, 3) := dk_180 0 7 (dk_at dksX3_lengthBeyond_0 6 rfl rfl)
theorem dX3_lengthBeyond_9 : decode cX3_lengthBeyond 9 = .ok (.bipush 8, 2) := dk_16 8 (dk_at dksX3_lengthBeyond_0 9 rfl rfl)
theorem dX3_lengthBeyond_11 : decode cX3_lengthBeyond 11 = .ok (.iaload, 1) := dk_46 (dk_at dksX3_lengthBeyond_0 11 rfl rfl)
theorem dX3_lengthBeyond_12 : decode cX3_lengthBeyond 12 = .ok (.if_icmp .ge 49, 3) := dk_162 0 49 (dk_at dksX3_lengthBeyond_0 12 rfl rfl)
theorem dX3_lengthBeyond_15 : decode cX3_lengthBeyond 15 = .ok (.aload_n 0, 1) := dk_42 (dk_at dksX3_lengthBeyond_0 15 rfl rfl)
theorem dX3_lengthBeyond_16 : decode cX3_lengthBeyond 16 = .ok (.iload_n 3, 1) := dk_29 (dk_at dksX3_lengthBeyond_0 16 rfl rfl)
theorem dX3_lengthBeyond_17 : decode cX3_lengthBeyond 17 = .ok (.iconst 0, 1) := dk_3 (dk_at dksX3_lengthBeyond_0 17 rfl rfl)
theorem dX3_lengthBeyond_18 : decode cX3_lengthBeyond 18 = .ok (.invokevirtual 57, 3) := dk_182 0 57 (dk_at dksX3_lengthBeyond_0 18 rfl rfl)
theorem dX3_lengthBeyond_21 : decode cX3_lengthBeyond 21 = .ok (.istore 4, 2) := dk_54 4 (dk_at dksX3_lengthBeyond_0 21 rfl rfl)
theorem dX3_lengthBeyond_23 : decode cX3_lengthBeyond 23 = .ok (.aload_n 0, 1) := dk_42 (dk_at dksX3_lengthBeyond_0 23 rfl rfl)
theorem dX3_lengthBeyond_24 : decode cX3_lengthBeyond 24 = .ok (.iload_n 3, 1) := dk_29 (dk_at dksX3_lengthBeyond_1 0 rfl rfl)
theorem dX3_lengthBeyond_25 : decode cX3_lengthBeyond 25 = .ok (.invokevirtual 78, 3) := dk_182 0 78 (dk_at dksX3_lengthBeyond_1 1 rfl rfl)
theorem dX3_lengthBeyond_28 : decode cX3_lengthBeyond 28 = .ok (.ifCond .eq 25, 3) := dk_153 0 25 (dk_at dksX3_lengthBeyond_1 4 rfl rfl)
theorem dX3_lengthBeyond_31 : decode cX3_lengthBeyond 31 = .ok (.iload 4, 2) := dk_21 4 (dk_at dksX3_lengthBeyond_1 7 rfl rfl)
theorem dX3_lengthBeyond_33 : decode cX3_lengthBeyond 33 = .ok (.iload_n 1, 1) := dk_27 (dk_at dksX3_lengthBeyond_1 9 rfl rfl)
theorem dX3_lengthBeyond_34 : decode cX3_lengthBeyond 34 = .ok (.if_icmp .le 19, 3) := dk_164 0 19 (dk_at dksX3_lengthBeyond_1 10 rfl rfl)
theorem dX3_lengthBeyond_37 : decode cX3_lengthBeyond 37 = .ok (.iload_n 2, 1) := dk_28 (dk_at dksX3_lengthBeyond_1 13 rfl rfl)
theorem dX3_lengthBeyond_38 : decode cX3_lengthBeyond 38 = .ok (.iconst (-1), 1) := dk_2 (dk_at dksX3_lengthBeyond_1 14 rfl rfl)
theorem dX3_lengthBeyond_39 : decode cX3_lengthBeyond 39 = .ok (.if_icmp .eq 9, 3) := dk_159 0 9 (dk_at dksX3_lengthBeyond_1 15 rfl rfl)
theorem dX3_lengthBeyond_42 : decode cX3_lengthBeyond 42 = .ok (.iload 4, 2) := dk_21 4 (dk_at dksX3_lengthBeyond_1 18 rfl rfl)
theorem dX3_lengthBeyond_44 : decode cX3_lengthBeyond 44 = .ok (.iload_n 2, 1) := dk_28 (dk_at dksX3_lengthBeyond_1 20 rfl rfl)
theorem dX3_lengthBeyond_45 : decode cX3_lengthBeyond 45 = .ok (.if_icmp .ge 8, 3) := dk_162 0 8 (dk_at dksX3_lengthBeyond_1 21 rfl rfl)
theorem dX3_lengthBeyond_48 : decode cX3_lengthBeyond 48 = .ok (.iload 4, 2) := dk_21 4 (dk_at dksX3_lengthBeyond_2 0 rfl rfl)
theorem dX3_lengthBeyond_50 : decode cX3_lengthBeyond 50 = .ok (.goto 4, 3) := dk_167 0 4 (dk_at dksX3_lengthBeyond_2 2 rfl rfl)
theorem dX3_lengthBeyond_53 : decode cX3_lengthBeyond 53 = .ok (.iload_n 2, 1) := dk_28 (dk_at dksX3_lengthBeyond_2 5 rfl rfl)
theorem dX3_lengthBeyond_54 : decode cX3_lengthBeyond 54 = .ok (.istore_n 2, 1) := dk_61 (dk_at dksX3_lengthBeyond_2 6 rfl rfl)
theorem dX3_lengthBeyond_55 : decode cX3_lengthBeyond 55 = .ok (.iinc 3 1, 3) := dk_132 3 1 (dk_at dksX3_lengthBeyond_2 7 rfl rfl)
theorem dX3_lengthBeyond_58 : decode cX3_lengthBeyond 58 = .ok (.goto (-54), 3) := dk_167 255 202 (dk_at dksX3_lengthBeyond_2 10 rfl rfl)
theorem dX3_lengthBeyond_61 : decode cX3_lengthBeyond 61 = .ok (.iload_n 2, 1) := dk_28 (dk_at dksX3_lengthBeyond_2 13 rfl rfl)
theorem dX3_lengthBeyond_62 : decode cX3_lengthBeyond 62 = .ok (.ireturn, 1) := dk_172 (dk_at dksX3_lengthBeyond_2 14 rfl rfl)
abbrev cX3_count : ByteArray := prog_11_method_74_code
def yX3_count : MethodName := ⟨RX3, "count", "(I)I"⟩
def dkwX3_count_1 : List UInt8 := [4, 182, 0, 50, 172]
abbrev dktX3_count_1 : List UInt8 := dkwX3_count_1 ++ []
def dkwX3_count_0 : List UInt8 := [42, 3, 181, 0, 38, 27, 3, 16, 9, 184, 0, 42, 153, 0, 11, 42, 27, 182, 0, 218, 167, 0, 8, 42]
abbrev dktX3_count_0 : List UInt8 := dkwX3_count_0 ++ dktX3_count_1
theorem dksX3_count_0 : cX3_count.data.toList.drop 0 = dktX3_count_0 := by decide +kernel
theorem dksX3_count_1 : cX3_count.data.toList.drop 24 = dktX3_count_1 := dk_seg dksX3_count_0 24 rfl rfl
theorem dX3_count_0 : decode cX3_count 0 = .ok (.aload_n 0, 1) := dk_42 (dk_at dksX3_count_0 0 rfl rfl)
theorem dX3_count_1 : decode cX3_count 1 = .ok (.iconst 0, 1) := dk_3 (dk_at dksX3_count_0 1 rfl rfl)
theorem dX3_count_2 : decode cX3_count 2 = .ok (.putfield 38, 3) := dk_181 0 38 (dk_at dksX3_count_0 2 rfl rfl)
theorem dX3_count_5 : decode cX3_count 5 = .ok (.iload_n 1, 1) := dk_27 (dk_at dksX3_count_0 5 rfl rfl)
theorem dX3_count_6 : decode cX3_count 6 = .ok (.iconst 0, 1) := dk_3 (dk_at dksX3_count_0 6 rfl rfl)
theorem dX3_count_7 : decode cX3_count 7 = .ok (.bipush 9, 2) := dk_16 9 (dk_at dksX3_count_0 7 rfl rfl)
theorem dX3_count_9 : decode cX3_count 9 = .ok (.invokestatic 42, 3) := dk_184 0 42 (dk_at dksX3_count_0 9 rfl rfl)
theorem dX3_count_12 : decode cX3_count 12 = .ok (.ifCond .eq 11, 3) := dk_153 0 11 (dk_at dksX3_count_0 12 rfl rfl)
theorem dX3_count_15 : decode cX3_count 15 = .ok (.aload_n 0, 1) := dk_42 (dk_at dksX3_count_0 15 rfl rfl)
theorem dX3_count_16 : decode cX3_count 16 = .ok (.iload_n 1, 1) := dk_27 (dk_at dksX3_count_0 16 rfl rfl)
theorem dX3_count_17 : decode cX3_count 17 = .ok (.invokevirtual 218, 3) := dk_182 0 218 (dk_at dksX3_count_0 17 rfl rfl)
theorem dX3_count_20 : decode cX3_count 20 = .ok (.goto 8, 3) := dk_167 0 8 (dk_at dksX3_count_0 20 rfl rfl)
theorem dX3_count_23 : decode cX3_count 23 = .ok (.aload_n 0, 1) := dk_42 (dk_at dksX3_count_0 23 rfl rfl)
theorem dX3_count_24 : decode cX3_count 24 = .ok (.iconst 1, 1) := dk_4 (dk_at dksX3_count_1 0 rfl rfl)
theorem dX3_count_25 : decode cX3_count 25 = .ok (.invokevirtual 50, 3) := dk_182 0 50 (dk_at dksX3_count_1 1 rfl rfl)
theorem dX3_count_28 : decode cX3_count 28 = .ok (.ireturn, 1) := dk_172 (dk_at dksX3_count_1 4 rfl rfl)
abbrev cX3_numberOf : ByteArray := prog_11_method_73_code
def yX3_numberOf : MethodName := ⟨RX3, "numberOf", "(I)I"⟩
def dkwX3_numberOf_4 : List UInt8 := [42, 182, 0, 215, 172, 42, 180, 0, 47, 172, 42, 180, 0, 147, 172]
abbrev dktX3_numberOf_4 : List UInt8 := dkwX3_numberOf_4 ++ []
def dkwX3_numberOf_3 : List UInt8 := [8, 46, 172, 42, 180, 0, 7, 16, 6, 46, 172, 42, 182, 0, 212, 172, 42, 180, 0, 7, 16, 7, 46, 172]
abbrev dktX3_numberOf_3 : List UInt8 := dkwX3_numberOf_3 ++ dktX3_numberOf_4
def dkwX3_numberOf_2 : List UInt8 := [42, 180, 0, 7, 16, 8, 46, 172, 42, 182, 0, 208, 172, 42, 180, 0, 7, 7, 46, 172, 42, 180, 0, 7]
abbrev dktX3_numberOf_2 : List UInt8 := dkwX3_numberOf_2 ++ dktX3_numberOf_3
def dkwX3_numberOf_1 : List UInt8 := [170, 0, 0, 0, 0, 0, 109, 0, 0, 0, 0, 0, 0, 0, 8, 0, 0, 0, 51, 0, 0, 0, 59, 0, 0, 0, 64, 0, 0, 0, 71, 0, 0, 0, 78, 0, 0, 0, 86, 0, 0, 0, 91, 0, 0, 0, 99, 0, 0, 0, 104]
abbrev dktX3_numberOf_1 : List UInt8 := dkwX3_numberOf_1 ++ dktX3_numberOf_2
def dkwX3_numberOf_0 : List UInt8 := [27]
abbrev dktX3_numberOf_0 : List UInt8 := dkwX3_numberOf_0 ++ dktX3_numberOf_1
theorem dksX3_numberOf_0 : cX3_numberOf.data.toList.drop 0 = dktX3_numberOf_0 := by decide +kernel
theorem dksX3_numberOf_1 : cX3_numberOf.data.toList.drop 1 = dktX3_numberOf_1 := dk_seg dksX3_numberOf_0 1 rfl rfl
theorem dksX3_numberOf_2 : cX3_numberOf.data.toList.drop 52 = dktX3_numberOf_2 := dk_seg dksX3_numberOf_1 51 rfl rfl
theorem dksX3_numberOf_3 : cX3_numberOf.data.toList.drop 76 = dktX3_numberOf_3 := dk_seg dksX3_numberOf_2 24 rfl rfl
theorem dksX3_numberOf_4 : cX3_numberOf.data.toList.drop 100 = dktX3_numberOf_4 := dk_seg dksX3_numberOf_3 24 rfl rfl
theorem dX3_numberOf_0 : decode cX3_numberOf 0 = .ok (.iload_n 1, 1) := dk_27 (dk_at dksX3_numberOf_0 0 rfl rfl)
theorem dX3_numberOf_1 : decode cX3_numberOf 1 = .ok (.tableswitch 109 0 8 #[51, 59, 64, 71, 78, 86, 91, 99, 104], 51) := by decide +kernel
theorem dX3_numberOf_52 : decode cX3_numberOf 52 = .ok (.aload_n 0, 1) := dk_42 (dk_at dksX3_numberOf_2 0 rfl rfl)
theorem dX3_numberOf_53 : decode cX3_numberOf 53 = .ok (.getfield 7, 3) := dk_180 0 7 (dk_at dksX3_numberOf_2 1 rfl rfl)
theorem dX3_numberOf_56 : decode cX3_numberOf 56 = .ok (.bipush 8, 2) := dk_16 8 (dk_at dksX3_numberOf_2 4 rfl rfl)
theorem dX3_numberOf_58 : decode cX3_numberOf 58 = .ok (.iaload, 1) := dk_46 (dk_at dksX3_numberOf_2 6 rfl rfl)
theorem dX3_numberOf_59 : decode cX3_numberOf 59 = .ok (.ireturn, 1) := dk_172 (dk_at dksX3_numberOf_2 7 rfl rfl)
theorem dX3_numberOf_60 : decode cX3_numberOf 60 = .ok (.aload_n 0, 1) := dk_42 (dk_at dksX3_numberOf_2 8 rfl rfl)
theorem dX3_numberOf_61 : decode cX3_numberOf 61 = .ok (.invokevirtual 208, 3) := dk_182 0 208 (dk_at dksX3_numberOf_2 9 rfl rfl)
theorem dX3_numberOf_64 : decode cX3_numberOf 64 = .ok (.ireturn, 1) := dk_172 (dk_at dksX3_numberOf_2 12 rfl rfl)
theorem dX3_numberOf_65 : decode cX3_numberOf 65 = .ok (.aload_n 0, 1) := dk_42 (dk_at dksX3_numberOf_2 13 rfl rfl)
theorem dX3_numberOf_66 : decode cX3_numberOf 66 = .ok (.getfield 7, 3) := dk_180 0 7 (dk_at dksX3_numberOf_2 14 rfl rfl)
theorem dX3_numberOf_69 : decode cX3_numberOf 69 = .ok (.iconst 4, 1) := dk_7 (dk_at dksX3_numberOf_2 17 rfl rfl)
theorem dX3_numberOf_70 : decode cX3_numberOf 70 = .ok (.iaload, 1) := dk_46 (dk_at dksX3_numberOf_2 18 rfl rfl)
theorem dX3_numberOf_71 : decode cX3_numberOf 71 = .ok (.ireturn, 1) := dk_172 (dk_at dksX3_numberOf_2 19 rfl rfl)
theorem dX3_numberOf_72 : decode cX3_numberOf 72 = .ok (.aload_n 0, 1) := dk_42 (dk_at dksX3_numberOf_2 20 rfl rfl)
theorem dX3_numberOf_73 : decode cX3_numberOf 73 = .ok (.getfield 7, 3) := dk_180 0 7 (dk_at dksX3_numberOf_2 21 rfl rfl)
theorem dX3_numberOf_76 : decode cX3_numberOf 76 = .ok (.iconst 5, 1) := dk_8 (dk_at dksX3_numberOf_3 0 rfl rfl)
theorem dX3_numberOf_77 : decode cX3_numberOf 77 = .ok (.iaload, 1) := dk_46 (dk_at dksX3_numberOf_3 1 rfl rfl)
theorem dX3_numberOf_78 : decode cX3_numberOf 78 = .ok (.ireturn, 1) := dk_172 (dk_at dksX3_numberOf_3 2 rfl rfl)
theorem dX3_numberOf_79 : decode cX3_numberOf 79 = .ok (.aload_n 0, 1) := dk_42 (dk_at dksX3_numberOf_3 3 rfl rfl)
theorem dX3_numberOf_80 : decode cX3_numberOf 80 = .ok (.getfield 7, 3) := dk_180 0 7 (dk_at dksX3_numberOf_3 4 rfl rfl)
theorem dX3_numberOf_83 : decode cX3_numberOf 83 = .ok (.bipush 6, 2) := dk_16 6 (dk_at dksX3_numberOf_3 7 rfl rfl)
theorem dX3_numberOf_85 : decode cX3_numberOf 85 = .ok (.iaload, 1) := dk_46 (dk_at dksX3_numberOf_3 9 rfl rfl)
theorem dX3_numberOf_86 : decode cX3_numberOf 86 = .ok (.ireturn, 1) := dk_172 (dk_at dksX3_numberOf_3 10 rfl rfl)
theorem dX3_numberOf_87 : decode cX3_numberOf 87 = .ok (.aload_n 0, 1) := dk_42 (dk_at dksX3_numberOf_3 11 rfl rfl)
theorem dX3_numberOf_88 : decode cX3_numberOf 88 = .ok (.invokevirtual 212, 3) := dk_182 0 212 (dk_at dksX3_numberOf_3 12 rfl rfl)
theorem dX3_numberOf_91 : decode cX3_numberOf 91 = .ok (.ireturn, 1) := dk_172 (dk_at dksX3_numberOf_3 15 rfl rfl)
theorem dX3_numberOf_92 : decode cX3_numberOf 92 = .ok (.aload_n 0, 1) := dk_42 (dk_at dksX3_numberOf_3 16 rfl rfl)
theorem dX3_numberOf_93 : decode cX3_numberOf 93 = .ok (.getfield 7, 3) := dk_180 0 7 (dk_at dksX3_numberOf_3 17 rfl rfl)
theorem dX3_numberOf_96 : decode cX3_numberOf 96 = .ok (.bipush 7, 2) := dk_16 7 (dk_at dksX3_numberOf_3 20 rfl rfl)
theorem dX3_numberOf_98 : decode cX3_numberOf 98 = .ok (.iaload, 1) := dk_46 (dk_at dksX3_numberOf_3 22 rfl rfl)
theorem dX3_numberOf_99 : decode cX3_numberOf 99 = .ok (.ireturn, 1) := dk_172 (dk_at dksX3_numberOf_3 23 rfl rfl)
theorem dX3_numberOf_100 : decode cX3_numberOf 100 = .ok (.aload_n 0, 1) := dk_42 (dk_at dksX3_numberOf_4 0 rfl rfl)
theorem dX3_numberOf_101 : decode cX3_numberOf 101 = .ok (.invokevirtual 215, 3) := dk_182 0 215 (dk_at dksX3_numberOf_4 1 rfl rfl)
theorem dX3_numberOf_104 : decode cX3_numberOf 104 = .ok (.ireturn, 1) := dk_172 (dk_at dksX3_numberOf_4 4 rfl rfl)
theorem dX3_numberOf_105 : decode cX3_numberOf 105 = .ok (.aload_n 0, 1) := dk_42 (dk_at dksX3_numberOf_4 5 rfl rfl)
theorem dX3_numberOf_106 : decode cX3_numberOf 106 = .ok (.getfield 47, 3) := dk_180 0 47 (dk_at dksX3_numberOf_4 6 rfl rfl)
theorem dX3_numberOf_109 : decode cX3_numberOf 109 = .ok (.ireturn, 1) := dk_172 (dk_at dksX3_numberOf_4 9 rfl rfl)
theorem dX3_numberOf_110 : decode cX3_numberOf 110 = .ok (.aload_n 0, 1) := dk_42 (dk_at dksX3_numberOf_4 10 rfl rfl)
theorem dX3_numberOf_111 : decode cX3_numberOf 111 = .ok (.getfield 147, 3) := dk_180 0 147 (dk_at dksX3_numberOf_4 11 rfl rfl)
theorem dX3_numberOf_114 : decode cX3_numberOf 114 = .ok (.ireturn, 1) := dk_172 (dk_at dksX3_numberOf_4 14 rfl rfl)
abbrev cX3_freeSet : ByteArray := prog_11_method_70_code
def yX3_freeSet : MethodName := ⟨RX3, "freeSet", "()I"⟩
def dkwX3_freeSet_0 : List UInt8 := [42, 182, 0, 100, 42, 4, 42, 180, 0, 97, 120, 4, 100, 182, 0, 106, 172]
abbrev dktX3_freeSet_0 : List UInt8 := dkwX3_freeSet_0 ++ []
theorem dksX3_freeSet_0 : cX3_freeSet.data.toList.drop 0 = dktX3_freeSet_0 := by decide +kernel
theorem dX3_freeSet_0 : decode cX3_freeSet 0 = .ok (.aload_n 0, 1) := dk_42 (dk_at dksX3_freeSet_0 0 rfl rfl)
theorem dX3_freeSet_1 : decode cX3_freeSet 1 = .ok (.invokevirtual 100, 3) := dk_182 0 100 (dk_at dksX3_freeSet_0 1 rfl rfl)
theorem dX3_freeSet_4 : decode cX3_freeSet 4 = .ok (.aload_n 0, 1) := dk_42 (dk_at dksX3_freeSet_0 4 rfl rfl)
theorem dX3_freeSet_5 : decode cX3_freeSet 5 = .ok (.iconst 1, 1) := dk_4 (dk_at dksX3_freeSet_0 5 rfl rfl)
theorem dX3_freeSet_6 : decode cX3_freeSet 6 = .ok (.aload_n 0, 1) := dk_42 (dk_at dksX3_freeSet_0 6 rfl rfl)
theorem dX3_freeSet_7 : decode cX3_freeSet 7 = .ok (.getfield 97, 3) := dk_180 0 97 (dk_at dksX3_freeSet_0 7 rfl rfl)
theorem dX3_freeSet_10 : decode cX3_freeSet 10 = .ok (.ishl, 1) := dk_120 (dk_at dksX3_freeSet_0 10 rfl rfl)
theorem dX3_freeSet_11 : decode cX3_freeSet 11 = .ok (.iconst 1, 1) := dk_4 (dk_at dksX3_freeSet_0 11 rfl rfl)
theorem dX3_freeSet_12 : decode cX3_freeSet 12 = .ok (.isub, 1) := dk_100 (dk_at dksX3_freeSet_0 12 rfl rfl)
theorem dX3_freeSet_13 : decode cX3_freeSet 13 = .ok (.invokevirtual 106, 3) := dk_182 0 106 (dk_at dksX3_freeSet_0 13 rfl rfl)
theorem dX3_freeSet_16 : decode cX3_freeSet 16 = .ok (.ireturn, 1) := dk_172 (dk_at dksX3_freeSet_0 16 rfl rfl)
abbrev cX3_wearOfAll : ByteArray := prog_11_method_71_code
def yX3_wearOfAll : MethodName := ⟨RX3, "wearOfAll", "()I"⟩
def dkwX3_wearOfAll_1 : List UInt8 := [132, 2, 1, 167, 255, 233, 27, 172]
abbrev dktX3_wearOfAll_1 : List UInt8 := dkwX3_wearOfAll_1 ++ []
def dkwX3_wearOfAll_0 : List UInt8 := [3, 60, 3, 61, 28, 42, 180, 0, 7, 16, 8, 46, 162, 0, 18, 27, 42, 28, 5, 182, 0, 57, 96, 60]
abbrev dktX3_wearOfAll_0 : List UInt8 := dkwX3_wearOfAll_0 ++ dktX3_wearOfAll_1
theorem dksX3_wearOfAll_0 : cX3_wearOfAll.data.toList.drop 0 = dktX3_wearOfAll_0 := by decide +kernel
theorem dksX3_wearOfAll_1 : cX3_wearOfAll.data.toList.drop 24 = dktX3_wearOfAll_1 := dk_seg dksX3_wearOfAll_0 24 rfl rfl
theorem dX3_wearOfAll_0 : decode cX3_wearOfAll 0 = .ok (.iconst 0, 1) := dk_3 (dk_at dksX3_wearOfAll_0 0 rfl rfl)
theorem dX3_wearOfAll_1 : decode cX3_wearOfAll 1 = .ok (.istore_n 1, 1) := dk_60 (dk_at dksX3_wearOfAll_0 1 rfl rfl)
theorem dX3_wearOfAll_2 : decode cX3_wearOfAll 2 = .ok (.iconst 0, 1) := dk_3 (dk_at dksX3_wearOfAll_0 2 rfl rfl)
theorem dX3_wearOfAll_3 : decode cX3_wearOfAll 3 = .ok (.istore_n 2, 1) := dk_61 (dk_at dksX3_wearOfAll_0 3 rfl rfl)
theorem dX3_wearOfAll_4 : decode cX3_wearOfAll 4 = .ok (.iload_n 2, 1) := dk_28 (dk_at dksX3_wearOfAll_0 4 rfl rfl)
theorem dX3_wearOfAll_5 : decode cX3_wearOfAll 5 = .ok (.aload_n 0, 1) := dk_42 (dk_at dksX3_wearOfAll_0 5 rfl rfl)
theorem dX3_wearOfAll_6 : decode cX3_wearOfAll 6 = .ok (.getfield 7, 3) := dk_180 0 7 (dk_at dksX3_wearOfAll_0 6 rfl rfl)
theorem dX3_wearOfAll_9 : decode cX3_wearOfAll 9 = .ok (.bipush 8, 2) := dk_16 8 (dk_at dksX3_wearOfAll_0 9 rfl rfl)
theorem dX3_wearOfAll_11 : decode cX3_wearOfAll 11 = .ok (.iaload, 1) := dk_46 (dk_at dksX3_wearOfAll_0 11 rfl rfl)
theorem dX3_wearOfAll_12 : decode cX3_wearOfAll 12 = .ok (.if_icmp .ge 18, 3) := dk_162 0 18 (dk_at dksX3_wearOfAll_0 12 rfl rfl)
theorem dX3_wearOfAll_15 : decode cX3_wearOfAll 15 = .ok (.iload_n 1, 1) := dk_27 (dk_at dksX3_wearOfAll_0 15 rfl rfl)
theorem dX3_wearOfAll_16 : decode cX3_wearOfAll 16 = .ok (.aload_n 0, 1) := dk_42 (dk_at dksX3_wearOfAll_0 16 rfl rfl)
theorem dX3_wearOfAll_17 : decode cX3_wearOfAll 17 = .ok (.iload_n 2, 1) := dk_28 (dk_at dksX3_wearOfAll_0 17 rfl rfl)
theorem dX3_wearOfAll_18 : decode cX3_wearOfAll 18 = .ok (.iconst 2, 1) := dk_5 (dk_at dksX3_wearOfAll_0 18 rfl rfl)
theorem dX3_wearOfAll_19 : decode cX3_wearOfAll 19 = .ok (.invokevirtual 57, 3) := dk_182 0 57 (dk_at dksX3_wearOfAll_0 19 rfl rfl)
theorem dX3_wearOfAll_22 : decode cX3_wearOfAll 22 = .ok (.iadd, 1) := dk_96 (dk_at dksX3_wearOfAll_0 22 rfl rfl)
theorem dX3_wearOfAll_23 : decode cX3_wearOfAll 23 = .ok (.istore_n 1, 1) := dk_60 (dk_at dksX3_wearOfAll_0 23 rfl rfl)
theorem dX3_wearOfAll_24 : decode cX3_wearOfAll 24 = .ok (.iinc 2 1, 3) := dk_132 2 1 (dk_at dksX3_wearOfAll_1 0 rfl rfl)
theorem dX3_wearOfAll_27 : decode cX3_wearOfAll 27 = .ok (.goto (-23), 3) := dk_167 255 233 (dk_at dksX3_wearOfAll_1 3 rfl rfl)
theorem dX3_wearOfAll_30 : decode cX3_wearOfAll 30 = .ok (.iload_n 1, 1) := dk_27 (dk_at dksX3_wearOfAll_1 6 rfl rfl)
theorem dX3_wearOfAll_31 : decode cX3_wearOfAll 31 = .ok (.ireturn, 1) := dk_172 (dk_at dksX3_wearOfAll_1 7 rfl rfl)
abbrev cX3_worstSet : ByteArray := prog_11_method_72_code
def yX3_worstSet : MethodName := ⟨RX3, "worstSet", "()I"⟩
def dkwX3_worstSet_1 : List UInt8 := [160, 0, 9, 4, 28, 120, 167, 0, 4, 3, 128, 60, 132, 2, 1, 167, 255, 223, 27, 172]
abbrev dktX3_worstSet_1 : List UInt8 := dkwX3_worstSet_1 ++ []
def dkwX3_worstSet_0 : List UInt8 := [3, 60, 3, 61, 28, 42, 180, 0, 7, 16, 8, 46, 162, 0, 28, 27, 42, 28, 182, 0, 85, 6]
abbrev dktX3_worstSet_0 : List UInt8 := dkwX3_worstSet_0 ++ dktX3_worstSet_1
theorem dksX3_worstSet_0 : cX3_worstSet.data.toList.drop 0 = dktX3_worstSet_0 := by decide +kernel
theorem dksX3_worstSet_1 : cX3_worstSet.data.toList.drop 22 = dktX3_worstSet_1 := dk_seg dksX3_worstSet_0 22 rfl rfl
theorem dX3_worstSet_0 : decode cX3_worstSet 0 = .ok (.iconst 0, 1) := dk_3 (dk_at dksX3_worstSet_0 0 rfl rfl)
theorem dX3_worstSet_1 : decode cX3_worstSet 1 = .ok (.istore_n 1, 1) := dk_60 (dk_at dksX3_worstSet_0 1 rfl rfl)
theorem dX3_worstSet_2 : decode cX3_worstSet 2 = .ok (.iconst 0, 1) := dk_3 (dk_at dksX3_worstSet_0 2 rfl rfl)
theorem dX3_worstSet_3 : decode cX3_worstSet 3 = .ok (.istore_n 2, 1) := dk_61 (dk_at dksX3_worstSet_0 3 rfl rfl)
theorem dX3_worstSet_4 : decode cX3_worstSet 4 = .ok (.iload_n 2, 1) := dk_28 (dk_at dksX3_worstSet_0 4 rfl rfl)
theorem dX3_worstSet_5 : decode cX3_worstSet 5 = .ok (.aload_n 0, 1) := dk_42 (dk_at dksX3_worstSet_0 5 rfl rfl)
theorem dX3_worstSet_6 : decode cX3_worstSet 6 = .ok (.getfield 7, 3) := dk_180 0 7 (dk_at dksX3_worstSet_0 6 rfl rfl)
theorem dX3_worstSet_9 : decode cX3_worstSet 9 = .ok (.bipush 8, 2) := dk_16 8 (dk_at dksX3_worstSet_0 9 rfl rfl)
theorem dX3_worstSet_11 : decode cX3_worstSet 11 = .ok (.iaload, 1) := dk_46 (dk_at dksX3_worstSet_0 11 rfl rfl)
theorem dX3_worstSet_12 : decode cX3_worstSet 12 = .ok (.if_icmp .ge 28, 3) := dk_162 0 28 (dk_at dksX3_worstSet_0 12 rfl rfl)
theorem dX3_worstSet_15 : decode cX3_worstSet 15 = .ok (.iload_n 1, 1) := dk_27 (dk_at dksX3_worstSet_0 15 rfl rfl)
theorem dX3_worstSet_16 : decode cX3_worstSet 16 = .ok (.aload_n 0, 1) := dk_42 (dk_at dksX3_worstSet_0 16 rfl rfl)
theorem dX3_worstSet_17 : decode cX3_worstSet 17 = .ok (.iload_n 2, 1) := dk_28 (dk_at dksX3_worstSet_0 17 rfl rfl)
theorem dX3_worstSet_18 : decode cX3_worstSet 18 = .ok (.invokevirtual 85, 3) := dk_182 0 85 (dk_at dksX3_worstSet_0 18 rfl rfl)
theorem dX3_worstSet_21 : decode cX3_worstSet 21 = .ok (.iconst 3, 1) := dk_6 (dk_at dksX3_worstSet_0 21 rfl rfl)
theorem dX3_worstSet_22 : decode cX3_worstSet 22 = .ok (.if_icmp .ne 9, 3) := dk_160 0 9 (dk_at dksX3_worstSet_1 0 rfl rfl)
theorem dX3_worstSet_25 : decode cX3_worstSet 25 = .ok (.iconst 1, 1) := dk_4 (dk_at dksX3_worstSet_1 3 rfl rfl)
theorem dX3_worstSet_26 : decode cX3_worstSet 26 = .ok (.iload_n 2, 1) := dk_28 (dk_at dksX3_worstSet_1 4 rfl rfl)
theorem dX3_worstSet_27 : decode cX3_worstSet 27 = .ok (.ishl, 1) := dk_120 (dk_at dksX3_worstSet_1 5 rfl rfl)
theorem dX3_worstSet_28 : decode cX3_worstSet 28 = .ok (.goto 4, 3) := dk_167 0 4 (dk_at dksX3_worstSet_1 6 rfl rfl)
theorem dX3_worstSet_31 : decode cX3_worstSet 31 = .ok (.iconst 0, 1) := dk_3 (dk_at dksX3_worstSet_1 9 rfl rfl)
theorem dX3_worstSet_32 : decode cX3_worstSet 32 = .ok (.ior, 1) := dk_128 (dk_at dksX3_worstSet_1 10 rfl rfl)
theorem dX3_worstSet_33 : decode cX3_worstSet 33 = .ok (.istore_n 1, 1) := dk_60 (dk_at dksX3_worstSet_1 11 rfl rfl)
theorem dX3_worstSet_34 : decode cX3_worstSet 34 = .ok (.iinc 2 1, 3) := dk_132 2 1 (dk_at dksX3_worstSet_1 12 rfl rfl)
theorem dX3_worstSet_37 : decode cX3_worstSet 37 = .ok (.goto (-33), 3) := dk_167 255 223 (dk_at dksX3_worstSet_1 15 rfl rfl)
theorem dX3_worstSet_40 : decode cX3_worstSet 40 = .ok (.iload_n 1, 1) := dk_27 (dk_at dksX3_worstSet_1 18 rfl rfl)
theorem dX3_worstSet_41 : decode cX3_worstSet 41 = .ok (.ireturn, 1) := dk_172 (dk_at dksX3_worstSet_1 19 rfl rfl)
abbrev cX3_setting : ByteArray := prog_11_method_75_code
def yX3_setting : MethodName := ⟨RX3, "setting", "(I)I"⟩
def dkwX3_setting_1 : List UInt8 := [4, 182, 0, 50, 172]
abbrev dktX3_setting_1 : List UInt8 := dkwX3_setting_1 ++ []
def dkwX3_setting_0 : List UInt8 := [42, 3, 181, 0, 38, 27, 3, 6, 184, 0, 42, 153, 0, 12, 42, 180, 0, 7, 27, 46, 167, 0, 8, 42]
abbrev dktX3_setting_0 : List UInt8 := dkwX3_setting_0 ++ dktX3_setting_1
theorem dksX3_setting_0 : cX3_setting.data.toList.drop 0 = dktX3_setting_0 := by decide +kernel
theorem dksX3_setting_1 : cX3_setting.data.toList.drop 24 = dktX3_setting_1 := dk_seg dksX3_setting_0 24 rfl rfl
theorem dX3_setting_0 : decode cX3_setting 0 = .ok (.aload_n 0, 1) := dk_42 (dk_at dksX3_setting_0 0 rfl rfl)
theorem dX3_setting_1 : decode cX3_setting 1 = .ok (.iconst 0, 1) := dk_3 (dk_at dksX3_setting_0 1 rfl rfl)
theorem dX3_setting_2 : decode cX3_setting 2 = .ok (.putfield 38, 3) := dk_181 0 38 (dk_at dksX3_setting_0 2 rfl rfl)
theorem dX3_setting_5 : decode cX3_setting 5 = .ok (.iload_n 1, 1) := dk_27 (dk_at dksX3_setting_0 5 rfl rfl)
theorem dX3_setting_6 : decode cX3_setting 6 = .ok (.iconst 0, 1) := dk_3 (dk_at dksX3_setting_0 6 rfl rfl)
theorem dX3_setting_7 : decode cX3_setting 7 = .ok (.iconst 3, 1) := dk_6 (dk_at dksX3_setting_0 7 rfl rfl)
theorem dX3_setting_8 : decode cX3_setting 8 = .ok (.invokestatic 42, 3) := dk_184 0 42 (dk_at dksX3_setting_0 8 rfl rfl)
theorem dX3_setting_11 : decode cX3_setting 11 = .ok (.ifCond .eq 12, 3) := dk_153 0 12 (dk_at dksX3_setting_0 11 rfl rfl)
theorem dX3_setting_14 : decode cX3_setting 14 = .ok (.aload_n 0, 1) := dk_42 (dk_at dksX3_setting_0 14 rfl rfl)
theorem dX3_setting_15 : decode cX3_setting 15 = .ok (.getfield 7, 3) := dk_180 0 7 (dk_at dksX3_setting_0 15 rfl rfl)
theorem dX3_setting_18 : decode cX3_setting 18 = .ok (.iload_n 1, 1) := dk_27 (dk_at dksX3_setting_0 18 rfl rfl)
theorem dX3_setting_19 : decode cX3_setting 19 = .ok (.iaload, 1) := dk_46 (dk_at dksX3_setting_0 19 rfl rfl)
theorem dX3_setting_20 : decode cX3_setting 20 = .ok (.goto 8, 3) := dk_167 0 8 (dk_at dksX3_setting_0 20 rfl rfl)
theorem dX3_setting_23 : decode cX3_setting 23 = .ok (.aload_n 0, 1) := dk_42 (dk_at dksX3_setting_0 23 rfl rfl)
theorem dX3_setting_24 : decode cX3_setting 24 = .ok (.iconst 1, 1) := dk_4 (dk_at dksX3_setting_1 0 rfl rfl)
theorem dX3_setting_25 : decode cX3_setting 25 = .ok (.invokevirtual 50, 3) := dk_182 0 50 (dk_at dksX3_setting_1 1 rfl rfl)
theorem dX3_setting_28 : decode cX3_setting 28 = .ok (.ireturn, 1) := dk_172 (dk_at dksX3_setting_1 4 rfl rfl)
abbrev cX3_refusal : ByteArray := prog_11_method_76_code
def yX3_refusal : MethodName := ⟨RX3, "refusal", "(II)I"⟩
def dkwX3_refusal_1 : List UInt8 := [182, 0, 91, 167, 0, 8, 42, 4, 182, 0, 50, 172]
abbrev dktX3_refusal_1 : List UInt8 := dkwX3_refusal_1 ++ []
def dkwX3_refusal_0 : List UInt8 := [42, 3, 181, 0, 38, 27, 184, 0, 129, 153, 0, 20, 42, 28, 182, 0, 116, 153, 0, 12, 42, 27, 28]
abbrev dktX3_refusal_0 : List UInt8 := dkwX3_refusal_0 ++ dktX3_refusal_1
theorem dksX3_refusal_0 : cX3_refusal.data.toList.drop 0 = dktX3_refusal_0 := by decide +kernel
theorem dksX3_refusal_1 : cX3_refusal.data.toList.drop 23 = dktX3_refusal_1 := dk_seg dksX3_refusal_0 23 rfl rfl
theorem dX3_refusal_0 : decode cX3_refusal 0 = .ok (.aload_n 0, 1) := dk_42 (dk_at dksX3_refusal_0 0 rfl rfl)
theorem dX3_refusal_1 : decode cX3_refusal 1 = .ok (.iconst 0, 1) := dk_3 (dk_at dksX3_refusal_0 1 rfl rfl)
theorem dX3_refusal_2 : decode cX3_refusal 2 = .ok (.putfield 38, 3) := dk_181 0 38 (dk_at dksX3_refusal_0 2 rfl rfl)
theorem dX3_refusal_5 : decode cX3_refusal 5 = .ok (.iload_n 1, 1) := dk_27 (dk_at dksX3_refusal_0 5 rfl rfl)
theorem dX3_refusal_6 : decode cX3_refusal 6 = .ok (.invokestatic 129, 3) := dk_184 0 129 (dk_at dksX3_refusal_0 6 rfl rfl)
theorem dX3_refusal_9 : decode cX3_refusal 9 = .ok (.ifCond .eq 20, 3) := dk_153 0 20 (dk_at dksX3_refusal_0 9 rfl rfl)
theorem dX3_refusal_12 : decode cX3_refusal 12 = .ok (.aload_n 0, 1) := dk_42 (dk_at dksX3_refusal_0 12 rfl rfl)
theorem dX3_refusal_13 : decode cX3_refusal 13 = .ok (.iload_n 2, 1) := dk_28 (dk_at dksX3_refusal_0 13 rfl rfl)
theorem dX3_refusal_14 : decode cX3_refusal 14 = .ok (.invokevirtual 116, 3) := dk_182 0 116 (dk_at dksX3_refusal_0 14 rfl rfl)
theorem dX3_refusal_17 : decode cX3_refusal 17 = .ok (.ifCond .eq 12, 3) := dk_153 0 12 (dk_at dksX3_refusal_0 17 rfl rfl)
theorem dX3_refusal_20 : decode cX3_refusal 20 = .ok (.aload_n 0, 1) := dk_42 (dk_at dksX3_refusal_0 20 rfl rfl)
theorem dX3_refusal_21 : decode cX3_refusal 21 = .ok (.iload_n 1, 1) := dk_27 (dk_at dksX3_refusal_0 21 rfl rfl)
theorem dX3_refusal_22 : decode cX3_refusal 22 = .ok (.iload_n 2, 1) := dk_28 (dk_at dksX3_refusal_0 22 rfl rfl)
theorem dX3_refusal_23 : decode cX3_refusal 23 = .ok (.invokevirtual 91, 3) := dk_182 0 91 (dk_at dksX3_refusal_1 0 rfl rfl)
theorem dX3_refusal_26 : decode cX3_refusal 26 = .ok (.goto 8, 3) := dk_167 0 8 (dk_at dksX3_refusal_1 3 rfl rfl)
theorem dX3_refusal_29 : decode cX3_refusal 29 = .ok (.aload_n 0, 1) := dk_42 (dk_at dksX3_refusal_1 6 rfl rfl)
theorem dX3_refusal_30 : decode cX3_refusal 30 = .ok (.iconst 1, 1) := dk_4 (dk_at dksX3_refusal_1 7 rfl rfl)
theorem dX3_refusal_31 : decode cX3_refusal 31 = .ok (.invokevirtual 50, 3) := dk_182 0 50 (dk_at dksX3_refusal_1 8 rfl rfl)
theorem dX3_refusal_34 : decode cX3_refusal 34 = .ok (.ireturn, 1) := dk_172 (dk_at dksX3_refusal_1 11 rfl rfl)
abbrev cX3_fewest : ByteArray := prog_11_method_78_code
def yX3_fewest : MethodName := ⟨RX3, "fewest", "(II)I"⟩
def dkwX3_fewest_1 : List UInt8 := [182, 0, 224, 167, 0, 8, 42, 4, 182, 0, 50, 172]
abbrev dktX3_fewest_1 : List UInt8 := dkwX3_fewest_1 ++ []
def dkwX3_fewest_0 : List UInt8 := [42, 3, 181, 0, 38, 27, 184, 0, 141, 153, 0, 21, 28, 3, 4, 184, 0, 42, 153, 0, 12, 42, 27, 28]
abbrev dktX3_fewest_0 : List UInt8 := dkwX3_fewest_0 ++ dktX3_fewest_1
theorem dksX3_fewest_0 : cX3_fewest.data.toList.drop 0 = dktX3_fewest_0 := by decide +kernel
theorem dksX3_fewest_1 : cX3_fewest.data.toList.drop 24 = dktX3_fewest_1 := dk_seg dksX3_fewest_0 24 rfl rfl
theorem dX3_fewest_0 : decode cX3_fewest 0 = .ok (.aload_n 0, 1) := dk_42 (dk_at dksX3_fewest_0 0 rfl rfl)
theorem dX3_fewest_1 : decode cX3_fewest 1 = .ok (.iconst 0, 1) := dk_3 (dk_at dksX3_fewest_0 1 rfl rfl)
theorem dX3_fewest_2 : decode cX3_fewest 2 = .ok (.putfield 38, 3) := dk_181 0 38 (dk_at dksX3_fewest_0 2 rfl rfl)
theorem dX3_fewest_5 : decode cX3_fewest 5 = .ok (.iload_n 1, 1) := dk_27 (dk_at dksX3_fewest_0 5 rfl rfl)
theorem dX3_fewest_6 : decode cX3_fewest 6 = .ok (.invokestatic 141, 3) := dk_184 0 141 (dk_at dksX3_fewest_0 6 rfl rfl)
theorem dX3_fewest_9 : decode cX3_fewest 9 = .ok (.ifCond .eq 21, 3) := dk_153 0 21 (dk_at dksX3_fewest_0 9 rfl rfl)
theorem dX3_fewest_12 : decode cX3_fewest 12 = .ok (.iload_n 2, 1) := dk_28 (dk_at dksX3_fewest_0 12 rfl rfl)
theorem dX3_fewest_13 : decode cX3_fewest 13 = .ok (.iconst 0, 1) := dk_3 (dk_at dksX3_fewest_0 13 rfl rfl)
theorem dX3_fewest_14 : decode cX3_fewest 14 = .ok (.iconst 1, 1) := dk_4 (dk_at dksX3_fewest_0 14 rfl rfl)
theorem dX3_fewest_15 : decode cX3_fewest 15 = .ok (.invokestatic 42, 3) := dk_184 0 42 (dk_at dksX3_fewest_0 15 rfl rfl)
theorem dX3_fewest_18 : decode cX3_fewest 18 = .ok (.ifCond .eq 12, 3) := dk_153 0 12 (dk_at dksX3_fewest_0 18 rfl rfl)
theorem dX3_fewest_21 : decode cX3_fewest 21 = .ok (.aload_n 0, 1) := dk_42 (dk_at dksX3_fewest_0 21 rfl rfl)
theorem dX3_fewest_22 : decode cX3_fewest 22 = .ok (.iload_n 1, 1) := dk_27 (dk_at dksX3_fewest_0 22 rfl rfl)
theorem dX3_fewest_23 : decode cX3_fewest 23 = .ok (.iload_n 2, 1) := dk_28 (dk_at dksX3_fewest_0 23 rfl rfl)
theorem dX3_fewest_24 : decode cX3_fewest 24 = .ok (.invokevirtual 224, 3) := dk_182 0 224 (dk_at dksX3_fewest_1 0 rfl rfl)
theorem dX3_fewest_27 : decode cX3_fewest 27 = .ok (.goto 8, 3) := dk_167 0 8 (dk_at dksX3_fewest_1 3 rfl rfl)
theorem dX3_fewest_30 : decode cX3_fewest 30 = .ok (.aload_n 0, 1) := dk_42 (dk_at dksX3_fewest_1 6 rfl rfl)
theorem dX3_fewest_31 : decode cX3_fewest 31 = .ok (.iconst 1, 1) := dk_4 (dk_at dksX3_fewest_1 7 rfl rfl)
theorem dX3_fewest_32 : decode cX3_fewest 32 = .ok (.invokevirtual 50, 3) := dk_182 0 50 (dk_at dksX3_fewest_1 8 rfl rfl)
theorem dX3_fewest_35 : decode cX3_fewest 35 = .ok (.ireturn, 1) := dk_172 (dk_at dksX3_fewest_1 11 rfl rfl)
abbrev cX3_fewestOf : ByteArray := prog_11_method_77_code
def yX3_fewestOf : MethodName := ⟨RX3, "fewestOf", "(II)I"⟩
def dkwX3_fewestOf_1 : List UInt8 := [167, 0, 4, 29, 172]
abbrev dktX3_fewestOf_1 : List UInt8 := dkwX3_fewestOf_1 ++ []
def dkwX3_fewestOf_0 : List UInt8 := [42, 27, 182, 0, 138, 62, 29, 154, 0, 7, 2, 167, 0, 15, 28, 154, 0, 10, 29, 184, 0, 221]
abbrev dktX3_fewestOf_0 : List UInt8 := dkwX3_fewestOf_0 ++ dktX3_fewestOf_1
theorem dksX3_fewestOf_0 : cX3_fewestOf.data.toList.drop 0 = dktX3_fewestOf_0 := by decide +kernel
theorem dksX3_fewestOf_1 : cX3_fewestOf.data.toList.drop 22 = dktX3_fewestOf_1 := dk_seg dksX3_fewestOf_0 22 rfl rfl
theorem dX3_fewestOf_0 : decode cX3_fewestOf 0 = .ok (.aload_n 0, 1) := dk_42 (dk_at dksX3_fewestOf_0 0 rfl rfl)
theorem dX3_fewestOf_1 : decode cX3_fewestOf 1 = .ok (.iload_n 1, 1) := dk_27 (dk_at dksX3_fewestOf_0 1 rfl rfl)
theorem dX3_fewestOf_2 : decode cX3_fewestOf 2 = .ok (.invokevirtual 138, 3) := dk_182 0 138 (dk_at dksX3_fewestOf_0 2 rfl rfl)
theorem dX3_fewestOf_5 : decode cX3_fewestOf 5 = .ok (.istore_n 3, 1) := dk_62 (dk_at dksX3_fewestOf_0 5 rfl rfl)
theorem dX3_fewestOf_6 : decode cX3_fewestOf 6 = .ok (.iload_n 3, 1) := dk_29 (dk_at dksX3_fewestOf_0 6 rfl rfl)
theorem dX3_fewestOf_7 : decode cX3_fewestOf 7 = .ok (.ifCond .ne 7, 3) := dk_154 0 7 (dk_at dksX3_fewestOf_0 7 rfl rfl)
theorem dX3_fewestOf_10 : decode cX3_fewestOf 10 = .ok (.iconst (-1), 1) := dk_2 (dk_at dksX3_fewestOf_0 10 rfl rfl)
theorem dX3_fewestOf_11 : decode cX3_fewestOf 11 = .ok (.goto 15, 3) := dk_167 0 15 (dk_at dksX3_fewestOf_0 11 rfl rfl)
theorem dX3_fewestOf_14 : decode cX3_fewestOf 14 = .ok (.iload_n 2, 1) := dk_28 (dk_at dksX3_fewestOf_0 14 rfl rfl)
theorem dX3_fewestOf_15 : decode cX3_fewestOf 15 = .ok (.ifCond .ne 10, 3) := dk_154 0 10 (dk_at dksX3_fewestOf_0 15 rfl rfl)
theorem dX3_fewestOf_18 : decode cX3_fewestOf 18 = .ok (.iload_n 3, 1) := dk_29 (dk_at dksX3_fewestOf_0 18 rfl rfl)
theorem dX3_fewestOf_19 : decode cX3_fewestOf 19 = .ok (.invokestatic 221, 3) := dk_184 0 221 (dk_at dksX3_fewestOf_0 19 rfl rfl)
theorem dX3_fewestOf_22 : decode cX3_fewestOf 22 = .ok (.goto 4, 3) := dk_167 0 4 (dk_at dksX3_fewestOf_1 0 rfl rfl)
theorem dX3_fewestOf_25 : decode cX3_fewestOf 25 = .ok (.iload_n 3, 1) := dk_29 (dk_at dksX3_fewestOf_1 3 rfl rfl)
theorem dX3_fewestOf_26 : decode cX3_fewestOf 26 = .ok (.ireturn, 1) := dk_172 (dk_at dksX3_fewestOf_1 4 rfl rfl)
abbrev cX3_ones : ByteArray := prog_11_method_35_code
def yX3_ones : MethodName := ⟨RX3, "ones", "(I)I"⟩
def dkwX3_ones_0 : List UInt8 := [3, 60, 26, 61, 28, 158, 0, 16, 27, 28, 4, 126, 96, 60, 28, 4, 122, 61, 167, 255, 242, 27, 172]
abbrev dktX3_ones_0 : List UInt8 := dkwX3_ones_0 ++ []
theorem dksX3_ones_0 : cX3_ones.data.toList.drop 0 = dktX3_ones_0 := by decide +kernel
theorem dX3_ones_0 : decode cX3_ones 0 = .ok (.iconst 0, 1) := dk_3 (dk_at dksX3_ones_0 0 rfl rfl)
theorem dX3_ones_1 : decode cX3_ones 1 = .ok (.istore_n 1, 1) := dk_60 (dk_at dksX3_ones_0 1 rfl rfl)
theorem dX3_ones_2 : decode cX3_ones 2 = .ok (.iload_n 0, 1) := dk_26 (dk_at dksX3_ones_0 2 rfl rfl)
theorem dX3_ones_3 : decode cX3_ones 3 = .ok (.istore_n 2, 1) := dk_61 (dk_at dksX3_ones_0 3 rfl rfl)
theorem dX3_ones_4 : decode cX3_ones 4 = .ok (.iload_n 2, 1) := dk_28 (dk_at dksX3_ones_0 4 rfl rfl)
theorem dX3_ones_5 : decode cX3_ones 5 = .ok (.ifCond .le 16, 3) := dk_158 0 16 (dk_at dksX3_ones_0 5 rfl rfl)
theorem dX3_ones_8 : decode cX3_ones 8 = .ok (.iload_n 1, 1) := dk_27 (dk_at dksX3_ones_0 8 rfl rfl)
theorem dX3_ones_9 : decode cX3_ones 9 = .ok (.iload_n 2, 1) := dk_28 (dk_at dksX3_ones_0 9 rfl rfl)
theorem dX3_ones_10 : decode cX3_ones 10 = .ok (.iconst 1, 1) := dk_4 (dk_at dksX3_ones_0 10 rfl rfl)
theorem dX3_ones_11 : decode cX3_ones 11 = .ok (.iand, 1) := dk_126 (dk_at dksX3_ones_0 11 rfl rfl)
theorem dX3_ones_12 : decode cX3_ones 12 = .ok (.iadd, 1) := dk_96 (dk_at dksX3_ones_0 12 rfl rfl)
theorem dX3_ones_13 : decode cX3_ones 13 = .ok (.istore_n 1, 1) := dk_60 (dk_at dksX3_ones_0 13 rfl rfl)
theorem dX3_ones_14 : decode cX3_ones 14 = .ok (.iload_n 2, 1) := dk_28 (dk_at dksX3_ones_0 14 rfl rfl)
theorem dX3_ones_15 : decode cX3_ones 15 = .ok (.iconst 1, 1) := dk_4 (dk_at dksX3_ones_0 15 rfl rfl)
theorem dX3_ones_16 : decode cX3_ones 16 = .ok (.ishr, 1) := dk_122 (dk_at dksX3_ones_0 16 rfl rfl)
theorem dX3_ones_17 : decode cX3_ones 17 = .ok (.istore_n 2, 1) := dk_61 (dk_at dksX3_ones_0 17 rfl rfl)
theorem dX3_ones_18 : decode cX3_ones 18 = .ok (.goto (-14), 3) := dk_167 255 242 (dk_at dksX3_ones_0 18 rfl rfl)
theorem dX3_ones_21 : decode cX3_ones 21 = .ok (.iload_n 1, 1) := dk_27 (dk_at dksX3_ones_0 21 rfl rfl)
theorem dX3_ones_22 : decode cX3_ones 22 = .ok (.ireturn, 1) := dk_172 (dk_at dksX3_ones_0 22 rfl rfl)
abbrev cX3_oldWay : ByteArray := prog_11_method_81_code
def yX3_oldWay : MethodName := ⟨RX3, "oldWay", "(II)I"⟩
def dkwX3_oldWay_1 : List UInt8 := [182, 0, 236, 167, 0, 8, 42, 4, 182, 0, 50, 172]
abbrev dktX3_oldWay_1 : List UInt8 := dkwX3_oldWay_1 ++ []
def dkwX3_oldWay_0 : List UInt8 := [42, 3, 181, 0, 38, 27, 184, 0, 141, 153, 0, 21, 28, 3, 5, 184, 0, 42, 153, 0, 12, 42, 27, 28]
abbrev dktX3_oldWay_0 : List UInt8 := dkwX3_oldWay_0 ++ dktX3_oldWay_1
theorem dksX3_oldWay_0 : cX3_oldWay.data.toList.drop 0 = dktX3_oldWay_0 := by decide +kernel
theorem dksX3_oldWay_1 : cX3_oldWay.data.toList.drop 24 = dktX3_oldWay_1 := dk_seg dksX3_oldWay_0 24 rfl rfl
theorem dX3_oldWay_0 : decode cX3_oldWay 0 = .ok (.aload_n 0, 1) := dk_42 (dk_at dksX3_oldWay_0 0 rfl rfl)
theorem dX3_oldWay_1 : decode cX3_oldWay 1 = .ok (.iconst 0, 1) := dk_3 (dk_at dksX3_oldWay_0 1 rfl rfl)
theorem dX3_oldWay_2 : decode cX3_oldWay 2 = .ok (.putfield 38, 3) := dk_181 0 38 (dk_at dksX3_oldWay_0 2 rfl rfl)
theorem dX3_oldWay_5 : decode cX3_oldWay 5 = .ok (.iload_n 1, 1) := dk_27 (dk_at dksX3_oldWay_0 5 rfl rfl)
theorem dX3_oldWay_6 : decode cX3_oldWay 6 = .ok (.invokestatic 141, 3) := dk_184 0 141 (dk_at dksX3_oldWay_0 6 rfl rfl)
theorem dX3_oldWay_9 : decode cX3_oldWay 9 = .ok (.ifCond .eq 21, 3) := dk_153 0 21 (dk_at dksX3_oldWay_0 9 rfl rfl)
theorem dX3_oldWay_12 : decode cX3_oldWay 12 = .ok (.iload_n 2, 1) := dk_28 (dk_at dksX3_oldWay_0 12 rfl rfl)
theorem dX3_oldWay_13 : decode cX3_oldWay 13 = .ok (.iconst 0, 1) := dk_3 (dk_at dksX3_oldWay_0 13 rfl rfl)
theorem dX3_oldWay_14 : decode cX3_oldWay 14 = .ok (.iconst 2, 1) := dk_5 (dk_at dksX3_oldWay_0 14 rfl rfl)
theorem dX3_oldWay_15 : decode cX3_oldWay 15 = .ok (.invokestatic 42, 3) := dk_184 0 42 (dk_at dksX3_oldWay_0 15 rfl rfl)
theorem dX3_oldWay_18 : decode cX3_oldWay 18 = .ok (.ifCond .eq 12, 3) := dk_153 0 12 (dk_at dksX3_oldWay_0 18 rfl rfl)
theorem dX3_oldWay_21 : decode cX3_oldWay 21 = .ok (.aload_n 0, 1) := dk_42 (dk_at dksX3_oldWay_0 21 rfl rfl)
theorem dX3_oldWay_22 : decode cX3_oldWay 22 = .ok (.iload_n 1, 1) := dk_27 (dk_at dksX3_oldWay_0 22 rfl rfl)
theorem dX3_oldWay_23 : decode cX3_oldWay 23 = .ok (.iload_n 2, 1) := dk_28 (dk_at dksX3_oldWay_0 23 rfl rfl)
theorem dX3_oldWay_24 : decode cX3_oldWay 24 = .ok (.invokevirtual 236, 3) := dk_182 0 236 (dk_at dksX3_oldWay_1 0 rfl rfl)
theorem dX3_oldWay_27 : decode cX3_oldWay 27 = .ok (.goto 8, 3) := dk_167 0 8 (dk_at dksX3_oldWay_1 3 rfl rfl)
theorem dX3_oldWay_30 : decode cX3_oldWay 30 = .ok (.aload_n 0, 1) := dk_42 (dk_at dksX3_oldWay_1 6 rfl rfl)
theorem dX3_oldWay_31 : decode cX3_oldWay 31 = .ok (.iconst 1, 1) := dk_4 (dk_at dksX3_oldWay_1 7 rfl rfl)
theorem dX3_oldWay_32 : decode cX3_oldWay 32 = .ok (.invokevirtual 50, 3) := dk_182 0 50 (dk_at dksX3_oldWay_1 8 rfl rfl)
theorem dX3_oldWay_35 : decode cX3_oldWay 35 = .ok (.ireturn, 1) := dk_172 (dk_at dksX3_oldWay_1 11 rfl rfl)
abbrev cX3_oldOf : ByteArray := prog_11_method_80_code
def yX3_oldOf : MethodName := ⟨RX3, "oldOf", "(II)I"⟩
def dkwX3_oldOf_5 : List UInt8 := [167, 0, 15, 28, 154, 0, 7, 29, 167, 0, 7, 42, 180, 0, 230, 172]
abbrev dktX3_oldOf_5 : List UInt8 := dkwX3_oldOf_5 ++ []
def dkwX3_oldOf_4 : List UInt8 := [167, 255, 178, 28, 5, 160, 0, 10, 42, 180, 0, 227, 167, 0, 26, 42, 180, 0, 227, 158, 0, 7, 2]
abbrev dktX3_oldOf_4 : List UInt8 := dkwX3_oldOf_4 ++ dktX3_oldOf_5
def dkwX3_oldOf_3 : List UInt8 := [128, 181, 0, 230, 42, 89, 180, 0, 227, 42, 21, 5, 3, 182, 0, 57, 100, 181, 0, 227, 132, 3, 1]
abbrev dktX3_oldOf_3 : List UInt8 := dkwX3_oldOf_3 ++ dktX3_oldOf_4
def dkwX3_oldOf_2 : List UInt8 := [159, 0, 7, 4, 167, 0, 4, 3, 54, 4, 21, 4, 153, 0, 35, 42, 89, 180, 0, 230, 4, 21, 5, 120]
abbrev dktX3_oldOf_2 : List UInt8 := dkwX3_oldOf_2 ++ dktX3_oldOf_3
def dkwX3_oldOf_1 : List UInt8 := [153, 0, 72, 29, 16, 6, 162, 0, 10, 42, 182, 0, 233, 167, 0, 4, 2, 54, 5, 21, 5, 2]
abbrev dktX3_oldOf_1 : List UInt8 := dkwX3_oldOf_1 ++ dktX3_oldOf_2
def dkwX3_oldOf_0 : List UInt8 := [42, 3, 181, 0, 230, 42, 27, 181, 0, 227, 3, 62, 4, 54, 4, 42, 180, 0, 227, 158, 0, 77, 21, 4]
abbrev dktX3_oldOf_0 : List UInt8 := dkwX3_oldOf_0 ++ dktX3_oldOf_1
theorem dksX3_oldOf_0 : cX3_oldOf.data.toList.drop 0 = dktX3_oldOf_0 := by decide +kernel
theorem dksX3_oldOf_1 : cX3_oldOf.data.toList.drop 24 = dktX3_oldOf_1 := dk_seg dksX3_oldOf_0 24 rfl rfl
theorem dksX3_oldOf_2 : cX3_oldOf.data.toList.drop 46 = dktX3_oldOf_2 := dk_seg dksX3_oldOf_1 22 rfl rfl
theorem dksX3_oldOf_3 : cX3_oldOf.data.toList.drop 70 = dktX3_oldOf_3 := dk_seg dksX3_oldOf_2 24 rfl rfl
theorem dksX3_oldOf_4 : cX3_oldOf.data.toList.drop 93 = dktX3_oldOf_4 := dk_seg dksX3_oldOf_3 23 rfl rfl
theorem dksX3_oldOf_5 : cX3_oldOf.data.toList.drop 116 = dktX3_oldOf_5 := dk_seg dksX3_oldOf_4 23 rfl rfl
theorem dX3_oldOf_0 : decode cX3_oldOf 0 = .ok (.aload_n 0, 1) := dk_42 (dk_at dksX3_oldOf_0 0 rfl rfl)
theorem dX3_oldOf_1 : decode cX3_oldOf 1 = .ok (.iconst 0, 1) := dk_3 (dk_at dksX3_oldOf_0 1 rfl rfl)
theorem dX3_oldOf_2 : decode cX3_oldOf 2 = .ok (.putfield 230, 3) := dk_181 0 230 (dk_at dksX3_oldOf_0 2 rfl rfl)
theorem dX3_oldOf_5 : decode cX3_oldOf 5 = .ok (.aload_n 0, 1) := dk_42 (dk_at dksX3_oldOf_0 5 rfl rfl)
theorem dX3_oldOf_6 : decode cX3_oldOf 6 = .ok (.iload_n 1, 1) := dk_27 (dk_at dksX3_oldOf_0 6 rfl rfl)
theorem dX3_oldOf_7 : decode cX3_oldOf 7 = .ok (.putfield 227, 3) := dk_181 0 227 (dk_at dksX3_oldOf_0 7 rfl rfl)
theorem dX3_oldOf_10 : decode cX3_oldOf 10 = .ok (.iconst 0, 1) := dk_3 (dk_at dksX3_oldOf_0 10 rfl rfl)
theorem dX3_oldOf_11 : decode cX3_oldOf 11 = .ok (.istore_n 3, 1) := dk_62 (dk_at dksX3_oldOf_0 11 rfl rfl)
theorem dX3_oldOf_12 : decode cX3_oldOf 12 = .ok (.iconst 1, 1) := dk_4 (dk_at dksX3_oldOf_0 12 rfl rfl)
theorem dX3_oldOf_13 : decode cX3_oldOf 13 = .ok (.istore 4, 2) := dk_54 4 (dk_at dksX3_oldOf_0 13 rfl rfl)
theorem dX3_oldOf_15 : decode cX3_oldOf 15 = .ok (.aload_n 0, 1) := dk_42 (dk_at dksX3_oldOf_0 15 rfl rfl)
theorem dX3_oldOf_16 : decode cX3_oldOf 16 = .ok (.getfield 227, 3) := dk_180 0 227 (dk_at dksX3_oldOf_0 16 rfl rfl)
theorem dX3_oldOf_19 : decode cX3_oldOf 19 = .ok (.ifCond .le 77, 3) := dk_158 0 77 (dk_at dksX3_oldOf_0 19 rfl rfl)
theorem dX3_oldOf_22 : decode cX3_oldOf 22 = .ok (.iload 4, 2) := dk_21 4 (dk_at dksX3_oldOf_0 22 rfl rfl)
theorem dX3_oldOf_24 : decode cX3_oldOf 24 = .ok (.ifCond .eq 72, 3) := dk_153 0 72 (dk_at dksX3_oldOf_1 0 rfl rfl)
theorem dX3_oldOf_27 : decode cX3_oldOf 27 = .ok (.iload_n 3, 1) := dk_29 (dk_at dksX3_oldOf_1 3 rfl rfl)
theorem dX3_oldOf_28 : decode cX3_oldOf 28 = .ok (.bipush 6, 2) := dk_16 6 (dk_at dksX3_oldOf_1 4 rfl rfl)
theorem dX3_oldOf_30 : decode cX3_oldOf 30 = .ok (.if_icmp .ge 10, 3) := dk_162 0 10 (dk_at dksX3_oldOf_1 6 rfl rfl)
theorem dX3_oldOf_33 : decode cX3_oldOf 33 = .ok (.aload_n 0, 1) := dk_42 (dk_at dksX3_oldOf_1 9 rfl rfl)
theorem dX3_oldOf_34 : decode cX3_oldOf 34 = .ok (.invokevirtual 233, 3) := dk_182 0 233 (dk_at dksX3_oldOf_1 10 rfl rfl)
theorem dX3_oldOf_37 : decode cX3_oldOf 37 = .ok (.goto 4, 3) := dk_167 0 4 (dk_at dksX3_oldOf_1 13 rfl rfl)
theorem dX3_oldOf_40 : decode cX3_oldOf 40 = .ok (.iconst (-1), 1) := dk_2 (dk_at dksX3_oldOf_1 16 rfl rfl)
theorem dX3_oldOf_41 : decode cX3_oldOf 41 = .ok (.istore 5, 2) := dk_54 5 (dk_at dksX3_oldOf_1 17 rfl rfl)
theorem dX3_oldOf_43 : decode cX3_oldOf 43 = .ok (.iload 5, 2) := dk_21 5 (dk_at dksX3_oldOf_1 19 rfl rfl)
theorem dX3_oldOf_45 : decode cX3_oldOf 45 = .ok (.iconst (-1), 1) := dk_2 (dk_at dksX3_oldOf_1 21 rfl rfl)
theorem dX3_oldOf_46 : decode cX3_oldOf 46 = .ok (.if_icmp .eq 7, 3) := dk_159 0 7 (dk_at dksX3_oldOf_2 0 rfl rfl)
theorem dX3_oldOf_49 : decode cX3_oldOf 49 = .ok (.iconst 1, 1) := dk_4 (dk_at dksX3_oldOf_2 3 rfl rfl)
theorem dX3_oldOf_50 : decode cX3_oldOf 50 = .ok (.goto 4, 3) := dk_167 0 4 (dk_at dksX3_oldOf_2 4 rfl rfl)
theorem dX3_oldOf_53 : decode cX3_oldOf 53 = .ok (.iconst 0, 1) := dk_3 (dk_at dksX3_oldOf_2 7 rfl rfl)
theorem dX3_oldOf_54 : decode cX3_oldOf 54 = .ok (.istore 4, 2) := dk_54 4 (dk_at dksX3_oldOf_2 8 rfl rfl)
theorem dX3_oldOf_56 : decode cX3_oldOf 56 = .ok (.iload 4, 2) := dk_21 4 (dk_at dksX3_oldOf_2 10 rfl rfl)
theorem dX3_oldOf_58 : decode cX3_oldOf 58 = .ok (.ifCond .eq 35, 3) := dk_153 0 35 (dk_at dksX3_oldOf_2 12 rfl rfl)
theorem dX3_oldOf_61 : decode cX3_oldOf 61 = .ok (.aload_n 0, 1) := dk_42 (dk_at dksX3_oldOf_2 15 rfl rfl)
theorem dX3_oldOf_62 : decode cX3_oldOf 62 = .ok (.dup, 1) := dk_89 (dk_at dksX3_oldOf_2 16 rfl rfl)
theorem dX3_oldOf_63 : decode cX3_oldOf 63 = .ok (.getfield 230, 3) := dk_180 0 230 (dk_at dksX3_oldOf_2 17 rfl rfl)
theorem dX3_oldOf_66 : decode cX3_oldOf 66 = .ok (.iconst 1, 1) := dk_4 (dk_at dksX3_oldOf_2 20 rfl rfl)
theorem dX3_oldOf_67 : decode cX3_oldOf 67 = .ok (.iload 5, 2) := dk_21 5 (dk_at dksX3_oldOf_2 21 rfl rfl)
theorem dX3_oldOf_69 : decode cX3_oldOf 69 = .ok (.ishl, 1) := dk_120 (dk_at dksX3_oldOf_2 23 rfl rfl)
theorem dX3_oldOf_70 : decode cX3_oldOf 70 = .ok (.ior, 1) := dk_128 (dk_at dksX3_oldOf_3 0 rfl rfl)
theorem dX3_oldOf_71 : decode cX3_oldOf 71 = .ok (.putfield 230, 3) := dk_181 0 230 (dk_at dksX3_oldOf_3 1 rfl rfl)
theorem dX3_oldOf_74 : decode cX3_oldOf 74 = .ok (.aload_n 0, 1) := dk_42 (dk_at dksX3_oldOf_3 4 rfl rfl)
theorem dX3_oldOf_75 : decode cX3_oldOf 75 = .ok (.dup, 1) := dk_89 (dk_at dksX3_oldOf_3 5 rfl rfl)
theorem dX3_oldOf_76 : decode cX3_oldOf 76 = .ok (.getfield 227, 3) := dk_180 0 227 (dk_at dksX3_oldOf_3 6 rfl rfl)
theorem dX3_oldOf_79 : decode cX3_oldOf 79 = .ok (.aload_n 0, 1) := dk_42 (dk_at dksX3_oldOf_3 9 rfl rfl)
theorem dX3_oldOf_80 : decode cX3_oldOf 80 = .ok (.iload 5, 2) := dk_21 5 (dk_at dksX3_oldOf_3 10 rfl rfl)
theorem dX3_oldOf_82 : decode cX3_oldOf 82 = .ok (.iconst 0, 1) := dk_3 (dk_at dksX3_oldOf_3 12 rfl rfl)
theorem dX3_oldOf_83 : decode cX3_oldOf 83 = .ok (.invokevirtual 57, 3) := dk_182 0 57 (dk_at dksX3_oldOf_3 13 rfl rfl)
theorem dX3_oldOf_86 : decode cX3_oldOf 86 = .ok (.isub, 1) := dk_100 (dk_at dksX3_oldOf_3 16 rfl rfl)
theorem dX3_oldOf_87 : decode cX3_oldOf 87 = .ok (.putfield 227, 3) := dk_181 0 227 (dk_at dksX3_oldOf_3 17 rfl rfl)
theorem dX3_oldOf_90 : decode cX3_oldOf 90 = .ok (.iinc 3 1, 3) := dk_132 3 1 (dk_at dksX3_oldOf_3 20 rfl rfl)
theorem dX3_oldOf_93 : decode cX3_oldOf 93 = .ok (.goto (-78), 3) := dk_167 255 178 (dk_at dksX3_oldOf_4 0 rfl rfl)
theorem dX3_oldOf_96 : decode cX3_oldOf 96 = .ok (.iload_n 2, 1) := dk_28 (dk_at dksX3_oldOf_4 3 rfl rfl)
theorem dX3_oldOf_97 : decode cX3_oldOf 97 = .ok (.iconst 2, 1) := dk_5 (dk_at dksX3_oldOf_4 4 rfl rfl)
theorem dX3_oldOf_98 : decode cX3_oldOf 98 = .ok (.if_icmp .ne 10, 3) := dk_160 0 10 (dk_at dksX3_oldOf_4 5 rfl rfl)
theorem dX3_oldOf_101 : decode cX3_oldOf 101 = .ok (.aload_n 0, 1) := dk_42 (dk_at dksX3_oldOf_4 8 rfl rfl)
theorem dX3_oldOf_102 : decode cX3_oldOf 102 = .ok (.getfield 227, 3) := dk_180 0 227 (dk_at dksX3_oldOf_4 9 rfl rfl)
theorem dX3_oldOf_105 : decode cX3_oldOf 105 = .ok (.goto 26, 3) := dk_167 0 26 (dk_at dksX3_oldOf_4 12 rfl rfl)
theorem dX3_oldOf_108 : decode cX3_oldOf 108 = .ok (.aload_n 0, 1) := dk_42 (dk_at dksX3_oldOf_4 15 rfl rfl)
theorem dX3_oldOf_109 : decode cX3_oldOf 109 = .ok (.getfield 227, 3) := dk_180 0 227 (dk_at dksX3_oldOf_4 16 rfl rfl)
theorem dX3_oldOf_112 : decode cX3_oldOf 112 = .ok (.ifCond .le 7, 3) := dk_158 0 7 (dk_at dksX3_oldOf_4 19 rfl rfl)
theorem dX3_oldOf_115 : decode cX3_oldOf 115 = .ok (.iconst (-1), 1) := dk_2 (dk_at dksX3_oldOf_4 22 rfl rfl)
theorem dX3_oldOf_116 : decode cX3_oldOf 116 = .ok (.goto 15, 3) := dk_167 0 15 (dk_at dksX3_oldOf_5 0 rfl rfl)
theorem dX3_oldOf_119 : decode cX3_oldOf 119 = .ok (.iload_n 2, 1) := dk_28 (dk_at dksX3_oldOf_5 3 rfl rfl)
theorem dX3_oldOf_120 : decode cX3_oldOf 120 = .ok (.ifCond .ne 7, 3) := dk_154 0 7 (dk_at dksX3_oldOf_5 4 rfl rfl)
theorem dX3_oldOf_123 : decode cX3_oldOf 123 = .ok (.iload_n 3, 1) := dk_29 (dk_at dksX3_oldOf_5 7 rfl rfl)
theorem dX3_oldOf_124 : decode cX3_oldOf 124 = .ok (.goto 7, 3) := dk_167 0 7 (dk_at dksX3_oldOf_5 8 rfl rfl)
theorem dX3_oldOf_127 : decode cX3_oldOf 127 = .ok (.aload_n 0, 1) := dk_42 (dk_at dksX3_oldOf_5 11 rfl rfl)
theorem dX3_oldOf_128 : decode cX3_oldOf 128 = .ok (.getfield 230, 3) := dk_180 0 230 (dk_at dksX3_oldOf_5 12 rfl rfl)
theorem dX3_oldOf_131 : decode cX3_oldOf 131 = .ok (.ireturn, 1) := dk_172 (dk_at dksX3_oldOf_5 15 rfl rfl)
abbrev cX3_nextOld : ByteArray := prog_11_method_79_code
def yX3_nextOld : MethodName := ⟨RX3, "nextOld", "()I"⟩
def dkwX3_nextOld_5 : List UInt8 := [167, 255, 160, 28, 172]
abbrev dktX3_nextOld_5 : List UInt8 := dkwX3_nextOld_5 ++ []
def dkwX3_nextOld_4 : List UInt8 := [2, 159, 0, 14, 21, 4, 42, 28, 3, 182, 0, 57, 164, 0, 7, 29, 167, 0, 4, 28, 61, 132, 3, 1]
abbrev dktX3_nextOld_4 : List UInt8 := dkwX3_nextOld_4 ++ dktX3_nextOld_5
def dkwX3_nextOld_3 : List UInt8 := [180, 0, 227, 21, 4, 100, 27, 112, 154, 0, 7, 4, 167, 0, 4, 3, 54, 5, 21, 5, 153, 0, 23, 28]
abbrev dktX3_nextOld_3 : List UInt8 := dkwX3_nextOld_3 ++ dktX3_nextOld_4
def dkwX3_nextOld_2 : List UInt8 := [153, 0, 39, 42, 180, 0, 230, 29, 122, 4, 126, 154, 0, 28, 21, 4, 42, 180, 0, 227, 163, 0, 19, 42]
abbrev dktX3_nextOld_2 : List UInt8 := dkwX3_nextOld_2 ++ dktX3_nextOld_3
def dkwX3_nextOld_1 : List UInt8 := [29, 42, 180, 0, 7, 16, 8, 46, 162, 0, 91, 42, 29, 3, 182, 0, 57, 54, 4, 42, 29, 182, 0, 78]
abbrev dktX3_nextOld_1 : List UInt8 := dkwX3_nextOld_1 ++ dktX3_nextOld_2
def dkwX3_nextOld_0 : List UInt8 := [16, 10, 60, 42, 180, 0, 227, 27, 112, 154, 0, 11, 27, 16, 10, 104, 60, 167, 255, 242, 2, 61, 3, 62]
abbrev dktX3_nextOld_0 : List UInt8 := dkwX3_nextOld_0 ++ dktX3_nextOld_1
theorem dksX3_nextOld_0 : cX3_nextOld.data.toList.drop 0 = dktX3_nextOld_0 := by decide +kernel
theorem dksX3_nextOld_1 : cX3_nextOld.data.toList.drop 24 = dktX3_nextOld_1 := dk_seg dksX3_nextOld_0 24 rfl rfl
theorem dksX3_nextOld_2 : cX3_nextOld.data.toList.drop 48 = dktX3_nextOld_2 := dk_seg dksX3_nextOld_1 24 rfl rfl
theorem dksX3_nextOld_3 : cX3_nextOld.data.toList.drop 72 = dktX3_nextOld_3 := dk_seg dksX3_nextOld_2 24 rfl rfl
theorem dksX3_nextOld_4 : cX3_nextOld.data.toList.drop 96 = dktX3_nextOld_4 := dk_seg dksX3_nextOld_3 24 rfl rfl
theorem dksX3_nextOld_5 : cX3_nextOld.data.toList.drop 120 = dktX3_nextOld_5 := dk_seg dksX3_nextOld_4 24 rfl rfl
theorem dX3_nextOld_0 : decode cX3_nextOld 0 = .ok (.bipush 10, 2) := dk_16 10 (dk_at dksX3_nextOld_0 0 rfl rfl)
theorem dX3_nextOld_2 : decode cX3_nextOld 2 = .ok (.istore_n 1, 1) := dk_60 (dk_at dksX3_nextOld_0 2 rfl rfl)
theorem dX3_nextOld_3 : decode cX3_nextOld 3 = .ok (.aload_n 0, 1) := dk_42 (dk_at dksX3_nextOld_0 3 rfl rfl)
theorem dX3_nextOld_4 : decode cX3_nextOld 4 = .ok (.getfield 227, 3) := dk_180 0 227 (dk_at dksX3_nextOld_0 4 rfl rfl)
theorem dX3_nextOld_7 : decode cX3_nextOld 7 = .ok (.iload_n 1, 1) := dk_27 (dk_at dksX3_nextOld_0 7 rfl rfl)
theorem dX3_nextOld_8 : decode cX3_nextOld 8 = .ok (.irem, 1) := dk_112 (dk_at dksX3_nextOld_0 8 rfl rfl)
theorem dX3_nextOld_9 : decode cX3_nextOld 9 = .ok (.ifCond .ne 11, 3) := dk_154 0 11 (dk_at dksX3_nextOld_0 9 rfl rfl)
theorem dX3_nextOld_12 : decode cX3_nextOld 12 = .ok (.iload_n 1, 1) := dk_27 (dk_at dksX3_nextOld_0 12 rfl rfl)
theorem dX3_nextOld_13 : decode cX3_nextOld 13 = .ok (.bipush 10, 2) := dk_16 10 (dk_at dksX3_nextOld_0 13 rfl rfl)
theorem dX3_nextOld_15 : decode cX3_nextOld 15 = .ok (.imul, 1) := dk_104 (dk_at dksX3_nextOld_0 15 rfl rfl)
theorem dX3_nextOld_16 : decode cX3_nextOld 16 = .ok (.istore_n 1, 1) := dk_60 (dk_at dksX3_nextOld_0 16 rfl rfl)
theorem dX3_nextOld_17 : decode cX3_nextOld 17 = .ok (.goto (-14), 3) := dk_167 255 242 (dk_at dksX3_nextOld_0 17 rfl rfl)
theorem dX3_nextOld_20 : decode cX3_nextOld 20 = .ok (.iconst (-1), 1) := dk_2 (dk_at dksX3_nextOld_0 20 rfl rfl)
theorem dX3_nextOld_21 : decode cX3_nextOld 21 = .ok (.istore_n 2, 1) := dk_61 (dk_at dksX3_nextOld_0 21 rfl rfl)
theorem dX3_nextOld_22 : decode cX3_nextOld 22 = .ok (.iconst 0, 1) := dk_3 (dk_at dksX3_nextOld_0 22 rfl rfl)
theorem dX3_nextOld_23 : decode cX3_nextOld 23 = .ok (.istore_n 3, 1) := dk_62 (dk_at dksX3_nextOld_0 23 rfl rfl)
theorem dX3_nextOld_24 : decode cX3_nextOld 24 = .ok (.iload_n 3, 1) := dk_29 (dk_at dksX3_nextOld_1 0 rfl rfl)
theorem dX3_nextOld_25 : decode cX3_nextOld 25 = .ok (.aload_n 0, 1) := dk_42 (dk_at dksX3_nextOld_1 1 rfl rfl)
theorem dX3_nextOld_26 : decode cX3_nextOld 26 = .ok (.getfield 7, 3) := dk_180 0 7 (dk_at dksX3_nextOld_1 2 rfl rfl)
theorem dX3_nextOld_29 : decode cX3_nextOld 29 = .ok (.bipush 8, 2) := dk_16 8 (dk_at dksX3_nextOld_1 5 rfl rfl)
theorem dX3_nextOld_31 : decode cX3_nextOld 31 = .ok (.iaload, 1) := dk_46 (dk_at dksX3_nextOld_1 7 rfl rfl)
theorem dX3_nextOld_32 : decode cX3_nextOld 32 = .ok (.if_icmp .ge 91, 3) := dk_162 0 91 (dk_at dksX3_nextOld_1 8 rfl rfl)
theorem dX3_nextOld_35 : decode cX3_nextOld 35 = .ok (.aload_n 0, 1) := dk_42 (dk_at dksX3_nextOld_1 11 rfl rfl)
theorem dX3_nextOld_36 : decode cX3_nextOld 36 = .ok (.iload_n 3, 1) := dk_29 (dk_at dksX3_nextOld_1 12 rfl rfl)
theorem dX3_nextOld_37 : decode cX3_nextOld 37 = .ok (.iconst 0, 1) := dk_3 (dk_at dksX3_nextOld_1 13 rfl rfl)
theorem dX3_nextOld_38 : decode cX3_nextOld 38 = .ok (.invokevirtual 57, 3) := dk_182 0 57 (dk_at dksX3_nextOld_1 14 rfl rfl)
theorem dX3_nextOld_41 : decode cX3_nextOld 41 = .ok (.istore 4, 2) := dk_54 4 (dk_at dksX3_nextOld_1 17 rfl rfl)
theorem dX3_nextOld_43 : decode cX3_nextOld 43 = .ok (.aload_n 0, 1) := dk_42 (dk_at dksX3_nextOld_1 19 rfl rfl)
theorem dX3_nextOld_44 : decode cX3_nextOld 44 = .ok (.iload_n 3, 1) := dk_29 (dk_at dksX3_nextOld_1 20 rfl rfl)
theorem dX3_nextOld_45 : decode cX3_nextOld 45 = .ok (.invokevirtual 78, 3) := dk_182 0 78 (dk_at dksX3_nextOld_1 21 rfl rfl)
theorem dX3_nextOld_48 : decode cX3_nextOld 48 = .ok (.ifCond .eq 39, 3) := dk_153 0 39 (dk_at dksX3_nextOld_2 0 rfl rfl)
theorem dX3_nextOld_51 : decode cX3_nextOld 51 = .ok (.aload_n 0, 1) := dk_42 (dk_at dksX3_nextOld_2 3 rfl rfl)
theorem dX3_nextOld_52 : decode cX3_nextOld 52 = .ok (.getfield 230, 3) := dk_180 0 230 (dk_at dksX3_nextOld_2 4 rfl rfl)
theorem dX3_nextOld_55 : decode cX3_nextOld 55 = .ok (.iload_n 3, 1) := dk_29 (dk_at dksX3_nextOld_2 7 rfl rfl)
theorem dX3_nextOld_56 : decode cX3_nextOld 56 = .ok (.ishr, 1) := dk_122 (dk_at dksX3_nextOld_2 8 rfl rfl)
theorem dX3_nextOld_57 : decode cX3_nextOld 57 = .ok (.iconst 1, 1) := dk_4 (dk_at dksX3_nextOld_2 9 rfl rfl)
theorem dX3_nextOld_58 : decode cX3_nextOld 58 = .ok (.iand, 1) := dk_126 (dk_at dksX3_nextOld_2 10 rfl rfl)
theorem dX3_nextOld_59 : decode cX3_nextOld 59 = .ok (.ifCond .ne 28, 3) := dk_154 0 28 (dk_at dksX3_nextOld_2 11 rfl rfl)
theorem dX3_nextOld_62 : decode cX3_nextOld 62 = .ok (.iload 4, 2) := dk_21 4 (dk_at dksX3_nextOld_2 14 rfl rfl)
theorem dX3_nextOld_64 : decode cX3_nextOld 64 = .ok (.aload_n 0, 1) := dk_42 (dk_at dksX3_nextOld_2 16 rfl rfl)
theorem dX3_nextOld_65 : decode cX3_nextOld 65 = .ok (.getfield 227, 3) := dk_180 0 227 (dk_at dksX3_nextOld_2 17 rfl rfl)
theorem dX3_nextOld_68 : decode cX3_nextOld 68 = .ok (.if_icmp .gt 19, 3) := dk_163 0 19 (dk_at dksX3_nextOld_2 20 rfl rfl)
theorem dX3_nextOld_71 : decode cX3_nextOld 71 = .ok (.aload_n 0, 1) := dk_42 (dk_at dksX3_nextOld_2 23 rfl rfl)
theorem dX3_nextOld_72 : decode cX3_nextOld 72 = .ok (.getfield 227, 3) := dk_180 0 227 (dk_at dksX3_nextOld_3 0 rfl rfl)
theorem dX3_nextOld_75 : decode cX3_nextOld 75 = .ok (.iload 4, 2) := dk_21 4 (dk_at dksX3_nextOld_3 3 rfl rfl)
theorem dX3_nextOld_77 : decode cX3_nextOld 77 = .ok (.isub, 1) := dk_100 (dk_at dksX3_nextOld_3 5 rfl rfl)
theorem dX3_nextOld_78 : decode cX3_nextOld 78 = .ok (.iload_n 1, 1) := dk_27 (dk_at dksX3_nextOld_3 6 rfl rfl)
theorem dX3_nextOld_79 : decode cX3_nextOld 79 = .ok (.irem, 1) := dk_112 (dk_at dksX3_nextOld_3 7 rfl rfl)
theorem dX3_nextOld_80 : decode cX3_nextOld 80 = .ok (.ifCond .ne 7, 3) := dk_154 0 7 (dk_at dksX3_nextOld_3 8 rfl rfl)
theorem dX3_nextOld_83 : decode cX3_nextOld 83 = .ok (.iconst 1, 1) := dk_4 (dk_at dksX3_nextOld_3 11 rfl rfl)
theorem dX3_nextOld_84 : decode cX3_nextOld 84 = .ok (.goto 4, 3) := dk_167 0 4 (dk_at dksX3_nextOld_3 12 rfl rfl)
theorem dX3_nextOld_87 : decode cX3_nextOld 87 = .ok (.iconst 0, 1) := dk_3 (dk_at dksX3_nextOld_3 15 rfl rfl)
theorem dX3_nextOld_88 : decode cX3_nextOld 88 = .ok (.istore 5, 2) := dk_54 5 (dk_at dksX3_nextOld_3 16 rfl rfl)
theorem dX3_nextOld_90 : decode cX3_nextOld 90 = .ok (.iload 5, 2) := dk_21 5 (dk_at dksX3_nextOld_3 18 rfl rfl)
theorem dX3_nextOld_92 : decode cX3_nextOld 92 = .ok (.ifCond .eq 23, 3) := dk_153 0 23 (dk_at dksX3_nextOld_3 20 rfl rfl)
theorem dX3_nextOld_95 : decode cX3_nextOld 95 = .ok (.iload_n 2, 1) := dk_28 (dk_at dksX3_nextOld_3 23 rfl rfl)
theorem dX3_nextOld_96 : decode cX3_nextOld 96 = .ok (.iconst (-1), 1) := dk_2 (dk_at dksX3_nextOld_4 0 rfl rfl)
theorem dX3_nextOld_97 : decode cX3_nextOld 97 = .ok (.if_icmp .eq 14, 3) := dk_159 0 14 (dk_at dksX3_nextOld_4 1 rfl rfl)
theorem dX3_nextOld_100 : decode cX3_nextOld 100 = .ok (.iload 4, 2) := dk_21 4 (dk_at dksX3_nextOld_4 4 rfl rfl)
theorem dX3_nextOld_102 : decode cX3_nextOld 102 = .ok (.aload_n 0, 1) := dk_42 (dk_at dksX3_nextOld_4 6 rfl rfl)
theorem dX3_nextOld_103 : decode cX3_nextOld 103 = .ok (.iload_n 2, 1) := dk_28 (dk_at dksX3_nextOld_4 7 rfl rfl)
theorem dX3_nextOld_104 : decode cX3_nextOld 104 = .ok (.iconst 0, 1) := dk_3 (dk_at dksX3_nextOld_4 8 rfl rfl)
theorem dX3_nextOld_105 : decode cX3_nextOld 105 = .ok (.invokevirtual 57, 3) := dk_182 0 57 (dk_at dksX3_nextOld_4 9 rfl rfl)
theorem dX3_nextOld_108 : decode cX3_nextOld 108 = .ok (.if_icmp .le 7, 3) := dk_164 0 7 (dk_at dksX3_nextOld_4 12 rfl rfl)
theorem dX3_nextOld_111 : decode cX3_nextOld 111 = .ok (.iload_n 3, 1) := dk_29 (dk_at dksX3_nextOld_4 15 rfl rfl)
theorem dX3_nextOld_112 : decode cX3_nextOld 112 = .ok (.goto 4, 3) := dk_167 0 4 (dk_at dksX3_nextOld_4 16 rfl rfl)
theorem dX3_nextOld_115 : decode cX3_nextOld 115 = .ok (.iload_n 2, 1) := dk_28 (dk_at dksX3_nextOld_4 19 rfl rfl)
theorem dX3_nextOld_116 : decode cX3_nextOld 116 = .ok (.istore_n 2, 1) := dk_61 (dk_at dksX3_nextOld_4 20 rfl rfl)
theorem dX3_nextOld_117 : decode cX3_nextOld 117 = .ok (.iinc 3 1, 3) := dk_132 3 1 (dk_at dksX3_nextOld_4 21 rfl rfl)
theorem dX3_nextOld_120 : decode cX3_nextOld 120 = .ok (.goto (-96), 3) := dk_167 255 160 (dk_at dksX3_nextOld_5 0 rfl rfl)
theorem dX3_nextOld_123 : decode cX3_nextOld 123 = .ok (.iload_n 2, 1) := dk_28 (dk_at dksX3_nextOld_5 3 rfl rfl)
theorem dX3_nextOld_124 : decode cX3_nextOld 124 = .ok (.ireturn, 1) := dk_172 (dk_at dksX3_nextOld_5 4 rfl rfl)
abbrev cX3_nearest : ByteArray := prog_11_method_84_code
def yX3_nearest : MethodName := ⟨RX3, "nearest", "(I)I"⟩
def dkwX3_nearest_1 : List UInt8 := [182, 0, 50, 172]
abbrev dktX3_nearest_1 : List UInt8 := dkwX3_nearest_1 ++ []
def dkwX3_nearest_0 : List UInt8 := [42, 3, 181, 0, 38, 27, 184, 0, 141, 153, 0, 11, 42, 27, 182, 0, 243, 167, 0, 8, 42, 4]
abbrev dktX3_nearest_0 : List UInt8 := dkwX3_nearest_0 ++ dktX3_nearest_1
theorem dksX3_nearest_0 : cX3_nearest.data.toList.drop 0 = dktX3_nearest_0 := by decide +kernel
theorem dksX3_nearest_1 : cX3_nearest.data.toList.drop 22 = dktX3_nearest_1 := dk_seg dksX3_nearest_0 22 rfl rfl
theorem dX3_nearest_0 : decode cX3_nearest 0 = .ok (.aload_n 0, 1) := dk_42 (dk_at dksX3_nearest_0 0 rfl rfl)
theorem dX3_nearest_1 : decode cX3_nearest 1 = .ok (.iconst 0, 1) := dk_3 (dk_at dksX3_nearest_0 1 rfl rfl)
theorem dX3_nearest_2 : decode cX3_nearest 2 = .ok (.putfield 38, 3) := dk_181 0 38 (dk_at dksX3_nearest_0 2 rfl rfl)
theorem dX3_nearest_5 : decode cX3_nearest 5 = .ok (.iload_n 1, 1) := dk_27 (dk_at dksX3_nearest_0 5 rfl rfl)
theorem dX3_nearest_6 : decode cX3_nearest 6 = .ok (.invokestatic 141, 3) := dk_184 0 141 (dk_at dksX3_nearest_0 6 rfl rfl)
theorem dX3_nearest_9 : decode cX3_nearest 9 = .ok (.ifCond .eq 11, 3) := dk_153 0 11 (dk_at dksX3_nearest_0 9 rfl rfl)
theorem dX3_nearest_12 : decode cX3_nearest 12 = .ok (.aload_n 0, 1) := dk_42 (dk_at dksX3_nearest_0 12 rfl rfl)
theorem dX3_nearest_13 : decode cX3_nearest 13 = .ok (.iload_n 1, 1) := dk_27 (dk_at dksX3_nearest_0 13 rfl rfl)
theorem dX3_nearest_14 : decode cX3_nearest 14 = .ok (.invokevirtual 243, 3) := dk_182 0 243 (dk_at dksX3_nearest_0 14 rfl rfl)
theorem dX3_nearest_17 : decode cX3_nearest 17 = .ok (.goto 8, 3) := dk_167 0 8 (dk_at dksX3_nearest_0 17 rfl rfl)
theorem dX3_nearest_20 : decode cX3_nearest 20 = .ok (.aload_n 0, 1) := dk_42 (dk_at dksX3_nearest_0 20 rfl rfl)
theorem dX3_nearest_21 : decode cX3_nearest 21 = .ok (.iconst 1, 1) := dk_4 (dk_at dksX3_nearest_0 21 rfl rfl)
theorem dX3_nearest_22 : decode cX3_nearest 22 = .ok (.invokevirtual 50, 3) := dk_182 0 50 (dk_at dksX3_nearest_1 0 rfl rfl)
theorem dX3_nearest_25 : decode cX3_nearest 25 = .ok (.ireturn, 1) := dk_172 (dk_at dksX3_nearest_1 3 rfl rfl)
abbrev cX3_nearestTo : ByteArray := prog_11_method_83_code
def yX3_nearestTo : MethodName := ⟨RX3, "nearestTo", "(I)I"⟩
def dkwX3_nearestTo_3 : List UInt8 := [132, 4, 1, 167, 255, 217, 132, 3, 1, 167, 255, 183, 28, 172]
abbrev dktX3_nearestTo_3 : List UInt8 := dkwX3_nearestTo_3 ++ []
def dkwX3_nearestTo_2 : List UInt8 := [29, 46, 3, 182, 0, 57, 42, 42, 180, 0, 23, 21, 4, 46, 3, 182, 0, 57, 96, 27, 184, 0, 239, 61]
abbrev dktX3_nearestTo_2 : List UInt8 := dkwX3_nearestTo_2 ++ dktX3_nearestTo_3
def dkwX3_nearestTo_1 : List UInt8 := [3, 182, 0, 57, 27, 184, 0, 239, 61, 3, 54, 4, 21, 4, 29, 162, 0, 39, 28, 42, 42, 180, 0, 23]
abbrev dktX3_nearestTo_1 : List UInt8 := dkwX3_nearestTo_1 ++ dktX3_nearestTo_2
def dkwX3_nearestTo_0 : List UInt8 := [42, 182, 0, 100, 2, 61, 3, 62, 29, 42, 180, 0, 97, 162, 0, 71, 28, 42, 42, 180, 0, 23, 29, 46]
abbrev dktX3_nearestTo_0 : List UInt8 := dkwX3_nearestTo_0 ++ dktX3_nearestTo_1
theorem dksX3_nearestTo_0 : cX3_nearestTo.data.toList.drop 0 = dktX3_nearestTo_0 := by decide +kernel
theorem dksX3_nearestTo_1 : cX3_nearestTo.data.toList.drop 24 = dktX3_nearestTo_1 := dk_seg dksX3_nearestTo_0 24 rfl rfl
theorem dksX3_nearestTo_2 : cX3_nearestTo.data.toList.drop 48 = dktX3_nearestTo_2 := dk_seg dksX3_nearestTo_1 24 rfl rfl
theorem dksX3_nearestTo_3 : cX3_nearestTo.data.toList.drop 72 = dktX3_nearestTo_3 := dk_seg dksX3_nearestTo_2 24 rfl rfl
theorem dX3_nearestTo_0 : decode cX3_nearestTo 0 = .ok (.aload_n 0, 1) := dk_42 (dk_at dksX3_nearestTo_0 0 rfl rfl)
theorem dX3_nearestTo_1 : decode cX3_nearestTo 1 = .ok (.invokevirtual 100, 3) := dk_182 0 100 (dk_at dksX3_nearestTo_0 1 rfl rfl)
theorem dX3_nearestTo_4 : decode cX3_nearestTo 4 = .ok (.iconst (-1), 1) := dk_2 (dk_at dksX3_nearestTo_0 4 rfl rfl)
theorem dX3_nearestTo_5 : decode cX3_nearestTo 5 = .ok (.istore_n 2, 1) := dk_61 (dk_at dksX3_nearestTo_0 5 rfl rfl)
theorem dX3_nearestTo_6 : decode cX3_nearestTo 6 = .ok (.iconst 0, 1) := dk_3 (dk_at dksX3_nearestTo_0 6 rfl rfl)
theorem dX3_nearestTo_7 : decode cX3_nearestTo 7 = .ok (.istore_n 3, 1) := dk_62 (dk_at dksX3_nearestTo_0 7 rfl rfl)
theorem dX3_nearestTo_8 : decode cX3_nearestTo 8 = .ok (.iload_n 3, 1) := dk_29 (dk_at dksX3_nearestTo_0 8 rfl rfl)
theorem dX3_nearestTo_9 : decode cX3_nearestTo 9 = .ok (.aload_n 0, 1) := dk_42 (dk_at dksX3_nearestTo_0 9 rfl rfl)
theorem dX3_nearestTo_10 : decode cX3_nearestTo 10 = .ok (.getfield 97, 3) := dk_180 0 97 (dk_at dksX3_nearestTo_0 10 rfl rfl)
theorem dX3_nearestTo_13 : decode cX3_nearestTo 13 = .ok (.if_icmp .ge 71, 3) := dk_162 0 71 (dk_at dksX3_nearestTo_0 13 rfl rfl)
theorem dX3_nearestTo_16 : decode cX3_nearestTo 16 = .ok (.iload_n 2, 1) := dk_28 (dk_at dksX3_nearestTo_0 16 rfl rfl)
theorem dX3_nearestTo_17 : decode cX3_nearestTo 17 = .ok (.aload_n 0, 1) := dk_42 (dk_at dksX3_nearestTo_0 17 rfl rfl)
theorem dX3_nearestTo_18 : decode cX3_nearestTo 18 = .ok (.aload_n 0, 1) := dk_42 (dk_at dksX3_nearestTo_0 18 rfl rfl)
theorem dX3_nearestTo_19 : decode cX3_nearestTo 19 = .ok (.getfield 23, 3) := dk_180 0 23 (dk_at dksX3_nearestTo_0 19 rfl rfl)
theorem dX3_nearestTo_22 : decode cX3_nearestTo 22 = .ok (.iload_n 3, 1) := dk_29 (dk_at dksX3_nearestTo_0 22 rfl rfl)
theorem dX3_nearestTo_23 : decode cX3_nearestTo 23 = .ok (.iaload, 1) := dk_46 (dk_at dksX3_nearestTo_0 23 rfl rfl)
theorem dX3_nearestTo_24 : decode cX3_nearestTo 24 = .ok (.iconst 0, 1) := dk_3 (dk_at dksX3_nearestTo_1 0 rfl rfl)
theorem dX3_nearestTo_25 : decode cX3_nearestTo 25 = .ok (.invokevirtual 57, 3) := dk_182 0 57 (dk_at dksX3_nearestTo_1 1 rfl rfl)
theorem dX3_nearestTo_28 : decode cX3_nearestTo 28 = .ok (.iload_n 1, 1) := dk_27 (dk_at dksX3_nearestTo_1 4 rfl rfl)
theorem dX3_nearestTo_29 : decode cX3_nearestTo 29 = .ok (.invokestatic 239, 3) := dk_184 0 239 (dk_at dksX3_nearestTo_1 5 rfl rfl)
theorem dX3_nearestTo_32 : decode cX3_nearestTo 32 = .ok (.istore_n 2, 1) := dk_61 (dk_at dksX3_nearestTo_1 8 rfl rfl)
theorem dX3_nearestTo_33 : decode cX3_nearestTo 33 = .ok (.iconst 0, 1) := dk_3 (dk_at dksX3_nearestTo_1 9 rfl rfl)
theorem dX3_nearestTo_34 : decode cX3_nearestTo 34 = .ok (.istore 4, 2) := dk_54 4 (dk_at dksX3_nearestTo_1 10 rfl rfl)
theorem dX3_nearestTo_36 : decode cX3_nearestTo 36 = .ok (.iload 4, 2) := dk_21 4 (dk_at dksX3_nearestTo_1 12 rfl rfl)
theorem dX3_nearestTo_38 : decode cX3_nearestTo 38 = .ok (.iload_n 3, 1) := dk_29 (dk_at dksX3_nearestTo_1 14 rfl rfl)
theorem dX3_nearestTo_39 : decode cX3_nearestTo 39 = .ok (.if_icmp .ge 39, 3) := dk_162 0 39 (dk_at dksX3_nearestTo_1 15 rfl rfl)
theorem dX3_nearestTo_42 : decode cX3_nearestTo 42 = .ok (.iload_n 2, 1) := dk_28 (dk_at dksX3_nearestTo_1 18 rfl rfl)
theorem dX3_nearestTo_43 : decode cX3_nearestTo 43 = .ok (.aload_n 0, 1) := dk_42 (dk_at dksX3_nearestTo_1 19 rfl rfl)
theorem dX3_nearestTo_44 : decode cX3_nearestTo 44 = .ok (.aload_n 0, 1) := dk_42 (dk_at dksX3_nearestTo_1 20 rfl rfl)
theorem dX3_nearestTo_45 : decode cX3_nearestTo 45 = .ok (.getfield 23, 3) := dk_180 0 23 (dk_at dksX3_nearestTo_1 21 rfl rfl)
theorem dX3_nearestTo_48 : decode cX3_nearestTo 48 = .ok (.iload_n 3, 1) := dk_29 (dk_at dksX3_nearestTo_2 0 rfl rfl)
theorem dX3_nearestTo_49 : decode cX3_nearestTo 49 = .ok (.iaload, 1) := dk_46 (dk_at dksX3_nearestTo_2 1 rfl rfl)
theorem dX3_nearestTo_50 : decode cX3_nearestTo 50 = .ok (.iconst 0, 1) := dk_3 (dk_at dksX3_nearestTo_2 2 rfl rfl)
theorem dX3_nearestTo_51 : decode cX3_nearestTo 51 = .ok (.invokevirtual 57, 3) := dk_182 0 57 (dk_at dksX3_nearestTo_2 3 rfl rfl)
theorem dX3_nearestTo_54 : decode cX3_nearestTo 54 = .ok (.aload_n 0, 1) := dk_42 (dk_at dksX3_nearestTo_2 6 rfl rfl)
theorem dX3_nearestTo_55 : decode cX3_nearestTo 55 = .ok (.aload_n 0, 1) := dk_42 (dk_at dksX3_nearestTo_2 7 rfl rfl)
theorem dX3_nearestTo_56 : decode cX3_nearestTo 56 = .ok (.getfield 23, 3) := dk_180 0 23 (dk_at dksX3_nearestTo_2 8 rfl rfl)
theorem dX3_nearestTo_59 : decode cX3_nearestTo 59 = .ok (.iload 4, 2) := dk_21 4 (dk_at dksX3_nearestTo_2 11 rfl rfl)
theorem dX3_nearestTo_61 : decode cX3_nearestTo 61 = .ok (.iaload, 1) := dk_46 (dk_at dksX3_nearestTo_2 13 rfl rfl)
theorem dX3_nearestTo_62 : decode cX3_nearestTo 62 = .ok (.iconst 0, 1) := dk_3 (dk_at dksX3_nearestTo_2 14 rfl rfl)
theorem dX3_nearestTo_63 : decode cX3_nearestTo 63 = .ok (.invokevirtual 57, 3) := dk_182 0 57 (dk_at dksX3_nearestTo_2 15 rfl rfl)
theorem dX3_nearestTo_66 : decode cX3_nearestTo 66 = .ok (.iadd, 1) := dk_96 (dk_at dksX3_nearestTo_2 18 rfl rfl)
theorem dX3_nearestTo_67 : decode cX3_nearestTo 67 = .ok (.iload_n 1, 1) := dk_27 (dk_at dksX3_nearestTo_2 19 rfl rfl)
theorem dX3_nearestTo_68 : decode cX3_nearestTo 68 = .ok (.invokestatic 239, 3) := dk_184 0 239 (dk_at dksX3_nearestTo_2 20 rfl rfl)
theorem dX3_nearestTo_71 : decode cX3_nearestTo 71 = .ok (.istore_n 2, 1) := dk_61 (dk_at dksX3_nearestTo_2 23 rfl rfl)
theorem dX3_nearestTo_72 : decode cX3_nearestTo 72 = .ok (.iinc 4 1, 3) := dk_132 4 1 (dk_at dksX3_nearestTo_3 0 rfl rfl)
theorem dX3_nearestTo_75 : decode cX3_nearestTo 75 = .ok (.goto (-39), 3) := dk_167 255 217 (dk_at dksX3_nearestTo_3 3 rfl rfl)
theorem dX3_nearestTo_78 : decode cX3_nearestTo 78 = .ok (.iinc 3 1, 3) := dk_132 3 1 (dk_at dksX3_nearestTo_3 6 rfl rfl)
theorem dX3_nearestTo_81 : decode cX3_nearestTo 81 = .ok (.goto (-73), 3) := dk_167 255 183 (dk_at dksX3_nearestTo_3 9 rfl rfl)
theorem dX3_nearestTo_84 : decode cX3_nearestTo 84 = .ok (.iload_n 2, 1) := dk_28 (dk_at dksX3_nearestTo_3 12 rfl rfl)
theorem dX3_nearestTo_85 : decode cX3_nearestTo 85 = .ok (.ireturn, 1) := dk_172 (dk_at dksX3_nearestTo_3 13 rfl rfl)
abbrev cX3_nearer : ByteArray := prog_11_method_82_code
def yX3_nearer : MethodName := ⟨RX3, "nearer", "(III)I"⟩
def dkwX3_nearer_1 : List UInt8 := [154, 0, 12, 27, 26, 162, 0, 7, 27, 167, 0, 4, 26, 172]
abbrev dktX3_nearer_1 : List UInt8 := dkwX3_nearer_1 ++ []
def dkwX3_nearer_0 : List UInt8 := [27, 28, 100, 184, 0, 64, 26, 28, 100, 184, 0, 64, 100, 62, 26, 2, 159, 0, 16, 29, 155, 0, 12, 29]
abbrev dktX3_nearer_0 : List UInt8 := dkwX3_nearer_0 ++ dktX3_nearer_1
theorem dksX3_nearer_0 : cX3_nearer.data.toList.drop 0 = dktX3_nearer_0 := by decide +kernel
theorem dksX3_nearer_1 : cX3_nearer.data.toList.drop 24 = dktX3_nearer_1 := dk_seg dksX3_nearer_0 24 rfl rfl
theorem dX3_nearer_0 : decode cX3_nearer 0 = .ok (.iload_n 1, 1) := dk_27 (dk_at dksX3_nearer_0 0 rfl rfl)
theorem dX3_nearer_1 : decode cX3_nearer 1 = .ok (.iload_n 2, 1) := dk_28 (dk_at dksX3_nearer_0 1 rfl rfl)
theorem dX3_nearer_2 : decode cX3_nearer 2 = .ok (.isub, 1) := dk_100 (dk_at dksX3_nearer_0 2 rfl rfl)
theorem dX3_nearer_3 : decode cX3_nearer 3 = .ok (.invokestatic 64, 3) := dk_184 0 64 (dk_at dksX3_nearer_0 3 rfl rfl)
theorem dX3_nearer_6 : decode cX3_nearer 6 = .ok (.iload_n 0, 1) := dk_26 (dk_at dksX3_nearer_0 6 rfl rfl)
theorem dX3_nearer_7 : decode cX3_nearer 7 = .ok (.iload_n 2, 1) := dk_28 (dk_at dksX3_nearer_0 7 rfl rfl)
theorem dX3_nearer_8 : decode cX3_nearer 8 = .ok (.isub, 1) := dk_100 (dk_at dksX3_nearer_0 8 rfl rfl)
theorem dX3_nearer_9 : decode cX3_nearer 9 = .ok (.invokestatic 64, 3) := dk_184 0 64 (dk_at dksX3_nearer_0 9 rfl rfl)
theorem dX3_nearer_12 : decode cX3_nearer 12 = .ok (.isub, 1) := dk_100 (dk_at dksX3_nearer_0 12 rfl rfl)
theorem dX3_nearer_13 : decode cX3_nearer 13 = .ok (.istore_n 3, 1) := dk_62 (dk_at dksX3_nearer_0 13 rfl rfl)
theorem dX3_nearer_14 : decode cX3_nearer 14 = .ok (.iload_n 0, 1) := dk_26 (dk_at dksX3_nearer_0 14 rfl rfl)
theorem dX3_nearer_15 : decode cX3_nearer 15 = .ok (.iconst (-1), 1) := dk_2 (dk_at dksX3_nearer_0 15 rfl rfl)
theorem dX3_nearer_16 : decode cX3_nearer 16 = .ok (.if_icmp .eq 16, 3) := dk_159 0 16 (dk_at dksX3_nearer_0 16 rfl rfl)
theorem dX3_nearer_19 : decode cX3_nearer 19 = .ok (.iload_n 3, 1) := dk_29 (dk_at dksX3_nearer_0 19 rfl rfl)
theorem dX3_nearer_20 : decode cX3_nearer 20 = .ok (.ifCond .lt 12, 3) := dk_155 0 12 (dk_at dksX3_nearer_0 20 rfl rfl)
theorem dX3_nearer_23 : decode cX3_nearer 23 = .ok (.iload_n 3, 1) := dk_29 (dk_at dksX3_nearer_0 23 rfl rfl)
theorem dX3_nearer_24 : decode cX3_nearer 24 = .ok (.ifCond .ne 12, 3) := dk_154 0 12 (dk_at dksX3_nearer_1 0 rfl rfl)
theorem dX3_nearer_27 : decode cX3_nearer 27 = .ok (.iload_n 1, 1) := dk_27 (dk_at dksX3_nearer_1 3 rfl rfl)
theorem dX3_nearer_28 : decode cX3_nearer 28 = .ok (.iload_n 0, 1) := dk_26 (dk_at dksX3_nearer_1 4 rfl rfl)
theorem dX3_nearer_29 : decode cX3_nearer 29 = .ok (.if_icmp .ge 7, 3) := dk_162 0 7 (dk_at dksX3_nearer_1 5 rfl rfl)
theorem dX3_nearer_32 : decode cX3_nearer 32 = .ok (.iload_n 1, 1) := dk_27 (dk_at dksX3_nearer_1 8 rfl rfl)
theorem dX3_nearer_33 : decode cX3_nearer 33 = .ok (.goto 4, 3) := dk_167 0 4 (dk_at dksX3_nearer_1 9 rfl rfl)
theorem dX3_nearer_36 : decode cX3_nearer 36 = .ok (.iload_n 0, 1) := dk_26 (dk_at dksX3_nearer_1 12 rfl rfl)
theorem dX3_nearer_37 : decode cX3_nearer 37 = .ok (.ireturn, 1) := dk_172 (dk_at dksX3_nearer_1 13 rfl rfl)
abbrev cX3_coolIn : ByteArray := prog_11_method_85_code
def yX3_coolIn : MethodName := ⟨RX3, "coolIn", "(I)I"⟩
def dkwX3_coolIn_2 : List UInt8 := [167, 255, 238, 28, 172]
abbrev dktX3_coolIn_2 : List UInt8 := dkwX3_coolIn_2 ++ []
def dkwX3_coolIn_1 : List UInt8 := [182, 0, 57, 62, 29, 42, 180, 0, 7, 4, 46, 164, 0, 14, 132, 2, 1, 29, 184, 0, 75, 62]
abbrev dktX3_coolIn_1 : List UInt8 := dkwX3_coolIn_1 ++ dktX3_coolIn_2
def dkwX3_coolIn_0 : List UInt8 := [42, 3, 181, 0, 38, 42, 27, 182, 0, 116, 154, 0, 9, 42, 4, 182, 0, 50, 172, 3, 61, 42, 27, 6]
abbrev dktX3_coolIn_0 : List UInt8 := dkwX3_coolIn_0 ++ dktX3_coolIn_1
theorem dksX3_coolIn_0 : cX3_coolIn.data.toList.drop 0 = dktX3_coolIn_0 := by decide +kernel
theorem dksX3_coolIn_1 : cX3_coolIn.data.toList.drop 24 = dktX3_coolIn_1 := dk_seg dksX3_coolIn_0 24 rfl rfl
theorem dksX3_coolIn_2 : cX3_coolIn.data.toList.drop 46 = dktX3_coolIn_2 := dk_seg dksX3_coolIn_1 22 rfl rfl
theorem dX3_coolIn_0 : decode cX3_coolIn 0 = .ok (.aload_n 0, 1) := dk_42 (dk_at dksX3_coolIn_0 0 rfl rfl)
theorem dX3_coolIn_1 : decode cX3_coolIn 1 = .ok (.iconst 0, 1) := dk_3 (dk_at dksX3_coolIn_0 1 rfl rfl)
theorem dX3_coolIn_2 : decode cX3_coolIn 2 = .ok (.putfield 38, 3) := dk_181 0 38 (dk_at dksX3_coolIn_0 2 rfl rfl)
theorem dX3_coolIn_5 : decode cX3_coolIn 5 = .ok (.aload_n 0, 1) := dk_42 (dk_at dksX3_coolIn_0 5 rfl rfl)
theorem dX3_coolIn_6 : decode cX3_coolIn 6 = .ok (.iload_n 1, 1) := dk_27 (dk_at dksX3_coolIn_0 6 rfl rfl)
theorem dX3_coolIn_7 : decode cX3_coolIn 7 = .ok (.invokevirtual 116, 3) := dk_182 0 116 (dk_at dksX3_coolIn_0 7 rfl rfl)
theorem dX3_coolIn_10 : decode cX3_coolIn 10 = .ok (.ifCond .ne 9, 3) := dk_154 0 9 (dk_at dksX3_coolIn_0 10 rfl rfl)
theorem dX3_coolIn_13 : decode cX3_coolIn 13 = .ok (.aload_n 0, 1) := dk_42 (dk_at dksX3_coolIn_0 13 rfl rfl)
theorem dX3_coolIn_14 : decode cX3_coolIn 14 = .ok (.iconst 1, 1) := dk_4 (dk_at dksX3_coolIn_0 14 rfl rfl)
theorem dX3_coolIn_15 : decode cX3_coolIn 15 = .ok (.invokevirtual 50, 3) := dk_182 0 50 (dk_at dksX3_coolIn_0 15 rfl rfl)
theorem dX3_coolIn_18 : decode cX3_coolIn 18 = .ok (.ireturn, 1) := dk_172 (dk_at dksX3_coolIn_0 18 rfl rfl)
theorem dX3_coolIn_19 : decode cX3_coolIn 19 = .ok (.iconst 0, 1) := dk_3 (dk_at dksX3_coolIn_0 19 rfl rfl)
theorem dX3_coolIn_20 : decode cX3_coolIn 20 = .ok (.istore_n 2, 1) := dk_61 (dk_at dksX3_coolIn_0 20 rfl rfl)
theorem dX3_coolIn_21 : decode cX3_coolIn 21 = .ok (.aload_n 0, 1) := dk_42 (dk_at dksX3_coolIn_0 21 rfl rfl)
theorem dX3_coolIn_22 : decode cX3_coolIn 22 = .ok (.iload_n 1, 1) := dk_27 (dk_at dksX3_coolIn_0 22 rfl rfl)
theorem dX3_coolIn_23 : decode cX3_coolIn 23 = .ok (.iconst 3, 1) := dk_6 (dk_at dksX3_coolIn_0 23 rfl rfl)
theorem dX3_coolIn_24 : decode cX3_coolIn 24 = .ok (.invokevirtual 57, 3) := dk_182 0 57 (dk_at dksX3_coolIn_1 0 rfl rfl)
theorem dX3_coolIn_27 : decode cX3_coolIn 27 = .ok (.istore_n 3, 1) := dk_62 (dk_at dksX3_coolIn_1 3 rfl rfl)
theorem dX3_coolIn_28 : decode cX3_coolIn 28 = .ok (.iload_n 3, 1) := dk_29 (dk_at dksX3_coolIn_1 4 rfl rfl)
theorem dX3_coolIn_29 : decode cX3_coolIn 29 = .ok (.aload_n 0, 1) := dk_42 (dk_at dksX3_coolIn_1 5 rfl rfl)
theorem dX3_coolIn_30 : decode cX3_coolIn 30 = .ok (.getfield 7, 3) := dk_180 0 7 (dk_at dksX3_coolIn_1 6 rfl rfl)
theorem dX3_coolIn_33 : decode cX3_coolIn 33 = .ok (.iconst 1, 1) := dk_4 (dk_at dksX3_coolIn_1 9 rfl rfl)
theorem dX3_coolIn_34 : decode cX3_coolIn 34 = .ok (.iaload, 1) := dk_46 (dk_at dksX3_coolIn_1 10 rfl rfl)
theorem dX3_coolIn_35 : decode cX3_coolIn 35 = .ok (.if_icmp .le 14, 3) := dk_164 0 14 (dk_at dksX3_coolIn_1 11 rfl rfl)
theorem dX3_coolIn_38 : decode cX3_coolIn 38 = .ok (.iinc 2 1, 3) := dk_132 2 1 (dk_at dksX3_coolIn_1 14 rfl rfl)
theorem dX3_coolIn_41 : decode cX3_coolIn 41 = .ok (.iload_n 3, 1) := dk_29 (dk_at dksX3_coolIn_1 17 rfl rfl)
theorem dX3_coolIn_42 : decode cX3_coolIn 42 = .ok (.invokestatic 75, 3) := dk_184 0 75 (dk_at dksX3_coolIn_1 18 rfl rfl)
theorem dX3_coolIn_45 : decode cX3_coolIn 45 = .ok (.istore_n 3, 1) := dk_62 (dk_at dksX3_coolIn_1 21 rfl rfl)
theorem dX3_coolIn_46 : decode cX3_coolIn 46 = .ok (.goto (-18), 3) := dk_167 255 238 (dk_at dksX3_coolIn_2 0 rfl rfl)
theorem dX3_coolIn_49 : decode cX3_coolIn 49 = .ok (.iload_n 2, 1) := dk_28 (dk_at dksX3_coolIn_2 3 rfl rfl)
theorem dX3_coolIn_50 : decode cX3_coolIn 50 = .ok (.ireturn, 1) := dk_172 (dk_at dksX3_coolIn_2 4 rfl rfl)
abbrev cX3_lengthIn : ByteArray := prog_11_method_86_code
def yX3_lengthIn : MethodName := ⟨RX3, "lengthIn", "(II)I"⟩
def dkwX3_lengthIn_1 : List UInt8 := [184, 0, 42, 153, 0, 12, 42, 27, 28, 182, 0, 190, 167, 0, 8, 42, 5, 182, 0, 50, 172]
abbrev dktX3_lengthIn_1 : List UInt8 := dkwX3_lengthIn_1 ++ []
def dkwX3_lengthIn_0 : List UInt8 := [42, 3, 181, 0, 38, 27, 184, 0, 129, 154, 0, 9, 42, 4, 182, 0, 50, 172, 28, 3, 17, 2, 88]
abbrev dktX3_lengthIn_0 : List UInt8 := dkwX3_lengthIn_0 ++ dktX3_lengthIn_1
theorem dksX3_lengthIn_0 : cX3_lengthIn.data.toList.drop 0 = dktX3_lengthIn_0 := by decide +kernel
theorem dksX3_lengthIn_1 : cX3_lengthIn.data.toList.drop 23 = dktX3_lengthIn_1 := dk_seg dksX3_lengthIn_0 23 rfl rfl
theorem dX3_lengthIn_0 : decode cX3_lengthIn 0 = .ok (.aload_n 0, 1) := dk_42 (dk_at dksX3_lengthIn_0 0 rfl rfl)
theorem dX3_lengthIn_1 : decode cX3_lengthIn 1 = .ok (.iconst 0, 1) := dk_3 (dk_at dksX3_lengthIn_0 1 rfl rfl)
theorem dX3_lengthIn_2 : decode cX3_lengthIn 2 = .ok (.putfield 38, 3) := dk_181 0 38 (dk_at dksX3_lengthIn_0 2 rfl rfl)
theorem dX3_lengthIn_5 : decode cX3_lengthIn 5 = .ok (.iload_n 1, 1) := dk_27 (dk_at dksX3_lengthIn_0 5 rfl rfl)
theorem dX3_lengthIn_6 : decode cX3_lengthIn 6 = .ok (.invokestatic 129, 3) := dk_184 0 129 (dk_at dksX3_lengthIn_0 6 rfl rfl)
theorem dX3_lengthIn_9 : decode cX3_lengthIn 9 = .ok (.ifCond .ne 9, 3) := dk_154 0 9 (dk_at dksX3_lengthIn_0 9 rfl rfl)
theorem dX3_lengthIn_12 : decode cX3_lengthIn 12 = .ok (.aload_n 0, 1) := dk_42 (dk_at dksX3_lengthIn_0 12 rfl rfl)
theorem dX3_lengthIn_13 : decode cX3_lengthIn 13 = .ok (.iconst 1, 1) := dk_4 (dk_at dksX3_lengthIn_0 13 rfl rfl)
theorem dX3_lengthIn_14 : decode cX3_lengthIn 14 = .ok (.invokevirtual 50, 3) := dk_182 0 50 (dk_at dksX3_lengthIn_0 14 rfl rfl)
theorem dX3_lengthIn_17 : decode cX3_lengthIn 17 = .ok (.ireturn, 1) := dk_172 (dk_at dksX3_lengthIn_0 17 rfl rfl)
theorem dX3_lengthIn_18 : decode cX3_lengthIn 18 = .ok (.iload_n 2, 1) := dk_28 (dk_at dksX3_lengthIn_0 18 rfl rfl)
theorem dX3_lengthIn_19 : decode cX3_lengthIn 19 = .ok (.iconst 0, 1) := dk_3 (dk_at dksX3_lengthIn_0 19 rfl rfl)
theorem dX3_lengthIn_20 : decode cX3_lengthIn 20 = .ok (.sipush 600, 3) := dk_17 2 88 (dk_at dksX3_lengthIn_0 20 rfl rfl)
theorem dX3_lengthIn_23 : decode cX3_lengthIn 23 = .ok (.invokestatic 42, 3) := dk_184 0 42 (dk_at dksX3_lengthIn_1 0 rfl rfl)
theorem dX3_lengthIn_26 : decode cX3_lengthIn 26 = .ok (.ifCond .eq 12, 3) := dk_153 0 12 (dk_at dksX3_lengthIn_1 3 rfl rfl)
theorem dX3_lengthIn_29 : decode cX3_lengthIn 29 = .ok (.aload_n 0, 1) := dk_42 (dk_at dksX3_lengthIn_1 6 rfl rfl)
theorem dX3_lengthIn_30 : decode cX3_lengthIn 30 = .ok (.iload_n 1, 1) := dk_27 (dk_at dksX3_lengthIn_1 7 rfl rfl)
theorem dX3_lengthIn_31 : decode cX3_lengthIn 31 = .ok (.iload_n 2, 1) := dk_28 (dk_at dksX3_lengthIn_1 8 rfl rfl)
theorem dX3_lengthIn_32 : decode cX3_lengthIn 32 = .ok (.invokevirtual 190, 3) := dk_182 0 190 (dk_at dksX3_lengthIn_1 9 rfl rfl)
theorem dX3_lengthIn_35 : decode cX3_lengthIn 35 = .ok (.goto 8, 3) := dk_167 0 8 (dk_at dksX3_lengthIn_1 12 rfl rfl)
theorem dX3_lengthIn_38 : decode cX3_lengthIn 38 = .ok (.aload_n 0, 1) := dk_42 (dk_at dksX3_lengthIn_1 15 rfl rfl)
theorem dX3_lengthIn_39 : decode cX3_lengthIn 39 = .ok (.iconst 2, 1) := dk_5 (dk_at dksX3_lengthIn_1 16 rfl rfl)
theorem dX3_lengthIn_40 : decode cX3_lengthIn 40 = .ok (.invokevirtual 50, 3) := dk_182 0 50 (dk_at dksX3_lengthIn_1 17 rfl rfl)
theorem dX3_lengthIn_43 : decode cX3_lengthIn 43 = .ok (.ireturn, 1) := dk_172 (dk_at dksX3_lengthIn_1 20 rfl rfl)
abbrev cX3_meanError : ByteArray := prog_11_method_87_code
def yX3_meanError : MethodName := ⟨RX3, "meanError", "()D"⟩
def dkwX3_meanError_2 : List UInt8 := [14, 167, 0, 14, 27, 135, 42, 180, 0, 7, 16, 8, 46, 135, 111, 175]
abbrev dktX3_meanError_2 : List UInt8 := dkwX3_meanError_2 ++ []
def dkwX3_meanError_1 : List UInt8 := [182, 0, 61, 184, 0, 64, 96, 60, 132, 2, 1, 167, 255, 231, 42, 180, 0, 7, 16, 8, 46, 154, 0, 7]
abbrev dktX3_meanError_1 : List UInt8 := dkwX3_meanError_1 ++ dktX3_meanError_2
def dkwX3_meanError_0 : List UInt8 := [42, 3, 181, 0, 38, 3, 60, 3, 61, 28, 42, 180, 0, 7, 16, 8, 46, 162, 0, 20, 27, 42, 28]
abbrev dktX3_meanError_0 : List UInt8 := dkwX3_meanError_0 ++ dktX3_meanError_1
theorem dksX3_meanError_0 : cX3_meanError.data.toList.drop 0 = dktX3_meanError_0 := by decide +kernel
theorem dksX3_meanError_1 : cX3_meanError.data.toList.drop 23 = dktX3_meanError_1 := dk_seg dksX3_meanError_0 23 rfl rfl
theorem dksX3_meanError_2 : cX3_meanError.data.toList.drop 47 = dktX3_meanError_2 := dk_seg dksX3_meanError_1 24 rfl rfl
theorem dX3_meanError_0 : decode cX3_meanError 0 = .ok (.aload_n 0, 1) := dk_42 (dk_at dksX3_meanError_0 0 rfl rfl)
theorem dX3_meanError_1 : decode cX3_meanError 1 = .ok (.iconst 0, 1) := dk_3 (dk_at dksX3_meanError_0 1 rfl rfl)
theorem dX3_meanError_2 : decode cX3_meanError 2 = .ok (.putfield 38, 3) := dk_181 0 38 (dk_at dksX3_meanError_0 2 rfl rfl)
theorem dX3_meanError_5 : decode cX3_meanError 5 = .ok (.iconst 0, 1) := dk_3 (dk_at dksX3_meanError_0 5 rfl rfl)
theorem dX3_meanError_6 : decode cX3_meanError 6 = .ok (.istore_n 1, 1) := dk_60 (dk_at dksX3_meanError_0 6 rfl rfl)
theorem dX3_meanError_7 : decode cX3_meanError 7 = .ok (.iconst 0, 1) := dk_3 (dk_at dksX3_meanError_0 7 rfl rfl)
theorem dX3_meanError_8 : decode cX3_meanError 8 = .ok (.istore_n 2, 1) := dk_61 (dk_at dksX3_meanError_0 8 rfl rfl)
theorem dX3_meanError_9 : decode cX3_meanError 9 = .ok (.iload_n 2, 1) := dk_28 (dk_at dksX3_meanError_0 9 rfl rfl)
theorem dX3_meanError_10 : decode cX3_meanError 10 = .ok (.aload_n 0, 1) := dk_42 (dk_at dksX3_meanError_0 10 rfl rfl)
theorem dX3_meanError_11 : decode cX3_meanError 11 = .ok (.getfield 7, 3) := dk_180 0 7 (dk_at dksX3_meanError_0 11 rfl rfl)
theorem dX3_meanError_14 : decode cX3_meanError 14 = .ok (.bipush 8, 2) := dk_16 8 (dk_at dksX3_meanError_0 14 rfl rfl)
theorem dX3_meanError_16 : decode cX3_meanError 16 = .ok (.iaload, 1) := dk_46 (dk_at dksX3_meanError_0 16 rfl rfl)
theorem dX3_meanError_17 : decode cX3_meanError 17 = .ok (.if_icmp .ge 20, 3) := dk_162 0 20 (dk_at dksX3_meanError_0 17 rfl rfl)
theorem dX3_meanError_20 : decode cX3_meanError 20 = .ok (.iload_n 1, 1) := dk_27 (dk_at dksX3_meanError_0 20 rfl rfl)
theorem dX3_meanError_21 : decode cX3_meanError 21 = .ok (.aload_n 0, 1) := dk_42 (dk_at dksX3_meanError_0 21 rfl rfl)
theorem dX3_meanError_22 : decode cX3_meanError 22 = .ok (.iload_n 2, 1) := dk_28 (dk_at dksX3_meanError_0 22 rfl rfl)
theorem dX3_meanError_23 : decode cX3_meanError 23 = .ok (.invokevirtual 61, 3) := dk_182 0 61 (dk_at dksX3_meanError_1 0 rfl rfl)
theorem dX3_meanError_26 : decode cX3_meanError 26 = .ok (.invokestatic 64, 3) := dk_184 0 64 (dk_at dksX3_meanError_1 3 rfl rfl)
theorem dX3_meanError_29 : decode cX3_meanError 29 = .ok (.iadd, 1) := dk_96 (dk_at dksX3_meanError_1 6 rfl rfl)
theorem dX3_meanError_30 : decode cX3_meanError 30 = .ok (.istore_n 1, 1) := dk_60 (dk_at dksX3_meanError_1 7 rfl rfl)
theorem dX3_meanError_31 : decode cX3_meanError 31 = .ok (.iinc 2 1, 3) := dk_132 2 1 (dk_at dksX3_meanError_1 8 rfl rfl)
theorem dX3_meanError_34 : decode cX3_meanError 34 = .ok (.goto (-25), 3) := dk_167 255 231 (dk_at dksX3_meanError_1 11 rfl rfl)
theorem dX3_meanError_37 : decode cX3_meanError 37 = .ok (.aload_n 0, 1) := dk_42 (dk_at dksX3_meanError_1 14 rfl rfl)
theorem dX3_meanError_38 : decode cX3_meanError 38 = .ok (.getfield 7, 3) := dk_180 0 7 (dk_at dksX3_meanError_1 15 rfl rfl)
theorem dX3_meanError_41 : decode cX3_meanError 41 = .ok (.bipush 8, 2) := dk_16 8 (dk_at dksX3_meanError_1 18 rfl rfl)
theorem dX3_meanError_43 : decode cX3_meanError 43 = .ok (.iaload, 1) := dk_46 (dk_at dksX3_meanError_1 20 rfl rfl)
theorem dX3_meanError_44 : decode cX3_meanError 44 = .ok (.ifCond .ne 7, 3) := dk_154 0 7 (dk_at dksX3_meanError_1 21 rfl rfl)
theorem dX3_meanError_47 : decode cX3_meanError 47 = .ok (.dconst 0, 1) := dk_14 (dk_at dksX3_meanError_2 0 rfl rfl)
theorem dX3_meanError_48 : decode cX3_meanError 48 = .ok (.goto 14, 3) := dk_167 0 14 (dk_at dksX3_meanError_2 1 rfl rfl)
theorem dX3_meanError_51 : decode cX3_meanError 51 = .ok (.iload_n 1, 1) := dk_27 (dk_at dksX3_meanError_2 4 rfl rfl)
theorem dX3_meanError_52 : decode cX3_meanError 52 = .ok (.i2d, 1) := dk_135 (dk_at dksX3_meanError_2 5 rfl rfl)
theorem dX3_meanError_53 : decode cX3_meanError 53 = .ok (.aload_n 0, 1) := dk_42 (dk_at dksX3_meanError_2 6 rfl rfl)
theorem dX3_meanError_54 : decode cX3_meanError 54 = .ok (.getfield 7, 3) := dk_180 0 7 (dk_at dksX3_meanError_2 7 rfl rfl)
theorem dX3_meanError_57 : decode cX3_meanError 57 = .ok (.bipush 8, 2) := dk_16 8 (dk_at dksX3_meanError_2 10 rfl rfl)
theorem dX3_meanError_59 : decode cX3_meanError 59 = .ok (.iaload, 1) := dk_46 (dk_at dksX3_meanError_2 12 rfl rfl)
theorem dX3_meanError_60 : decode cX3_meanError 60 = .ok (.i2d, 1) := dk_135 (dk_at dksX3_meanError_2 13 rfl rfl)
theorem dX3_meanError_61 : decode cX3_meanError 61 = .ok (.ddiv, 1) := dk_111 (dk_at dksX3_meanError_2 14 rfl rfl)
theorem dX3_meanError_62 : decode cX3_meanError 62 = .ok (.dreturn, 1) := dk_175 (dk_at dksX3_meanError_2 15 rfl rfl)
theorem q90 : (Jvm.Cond.initialized "GaugeBlocksModel") ∈ lw_all := lw_g (lw_at lw_m1 15 rfl) rfl
theorem q209 : (Jvm.Cond.selects "GaugeBlocksModel" ({ cls := "java/lang/Object", name := "getClass", desc := "()Ljava/lang/Class;" } : Jvm.MethodName) ({ cls := "java/lang/Object", name := "getClass", desc := "()Ljava/lang/Class;" } : Jvm.MethodName)) ∈ lw_all := lw_g (lw_at lw_m1 134 rfl) rfl
theorem q1993 : (Jvm.Cond.instantiable "GaugeBlocksModel" (18 : Nat)) ∈ lw_all := lw_g (lw_at lw_m8 238 rfl) rfl
theorem q1995 : (Jvm.Cond.instanceMethod ({ cls := "GaugeBlocksModel", name := "<init>", desc := "()V" } : Jvm.MethodName)) ∈ lw_all := lw_g (lw_at lw_m9 0 rfl) rfl
theorem q1996 : (Jvm.Cond.code ({ cls := "GaugeBlocksModel", name := "<init>", desc := "()V" } : Jvm.MethodName) prog_11_method_1_code (1 : Nat) (Option.none : Option Jvm.ClassFile.FieldType)) ∈ lw_all := lw_g (lw_at lw_m9 1 rfl) rfl
theorem q1997 : (Jvm.Cond.methodLink "GaugeBlocksModel" (1 : Nat) ({ cls := "java/lang/Object", name := "<init>", desc := "()V" } : Jvm.MethodName)) ∈ lw_all := lw_g (lw_at lw_m9 2 rfl) rfl
theorem q1998 : (Jvm.Cond.fieldLink "GaugeBlocksModel" (7 : Nat) "GaugeBlocksModel" "row" "[I") ∈ lw_all := lw_g (lw_at lw_m9 3 rfl) rfl
theorem q1999 : (Jvm.Cond.fieldLink "GaugeBlocksModel" (13 : Nat) "GaugeBlocksModel" "saved" "[I") ∈ lw_all := lw_g (lw_at lw_m9 4 rfl) rfl
theorem q2000 : (Jvm.Cond.fieldLink "GaugeBlocksModel" (47 : Nat) "GaugeBlocksModel" "savedMany" "I") ∈ lw_all := lw_g (lw_at lw_m9 5 rfl) rfl
theorem q2001 : (Jvm.Cond.fieldLink "GaugeBlocksModel" (16 : Nat) "GaugeBlocksModel" "snapshots" "[I") ∈ lw_all := lw_g (lw_at lw_m9 6 rfl) rfl
theorem q2002 : (Jvm.Cond.fieldLink "GaugeBlocksModel" (19 : Nat) "GaugeBlocksModel" "isKept" "[Z") ∈ lw_all := lw_g (lw_at lw_m9 7 rfl) rfl
theorem q2003 : (Jvm.Cond.fieldLink "GaugeBlocksModel" (38 : Nat) "GaugeBlocksModel" "thrown" "I") ∈ lw_all := lw_g (lw_at lw_m9 8 rfl) rfl
theorem q2004 : (Jvm.Cond.fieldLink "GaugeBlocksModel" (23 : Nat) "GaugeBlocksModel" "free" "[I") ∈ lw_all := lw_g (lw_at lw_m9 9 rfl) rfl
theorem q2005 : (Jvm.Cond.fieldLink "GaugeBlocksModel" (97 : Nat) "GaugeBlocksModel" "freeMany" "I") ∈ lw_all := lw_g (lw_at lw_m9 10 rfl) rfl
theorem q2006 : (Jvm.Cond.fieldLink "GaugeBlocksModel" (26 : Nat) "GaugeBlocksModel" "buffer" "[I") ∈ lw_all := lw_g (lw_at lw_m9 11 rfl) rfl
theorem q2007 : (Jvm.Cond.fieldLink "GaugeBlocksModel" (147 : Nat) "GaugeBlocksModel" "length" "I") ∈ lw_all := lw_g (lw_at lw_m9 12 rfl) rfl
theorem q2008 : (Jvm.Cond.fieldLink "GaugeBlocksModel" (150 : Nat) "GaugeBlocksModel" "spot" "I") ∈ lw_all := lw_g (lw_at lw_m9 13 rfl) rfl
theorem q2009 : (Jvm.Cond.fieldLink "GaugeBlocksModel" (156 : Nat) "GaugeBlocksModel" "number" "I") ∈ lw_all := lw_g (lw_at lw_m9 14 rfl) rfl
theorem q2010 : (Jvm.Cond.fieldLink "GaugeBlocksModel" (162 : Nat) "GaugeBlocksModel" "orders" "I") ∈ lw_all := lw_g (lw_at lw_m9 15 rfl) rfl
theorem q2011 : (Jvm.Cond.fieldLink "GaugeBlocksModel" (29 : Nat) "GaugeBlocksModel" "letter" "[I") ∈ lw_all := lw_g (lw_at lw_m9 16 rfl) rfl
theorem q2012 : (Jvm.Cond.fieldLink "GaugeBlocksModel" (32 : Nat) "GaugeBlocksModel" "first" "[I") ∈ lw_all := lw_g (lw_at lw_m9 17 rfl) rfl
theorem q2013 : (Jvm.Cond.fieldLink "GaugeBlocksModel" (35 : Nat) "GaugeBlocksModel" "second" "[I") ∈ lw_all := lw_g (lw_at lw_m9 18 rfl) rfl
theorem q2014 : (Jvm.Cond.fieldLink "GaugeBlocksModel" (230 : Nat) "GaugeBlocksModel" "took" "I") ∈ lw_all := lw_g (lw_at lw_m9 19 rfl) rfl
theorem q2015 : (Jvm.Cond.fieldLink "GaugeBlocksModel" (227 : Nat) "GaugeBlocksModel" "left" "I") ∈ lw_all := lw_g (lw_at lw_m9 20 rfl) rfl
theorem q2016 : (Jvm.Cond.laysFinal "GaugeBlocksModel" "GaugeBlocksModel" "row" "[I") ∈ lw_all := lw_g (lw_at lw_m9 21 rfl) rfl
theorem q2017 : (Jvm.Cond.soleField "GaugeBlocksModel" "row") ∈ lw_all := lw_g (lw_at lw_m9 22 rfl) rfl
theorem q2018 : (Jvm.Cond.laysFinal "GaugeBlocksModel" "GaugeBlocksModel" "saved" "[I") ∈ lw_all := lw_g (lw_at lw_m9 23 rfl) rfl
theorem q2019 : (Jvm.Cond.soleField "GaugeBlocksModel" "saved") ∈ lw_all := lw_g (lw_at lw_m9 24 rfl) rfl
theorem q2020 : (Jvm.Cond.lays "GaugeBlocksModel" "GaugeBlocksModel" "savedMany" "I") ∈ lw_all := lw_g (lw_at lw_m9 25 rfl) rfl
theorem q2021 : (Jvm.Cond.soleField "GaugeBlocksModel" "savedMany") ∈ lw_all := lw_g (lw_at lw_m9 26 rfl) rfl
theorem q2022 : (Jvm.Cond.laysFinal "GaugeBlocksModel" "GaugeBlocksModel" "snapshots" "[I") ∈ lw_all := lw_g (lw_at lw_m9 27 rfl) rfl
theorem q2023 : (Jvm.Cond.soleField "GaugeBlocksModel" "snapshots") ∈ lw_all := lw_g (lw_at lw_m9 28 rfl) rfl
theorem q2024 : (Jvm.Cond.laysFinal "GaugeBlocksModel" "GaugeBlocksModel" "isKept" "[Z") ∈ lw_all := lw_g (lw_at lw_m9 29 rfl) rfl
theorem q2025 : (Jvm.Cond.soleField "GaugeBlocksModel" "isKept") ∈ lw_all := lw_g (lw_at lw_m9 30 rfl) rfl
theorem q2026 : (Jvm.Cond.lays "GaugeBlocksModel" "GaugeBlocksModel" "thrown" "I") ∈ lw_all := lw_g (lw_at lw_m9 31 rfl) rfl
theorem q2027 : (Jvm.Cond.soleField "GaugeBlocksModel" "thrown") ∈ lw_all := lw_g (lw_at lw_m9 32 rfl) rfl
theorem q2028 : (Jvm.Cond.laysFinal "GaugeBlocksModel" "GaugeBlocksModel" "free" "[I") ∈ lw_all := lw_g (lw_at lw_m9 33 rfl) rfl
theorem q2029 : (Jvm.Cond.soleField "GaugeBlocksModel" "free") ∈ lw_all := lw_g (lw_at lw_m9 34 rfl) rfl
theorem q2030 : (Jvm.Cond.lays "GaugeBlocksModel" "GaugeBlocksModel" "freeMany" "I") ∈ lw_all := lw_g (lw_at lw_m9 35 rfl) rfl
theorem q2031 : (Jvm.Cond.soleField "GaugeBlocksModel" "freeMany") ∈ lw_all := lw_g (lw_at lw_m9 36 rfl) rfl
theorem q2032 : (Jvm.Cond.laysFinal "GaugeBlocksModel" "GaugeBlocksModel" "buffer" "[I") ∈ lw_all := lw_g (lw_at lw_m9 37 rfl) rfl
theorem q2033 : (Jvm.Cond.soleField "GaugeBlocksModel" "buffer") ∈ lw_all := lw_g (lw_at lw_m9 38 rfl) rfl
theorem q2034 : (Jvm.Cond.lays "GaugeBlocksModel" "GaugeBlocksModel" "length" "I") ∈ lw_all := lw_g (lw_at lw_m9 39 rfl) rfl
theorem q2035 : (Jvm.Cond.soleField "GaugeBlocksModel" "length") ∈ lw_all := lw_g (lw_at lw_m9 40 rfl) rfl
theorem q2036 : (Jvm.Cond.lays "GaugeBlocksModel" "GaugeBlocksModel" "spot" "I") ∈ lw_all := lw_g (lw_at lw_m9 41 rfl) rfl
theorem q2037 : (Jvm.Cond.soleField "GaugeBlocksModel" "spot") ∈ lw_all := lw_g (lw_at lw_m9 42 rfl) rfl
theorem q2038 : (Jvm.Cond.lays "GaugeBlocksModel" "GaugeBlocksModel" "number" "I") ∈ lw_all := lw_g (lw_at lw_m9 43 rfl) rfl
theorem q2039 : (Jvm.Cond.soleField "GaugeBlocksModel" "number") ∈ lw_all := lw_g (lw_at lw_m9 44 rfl) rfl
theorem q2040 : (Jvm.Cond.lays "GaugeBlocksModel" "GaugeBlocksModel" "orders" "I") ∈ lw_all := lw_g (lw_at lw_m9 45 rfl) rfl
theorem q2041 : (Jvm.Cond.soleField "GaugeBlocksModel" "orders") ∈ lw_all := lw_g (lw_at lw_m9 46 rfl) rfl
theorem q2042 : (Jvm.Cond.laysFinal "GaugeBlocksModel" "GaugeBlocksModel" "letter" "[I") ∈ lw_all := lw_g (lw_at lw_m9 47 rfl) rfl
theorem q2043 : (Jvm.Cond.soleField "GaugeBlocksModel" "letter") ∈ lw_all := lw_g (lw_at lw_m9 48 rfl) rfl
theorem q2044 : (Jvm.Cond.laysFinal "GaugeBlocksModel" "GaugeBlocksModel" "first" "[I") ∈ lw_all := lw_g (lw_at lw_m9 49 rfl) rfl
theorem q2045 : (Jvm.Cond.soleField "GaugeBlocksModel" "first") ∈ lw_all := lw_g (lw_at lw_m9 50 rfl) rfl
theorem q2046 : (Jvm.Cond.laysFinal "GaugeBlocksModel" "GaugeBlocksModel" "second" "[I") ∈ lw_all := lw_g (lw_at lw_m9 51 rfl) rfl
theorem q2047 : (Jvm.Cond.soleField "GaugeBlocksModel" "second") ∈ lw_all := lw_g (lw_at lw_m9 52 rfl) rfl
theorem q2048 : (Jvm.Cond.lays "GaugeBlocksModel" "GaugeBlocksModel" "took" "I") ∈ lw_all := lw_g (lw_at lw_m9 53 rfl) rfl
theorem q2049 : (Jvm.Cond.soleField "GaugeBlocksModel" "took") ∈ lw_all := lw_g (lw_at lw_m9 54 rfl) rfl
theorem q2050 : (Jvm.Cond.lays "GaugeBlocksModel" "GaugeBlocksModel" "left" "I") ∈ lw_all := lw_g (lw_at lw_m9 55 rfl) rfl
theorem q2051 : (Jvm.Cond.soleField "GaugeBlocksModel" "left") ∈ lw_all := lw_g (lw_at lw_m9 56 rfl) rfl
theorem q2052 : (Jvm.Cond.superclass "GaugeBlocksModel" "java/lang/Object") ∈ lw_all := lw_g (lw_at lw_m9 57 rfl) rfl
theorem q2055 : (Jvm.Cond.instanceMethod ({ cls := "GaugeBlocksModel", name := "thrown", desc := "()I" } : Jvm.MethodName)) ∈ lw_all := lw_g (lw_at lw_m9 60 rfl) rfl
theorem q2056 : (Jvm.Cond.selects "GaugeBlocksModel" ({ cls := "GaugeBlocksModel", name := "thrown", desc := "()I" } : Jvm.MethodName) ({ cls := "GaugeBlocksModel", name := "thrown", desc := "()I" } : Jvm.MethodName)) ∈ lw_all := lw_g (lw_at lw_m9 61 rfl) rfl
theorem q2057 : (Jvm.Cond.code ({ cls := "GaugeBlocksModel", name := "thrown", desc := "()I" } : Jvm.MethodName) prog_11_method_2_code (1 : Nat) (Option.some Jvm.ClassFile.FieldType.int)) ∈ lw_all := lw_g (lw_at lw_m9 62 rfl) rfl
theorem q2059 : (Jvm.Cond.instanceMethod ({ cls := "GaugeBlocksModel", name := "undo", desc := "()I" } : Jvm.MethodName)) ∈ lw_all := lw_g (lw_at lw_m9 64 rfl) rfl
theorem q2060 : (Jvm.Cond.selects "GaugeBlocksModel" ({ cls := "GaugeBlocksModel", name := "undo", desc := "()I" } : Jvm.MethodName) ({ cls := "GaugeBlocksModel", name := "undo", desc := "()I" } : Jvm.MethodName)) ∈ lw_all := lw_g (lw_at lw_m9 65 rfl) rfl
theorem q2061 : (Jvm.Cond.code ({ cls := "GaugeBlocksModel", name := "undo", desc := "()I" } : Jvm.MethodName) prog_11_method_12_code (2 : Nat) (Option.some Jvm.ClassFile.FieldType.int)) ∈ lw_all := lw_g (lw_at lw_m9 66 rfl) rfl
theorem q2062 : (Jvm.Cond.methodLink "GaugeBlocksModel" (50 : Nat) ({ cls := "GaugeBlocksModel", name := "fails", desc := "(I)I" } : Jvm.MethodName)) ∈ lw_all := lw_g (lw_at lw_m9 67 rfl) rfl
theorem q2063 : (Jvm.Cond.privateMethod ({ cls := "GaugeBlocksModel", name := "fails", desc := "(I)I" } : Jvm.MethodName)) ∈ lw_tbl := lw_at lw_m9 68 rfl
theorem q2064 : (Jvm.Cond.instanceMethod ({ cls := "GaugeBlocksModel", name := "fails", desc := "(I)I" } : Jvm.MethodName)) ∈ lw_all := lw_g (lw_at lw_m9 69 rfl) rfl
theorem q2065 : (Jvm.Cond.code ({ cls := "GaugeBlocksModel", name := "fails", desc := "(I)I" } : Jvm.MethodName) prog_11_method_3_code (2 : Nat) (Option.some Jvm.ClassFile.FieldType.int)) ∈ lw_all := lw_g (lw_at lw_m9 70 rfl) rfl
theorem q2067 : (Jvm.Cond.instanceMethod ({ cls := "GaugeBlocksModel", name := "keep", desc := "(I)I" } : Jvm.MethodName)) ∈ lw_all := lw_g (lw_at lw_m9 72 rfl) rfl
theorem q2068 : (Jvm.Cond.selects "GaugeBlocksModel" ({ cls := "GaugeBlocksModel", name := "keep", desc := "(I)I" } : Jvm.MethodName) ({ cls := "GaugeBlocksModel", name := "keep", desc := "(I)I" } : Jvm.MethodName)) ∈ lw_all := lw_g (lw_at lw_m9 73 rfl) rfl
theorem q2069 : (Jvm.Cond.code ({ cls := "GaugeBlocksModel", name := "keep", desc := "(I)I" } : Jvm.MethodName) prog_11_method_13_code (3 : Nat) (Option.some Jvm.ClassFile.FieldType.int)) ∈ lw_all := lw_g (lw_at lw_m9 74 rfl) rfl
theorem q2070 : (Jvm.Cond.methodLink "GaugeBlocksModel" (42 : Nat) ({ cls := "GaugeBlocksModel", name := "in", desc := "(III)Z" } : Jvm.MethodName)) ∈ lw_all := lw_g (lw_at lw_m9 75 rfl) rfl
theorem q2071 : (Jvm.Cond.static ({ cls := "GaugeBlocksModel", name := "in", desc := "(III)Z" } : Jvm.MethodName)) ∈ lw_all := lw_g (lw_at lw_m9 76 rfl) rfl
theorem q2072 : (Jvm.Cond.code ({ cls := "GaugeBlocksModel", name := "in", desc := "(III)Z" } : Jvm.MethodName) prog_11_method_4_code (3 : Nat) (Option.some Jvm.ClassFile.FieldType.boolean)) ∈ lw_all := lw_g (lw_at lw_m9 77 rfl) rfl
theorem q2074 : (Jvm.Cond.instanceMethod ({ cls := "GaugeBlocksModel", name := "goBack", desc := "(I)I" } : Jvm.MethodName)) ∈ lw_all := lw_g (lw_at lw_m9 79 rfl) rfl
theorem q2075 : (Jvm.Cond.selects "GaugeBlocksModel" ({ cls := "GaugeBlocksModel", name := "goBack", desc := "(I)I" } : Jvm.MethodName) ({ cls := "GaugeBlocksModel", name := "goBack", desc := "(I)I" } : Jvm.MethodName)) ∈ lw_all := lw_g (lw_at lw_m9 80 rfl) rfl
theorem q2076 : (Jvm.Cond.code ({ cls := "GaugeBlocksModel", name := "goBack", desc := "(I)I" } : Jvm.MethodName) prog_11_method_14_code (3 : Nat) (Option.some Jvm.ClassFile.FieldType.int)) ∈ lw_all := lw_g (lw_at lw_m9 81 rfl) rfl
theorem q2077 : (Jvm.Cond.methodLink "GaugeBlocksModel" (54 : Nat) ({ cls := "GaugeBlocksModel", name := "save", desc := "()V" } : Jvm.MethodName)) ∈ lw_all := lw_g (lw_at lw_m9 82 rfl) rfl
theorem q2078 : (Jvm.Cond.privateMethod ({ cls := "GaugeBlocksModel", name := "save", desc := "()V" } : Jvm.MethodName)) ∈ lw_tbl := lw_at lw_m9 83 rfl
theorem q2079 : (Jvm.Cond.instanceMethod ({ cls := "GaugeBlocksModel", name := "save", desc := "()V" } : Jvm.MethodName)) ∈ lw_all := lw_g (lw_at lw_m9 84 rfl) rfl
theorem q2080 : (Jvm.Cond.code ({ cls := "GaugeBlocksModel", name := "save", desc := "()V" } : Jvm.MethodName) prog_11_method_11_code (2 : Nat) (Option.none : Option Jvm.ClassFile.FieldType)) ∈ lw_all := lw_g (lw_at lw_m9 85 rfl) rfl
theorem q2082 : (Jvm.Cond.instanceMethod ({ cls := "GaugeBlocksModel", name := "block", desc := "(II)I" } : Jvm.MethodName)) ∈ lw_all := lw_g (lw_at lw_m9 87 rfl) rfl
theorem q2083 : (Jvm.Cond.selects "GaugeBlocksModel" ({ cls := "GaugeBlocksModel", name := "block", desc := "(II)I" } : Jvm.MethodName) ({ cls := "GaugeBlocksModel", name := "block", desc := "(II)I" } : Jvm.MethodName)) ∈ lw_all := lw_g (lw_at lw_m9 88 rfl) rfl
theorem q2084 : (Jvm.Cond.code ({ cls := "GaugeBlocksModel", name := "block", desc := "(II)I" } : Jvm.MethodName) prog_11_method_36_code (3 : Nat) (Option.some Jvm.ClassFile.FieldType.int)) ∈ lw_all := lw_g (lw_at lw_m9 89 rfl) rfl
theorem q2085 : (Jvm.Cond.constant "GaugeBlocksModel" (112 : Nat) (100000 : Int32)) ∈ lw_all := lw_g (lw_at lw_m9 90 rfl) rfl
theorem q2086 : (Jvm.Cond.methodLink "GaugeBlocksModel" (113 : Nat) ({ cls := "GaugeBlocksModel", name := "addBlock", desc := "(II)I" } : Jvm.MethodName)) ∈ lw_all := lw_g (lw_at lw_m9 91 rfl) rfl
theorem q2087 : (Jvm.Cond.privateMethod ({ cls := "GaugeBlocksModel", name := "addBlock", desc := "(II)I" } : Jvm.MethodName)) ∈ lw_tbl := lw_at lw_m9 92 rfl
theorem q2088 : (Jvm.Cond.instanceMethod ({ cls := "GaugeBlocksModel", name := "addBlock", desc := "(II)I" } : Jvm.MethodName)) ∈ lw_all := lw_g (lw_at lw_m9 93 rfl) rfl
theorem q2089 : (Jvm.Cond.code ({ cls := "GaugeBlocksModel", name := "addBlock", desc := "(II)I" } : Jvm.MethodName) prog_11_method_22_code (5 : Nat) (Option.some Jvm.ClassFile.FieldType.int)) ∈ lw_all := lw_g (lw_at lw_m9 94 rfl) rfl
theorem q2090 : (Jvm.Cond.methodLink "GaugeBlocksModel" (67 : Nat) ({ cls := "GaugeBlocksModel", name := "put", desc := "(III)V" } : Jvm.MethodName)) ∈ lw_all := lw_g (lw_at lw_m9 95 rfl) rfl
theorem q2091 : (Jvm.Cond.privateMethod ({ cls := "GaugeBlocksModel", name := "put", desc := "(III)V" } : Jvm.MethodName)) ∈ lw_tbl := lw_at lw_m9 96 rfl
theorem q2092 : (Jvm.Cond.instanceMethod ({ cls := "GaugeBlocksModel", name := "put", desc := "(III)V" } : Jvm.MethodName)) ∈ lw_all := lw_g (lw_at lw_m9 97 rfl) rfl
theorem q2093 : (Jvm.Cond.code ({ cls := "GaugeBlocksModel", name := "put", desc := "(III)V" } : Jvm.MethodName) prog_11_method_9_code (4 : Nat) (Option.none : Option Jvm.ClassFile.FieldType)) ∈ lw_all := lw_g (lw_at lw_m9 98 rfl) rfl
theorem q2095 : (Jvm.Cond.instanceMethod ({ cls := "GaugeBlocksModel", name := "discard", desc := "(I)I" } : Jvm.MethodName)) ∈ lw_all := lw_g (lw_at lw_m9 100 rfl) rfl
theorem q2096 : (Jvm.Cond.selects "GaugeBlocksModel" ({ cls := "GaugeBlocksModel", name := "discard", desc := "(I)I" } : Jvm.MethodName) ({ cls := "GaugeBlocksModel", name := "discard", desc := "(I)I" } : Jvm.MethodName)) ∈ lw_all := lw_g (lw_at lw_m9 101 rfl) rfl
theorem q2097 : (Jvm.Cond.code ({ cls := "GaugeBlocksModel", name := "discard", desc := "(I)I" } : Jvm.MethodName) prog_11_method_37_code (4 : Nat) (Option.some Jvm.ClassFile.FieldType.int)) ∈ lw_all := lw_g (lw_at lw_m9 102 rfl) rfl
theorem q2098 : (Jvm.Cond.methodLink "GaugeBlocksModel" (116 : Nat) ({ cls := "GaugeBlocksModel", name := "isBlock", desc := "(I)Z" } : Jvm.MethodName)) ∈ lw_all := lw_g (lw_at lw_m9 103 rfl) rfl
theorem q2099 : (Jvm.Cond.privateMethod ({ cls := "GaugeBlocksModel", name := "isBlock", desc := "(I)Z" } : Jvm.MethodName)) ∈ lw_tbl := lw_at lw_m9 104 rfl
theorem q2100 : (Jvm.Cond.instanceMethod ({ cls := "GaugeBlocksModel", name := "isBlock", desc := "(I)Z" } : Jvm.MethodName)) ∈ lw_all := lw_g (lw_at lw_m9 105 rfl) rfl
theorem q2101 : (Jvm.Cond.code ({ cls := "GaugeBlocksModel", name := "isBlock", desc := "(I)Z" } : Jvm.MethodName) prog_11_method_5_code (2 : Nat) (Option.some Jvm.ClassFile.FieldType.boolean)) ∈ lw_all := lw_g (lw_at lw_m9 106 rfl) rfl
theorem q2102 : (Jvm.Cond.methodLink "GaugeBlocksModel" (78 : Nat) ({ cls := "GaugeBlocksModel", name := "isFree", desc := "(I)Z" } : Jvm.MethodName)) ∈ lw_all := lw_g (lw_at lw_m9 107 rfl) rfl
theorem q2103 : (Jvm.Cond.privateMethod ({ cls := "GaugeBlocksModel", name := "isFree", desc := "(I)Z" } : Jvm.MethodName)) ∈ lw_tbl := lw_at lw_m9 108 rfl
theorem q2104 : (Jvm.Cond.instanceMethod ({ cls := "GaugeBlocksModel", name := "isFree", desc := "(I)Z" } : Jvm.MethodName)) ∈ lw_all := lw_g (lw_at lw_m9 109 rfl) rfl
theorem q2105 : (Jvm.Cond.code ({ cls := "GaugeBlocksModel", name := "isFree", desc := "(I)Z" } : Jvm.MethodName) prog_11_method_15_code (2 : Nat) (Option.some Jvm.ClassFile.FieldType.boolean)) ∈ lw_all := lw_g (lw_at lw_m9 110 rfl) rfl
theorem q2106 : (Jvm.Cond.methodLink "GaugeBlocksModel" (57 : Nat) ({ cls := "GaugeBlocksModel", name := "of", desc := "(II)I" } : Jvm.MethodName)) ∈ lw_all := lw_g (lw_at lw_m9 111 rfl) rfl
theorem q2107 : (Jvm.Cond.privateMethod ({ cls := "GaugeBlocksModel", name := "of", desc := "(II)I" } : Jvm.MethodName)) ∈ lw_tbl := lw_at lw_m9 112 rfl
theorem q2108 : (Jvm.Cond.instanceMethod ({ cls := "GaugeBlocksModel", name := "of", desc := "(II)I" } : Jvm.MethodName)) ∈ lw_all := lw_g (lw_at lw_m9 113 rfl) rfl
theorem q2109 : (Jvm.Cond.code ({ cls := "GaugeBlocksModel", name := "of", desc := "(II)I" } : Jvm.MethodName) prog_11_method_8_code (3 : Nat) (Option.some Jvm.ClassFile.FieldType.int)) ∈ lw_all := lw_g (lw_at lw_m9 114 rfl) rfl
theorem q2111 : (Jvm.Cond.instanceMethod ({ cls := "GaugeBlocksModel", name := "calibrate", desc := "(I)I" } : Jvm.MethodName)) ∈ lw_all := lw_g (lw_at lw_m9 116 rfl) rfl
theorem q2112 : (Jvm.Cond.selects "GaugeBlocksModel" ({ cls := "GaugeBlocksModel", name := "calibrate", desc := "(I)I" } : Jvm.MethodName) ({ cls := "GaugeBlocksModel", name := "calibrate", desc := "(I)I" } : Jvm.MethodName)) ∈ lw_all := lw_g (lw_at lw_m9 117 rfl) rfl
theorem q2113 : (Jvm.Cond.code ({ cls := "GaugeBlocksModel", name := "calibrate", desc := "(I)I" } : Jvm.MethodName) prog_11_method_38_code (2 : Nat) (Option.some Jvm.ClassFile.FieldType.int)) ∈ lw_all := lw_g (lw_at lw_m9 118 rfl) rfl
theorem q2114 : (Jvm.Cond.methodLink "GaugeBlocksModel" (61 : Nat) ({ cls := "GaugeBlocksModel", name := "error", desc := "(I)I" } : Jvm.MethodName)) ∈ lw_all := lw_g (lw_at lw_m9 119 rfl) rfl
theorem q2115 : (Jvm.Cond.privateMethod ({ cls := "GaugeBlocksModel", name := "error", desc := "(I)I" } : Jvm.MethodName)) ∈ lw_tbl := lw_at lw_m9 120 rfl
theorem q2116 : (Jvm.Cond.instanceMethod ({ cls := "GaugeBlocksModel", name := "error", desc := "(I)I" } : Jvm.MethodName)) ∈ lw_all := lw_g (lw_at lw_m9 121 rfl) rfl
theorem q2117 : (Jvm.Cond.code ({ cls := "GaugeBlocksModel", name := "error", desc := "(I)I" } : Jvm.MethodName) prog_11_method_16_code (2 : Nat) (Option.some Jvm.ClassFile.FieldType.int)) ∈ lw_all := lw_g (lw_at lw_m9 122 rfl) rfl
theorem q2118 : (Jvm.Cond.methodLink "GaugeBlocksModel" (85 : Nat) ({ cls := "GaugeBlocksModel", name := "grade", desc := "(I)I" } : Jvm.MethodName)) ∈ lw_all := lw_g (lw_at lw_m9 123 rfl) rfl
theorem q2119 : (Jvm.Cond.privateMethod ({ cls := "GaugeBlocksModel", name := "grade", desc := "(I)I" } : Jvm.MethodName)) ∈ lw_tbl := lw_at lw_m9 124 rfl
theorem q2120 : (Jvm.Cond.instanceMethod ({ cls := "GaugeBlocksModel", name := "grade", desc := "(I)I" } : Jvm.MethodName)) ∈ lw_all := lw_g (lw_at lw_m9 125 rfl) rfl
theorem q2121 : (Jvm.Cond.code ({ cls := "GaugeBlocksModel", name := "grade", desc := "(I)I" } : Jvm.MethodName) prog_11_method_17_code (3 : Nat) (Option.some Jvm.ClassFile.FieldType.int)) ∈ lw_all := lw_g (lw_at lw_m9 126 rfl) rfl
theorem q2122 : (Jvm.Cond.methodLink "GaugeBlocksModel" (64 : Nat) ({ cls := "GaugeBlocksModel", name := "size", desc := "(I)I" } : Jvm.MethodName)) ∈ lw_all := lw_g (lw_at lw_m9 127 rfl) rfl
theorem q2123 : (Jvm.Cond.static ({ cls := "GaugeBlocksModel", name := "size", desc := "(I)I" } : Jvm.MethodName)) ∈ lw_all := lw_g (lw_at lw_m9 128 rfl) rfl
theorem q2124 : (Jvm.Cond.code ({ cls := "GaugeBlocksModel", name := "size", desc := "(I)I" } : Jvm.MethodName) prog_11_method_10_code (1 : Nat) (Option.some Jvm.ClassFile.FieldType.int)) ∈ lw_all := lw_g (lw_at lw_m9 129 rfl) rfl
theorem q2126 : (Jvm.Cond.instanceMethod ({ cls := "GaugeBlocksModel", name := "hold", desc := "(II)I" } : Jvm.MethodName)) ∈ lw_all := lw_g (lw_at lw_m9 131 rfl) rfl
theorem q2127 : (Jvm.Cond.selects "GaugeBlocksModel" ({ cls := "GaugeBlocksModel", name := "hold", desc := "(II)I" } : Jvm.MethodName) ({ cls := "GaugeBlocksModel", name := "hold", desc := "(II)I" } : Jvm.MethodName)) ∈ lw_all := lw_g (lw_at lw_m9 132 rfl) rfl
theorem q2128 : (Jvm.Cond.code ({ cls := "GaugeBlocksModel", name := "hold", desc := "(II)I" } : Jvm.MethodName) prog_11_method_39_code (3 : Nat) (Option.some Jvm.ClassFile.FieldType.int)) ∈ lw_all := lw_g (lw_at lw_m9 133 rfl) rfl
theorem q2129 : (Jvm.Cond.methodLink "GaugeBlocksModel" (119 : Nat) ({ cls := "GaugeBlocksModel", name := "holdNow", desc := "(II)I" } : Jvm.MethodName)) ∈ lw_all := lw_g (lw_at lw_m9 134 rfl) rfl
theorem q2130 : (Jvm.Cond.privateMethod ({ cls := "GaugeBlocksModel", name := "holdNow", desc := "(II)I" } : Jvm.MethodName)) ∈ lw_tbl := lw_at lw_m9 135 rfl
theorem q2131 : (Jvm.Cond.instanceMethod ({ cls := "GaugeBlocksModel", name := "holdNow", desc := "(II)I" } : Jvm.MethodName)) ∈ lw_all := lw_g (lw_at lw_m9 136 rfl) rfl
theorem q2132 : (Jvm.Cond.code ({ cls := "GaugeBlocksModel", name := "holdNow", desc := "(II)I" } : Jvm.MethodName) prog_11_method_24_code (3 : Nat) (Option.some Jvm.ClassFile.FieldType.int)) ∈ lw_all := lw_g (lw_at lw_m9 137 rfl) rfl
theorem q2133 : (Jvm.Cond.methodLink "GaugeBlocksModel" (71 : Nat) ({ cls := "GaugeBlocksModel", name := "warm", desc := "(II)V" } : Jvm.MethodName)) ∈ lw_all := lw_g (lw_at lw_m9 138 rfl) rfl
theorem q2134 : (Jvm.Cond.privateMethod ({ cls := "GaugeBlocksModel", name := "warm", desc := "(II)V" } : Jvm.MethodName)) ∈ lw_tbl := lw_at lw_m9 139 rfl
theorem q2135 : (Jvm.Cond.instanceMethod ({ cls := "GaugeBlocksModel", name := "warm", desc := "(II)V" } : Jvm.MethodName)) ∈ lw_all := lw_g (lw_at lw_m9 140 rfl) rfl
theorem q2136 : (Jvm.Cond.code ({ cls := "GaugeBlocksModel", name := "warm", desc := "(II)V" } : Jvm.MethodName) prog_11_method_23_code (4 : Nat) (Option.none : Option Jvm.ClassFile.FieldType)) ∈ lw_all := lw_g (lw_at lw_m9 141 rfl) rfl
theorem q2138 : (Jvm.Cond.instanceMethod ({ cls := "GaugeBlocksModel", name := "rest", desc := "(I)I" } : Jvm.MethodName)) ∈ lw_all := lw_g (lw_at lw_m9 143 rfl) rfl
theorem q2139 : (Jvm.Cond.selects "GaugeBlocksModel" ({ cls := "GaugeBlocksModel", name := "rest", desc := "(I)I" } : Jvm.MethodName) ({ cls := "GaugeBlocksModel", name := "rest", desc := "(I)I" } : Jvm.MethodName)) ∈ lw_all := lw_g (lw_at lw_m9 144 rfl) rfl
theorem q2140 : (Jvm.Cond.code ({ cls := "GaugeBlocksModel", name := "rest", desc := "(I)I" } : Jvm.MethodName) prog_11_method_40_code (2 : Nat) (Option.some Jvm.ClassFile.FieldType.int)) ∈ lw_all := lw_g (lw_at lw_m9 145 rfl) rfl
theorem q2141 : (Jvm.Cond.methodLink "GaugeBlocksModel" (122 : Nat) ({ cls := "GaugeBlocksModel", name := "restNow", desc := "(I)I" } : Jvm.MethodName)) ∈ lw_all := lw_g (lw_at lw_m9 146 rfl) rfl
theorem q2142 : (Jvm.Cond.privateMethod ({ cls := "GaugeBlocksModel", name := "restNow", desc := "(I)I" } : Jvm.MethodName)) ∈ lw_tbl := lw_at lw_m9 147 rfl
theorem q2143 : (Jvm.Cond.instanceMethod ({ cls := "GaugeBlocksModel", name := "restNow", desc := "(I)I" } : Jvm.MethodName)) ∈ lw_all := lw_g (lw_at lw_m9 148 rfl) rfl
theorem q2144 : (Jvm.Cond.code ({ cls := "GaugeBlocksModel", name := "restNow", desc := "(I)I" } : Jvm.MethodName) prog_11_method_25_code (5 : Nat) (Option.some Jvm.ClassFile.FieldType.int)) ∈ lw_all := lw_g (lw_at lw_m9 149 rfl) rfl
theorem q2145 : (Jvm.Cond.methodLink "GaugeBlocksModel" (75 : Nat) ({ cls := "GaugeBlocksModel", name := "cooled", desc := "(I)I" } : Jvm.MethodName)) ∈ lw_all := lw_g (lw_at lw_m9 150 rfl) rfl
theorem q2146 : (Jvm.Cond.static ({ cls := "GaugeBlocksModel", name := "cooled", desc := "(I)I" } : Jvm.MethodName)) ∈ lw_all := lw_g (lw_at lw_m9 151 rfl) rfl
theorem q2147 : (Jvm.Cond.code ({ cls := "GaugeBlocksModel", name := "cooled", desc := "(I)I" } : Jvm.MethodName) prog_11_method_21_code (1 : Nat) (Option.some Jvm.ClassFile.FieldType.int)) ∈ lw_all := lw_g (lw_at lw_m9 152 rfl) rfl
theorem q2149 : (Jvm.Cond.instanceMethod ({ cls := "GaugeBlocksModel", name := "set", desc := "(II)I" } : Jvm.MethodName)) ∈ lw_all := lw_g (lw_at lw_m9 154 rfl) rfl
theorem q2150 : (Jvm.Cond.selects "GaugeBlocksModel" ({ cls := "GaugeBlocksModel", name := "set", desc := "(II)I" } : Jvm.MethodName) ({ cls := "GaugeBlocksModel", name := "set", desc := "(II)I" } : Jvm.MethodName)) ∈ lw_all := lw_g (lw_at lw_m9 155 rfl) rfl
theorem q2151 : (Jvm.Cond.code ({ cls := "GaugeBlocksModel", name := "set", desc := "(II)I" } : Jvm.MethodName) prog_11_method_42_code (4 : Nat) (Option.some Jvm.ClassFile.FieldType.int)) ∈ lw_all := lw_g (lw_at lw_m9 156 rfl) rfl
theorem q2152 : (Jvm.Cond.methodLink "GaugeBlocksModel" (125 : Nat) ({ cls := "GaugeBlocksModel", name := "maySet", desc := "(II)Z" } : Jvm.MethodName)) ∈ lw_all := lw_g (lw_at lw_m9 157 rfl) rfl
theorem q2153 : (Jvm.Cond.static ({ cls := "GaugeBlocksModel", name := "maySet", desc := "(II)Z" } : Jvm.MethodName)) ∈ lw_all := lw_g (lw_at lw_m9 158 rfl) rfl
theorem q2154 : (Jvm.Cond.code ({ cls := "GaugeBlocksModel", name := "maySet", desc := "(II)Z" } : Jvm.MethodName) prog_11_method_41_code (2 : Nat) (Option.some Jvm.ClassFile.FieldType.boolean)) ∈ lw_all := lw_g (lw_at lw_m9 159 rfl) rfl
theorem q2156 : (Jvm.Cond.instanceMethod ({ cls := "GaugeBlocksModel", name := "wring", desc := "(II)I" } : Jvm.MethodName)) ∈ lw_all := lw_g (lw_at lw_m9 161 rfl) rfl
theorem q2157 : (Jvm.Cond.selects "GaugeBlocksModel" ({ cls := "GaugeBlocksModel", name := "wring", desc := "(II)I" } : Jvm.MethodName) ({ cls := "GaugeBlocksModel", name := "wring", desc := "(II)I" } : Jvm.MethodName)) ∈ lw_all := lw_g (lw_at lw_m9 162 rfl) rfl
theorem q2158 : (Jvm.Cond.code ({ cls := "GaugeBlocksModel", name := "wring", desc := "(II)I" } : Jvm.MethodName) prog_11_method_43_code (3 : Nat) (Option.some Jvm.ClassFile.FieldType.int)) ∈ lw_all := lw_g (lw_at lw_m9 163 rfl) rfl
theorem q2159 : (Jvm.Cond.methodLink "GaugeBlocksModel" (129 : Nat) ({ cls := "GaugeBlocksModel", name := "isStack", desc := "(I)Z" } : Jvm.MethodName)) ∈ lw_all := lw_g (lw_at lw_m9 164 rfl) rfl
theorem q2160 : (Jvm.Cond.static ({ cls := "GaugeBlocksModel", name := "isStack", desc := "(I)Z" } : Jvm.MethodName)) ∈ lw_all := lw_g (lw_at lw_m9 165 rfl) rfl
theorem q2161 : (Jvm.Cond.code ({ cls := "GaugeBlocksModel", name := "isStack", desc := "(I)Z" } : Jvm.MethodName) prog_11_method_6_code (1 : Nat) (Option.some Jvm.ClassFile.FieldType.boolean)) ∈ lw_all := lw_g (lw_at lw_m9 166 rfl) rfl
theorem q2162 : (Jvm.Cond.methodLink "GaugeBlocksModel" (132 : Nat) ({ cls := "GaugeBlocksModel", name := "wringNow", desc := "(II)I" } : Jvm.MethodName)) ∈ lw_all := lw_g (lw_at lw_m9 167 rfl) rfl
theorem q2163 : (Jvm.Cond.privateMethod ({ cls := "GaugeBlocksModel", name := "wringNow", desc := "(II)I" } : Jvm.MethodName)) ∈ lw_tbl := lw_at lw_m9 168 rfl
theorem q2164 : (Jvm.Cond.instanceMethod ({ cls := "GaugeBlocksModel", name := "wringNow", desc := "(II)I" } : Jvm.MethodName)) ∈ lw_all := lw_g (lw_at lw_m9 169 rfl) rfl
theorem q2165 : (Jvm.Cond.code ({ cls := "GaugeBlocksModel", name := "wringNow", desc := "(II)I" } : Jvm.MethodName) prog_11_method_28_code (4 : Nat) (Option.some Jvm.ClassFile.FieldType.int)) ∈ lw_all := lw_g (lw_at lw_m9 170 rfl) rfl
theorem q2166 : (Jvm.Cond.methodLink "GaugeBlocksModel" (91 : Nat) ({ cls := "GaugeBlocksModel", name := "reason", desc := "(II)I" } : Jvm.MethodName)) ∈ lw_all := lw_g (lw_at lw_m9 171 rfl) rfl
theorem q2167 : (Jvm.Cond.privateMethod ({ cls := "GaugeBlocksModel", name := "reason", desc := "(II)I" } : Jvm.MethodName)) ∈ lw_tbl := lw_at lw_m9 172 rfl
theorem q2168 : (Jvm.Cond.instanceMethod ({ cls := "GaugeBlocksModel", name := "reason", desc := "(II)I" } : Jvm.MethodName)) ∈ lw_all := lw_g (lw_at lw_m9 173 rfl) rfl
theorem q2169 : (Jvm.Cond.code ({ cls := "GaugeBlocksModel", name := "reason", desc := "(II)I" } : Jvm.MethodName) prog_11_method_26_code (3 : Nat) (Option.some Jvm.ClassFile.FieldType.int)) ∈ lw_all := lw_g (lw_at lw_m9 174 rfl) rfl
theorem q2170 : (Jvm.Cond.methodLink "GaugeBlocksModel" (82 : Nat) ({ cls := "GaugeBlocksModel", name := "height", desc := "(I)I" } : Jvm.MethodName)) ∈ lw_all := lw_g (lw_at lw_m9 175 rfl) rfl
theorem q2171 : (Jvm.Cond.privateMethod ({ cls := "GaugeBlocksModel", name := "height", desc := "(I)I" } : Jvm.MethodName)) ∈ lw_tbl := lw_at lw_m9 176 rfl
theorem q2172 : (Jvm.Cond.instanceMethod ({ cls := "GaugeBlocksModel", name := "height", desc := "(I)I" } : Jvm.MethodName)) ∈ lw_all := lw_g (lw_at lw_m9 177 rfl) rfl
theorem q2173 : (Jvm.Cond.code ({ cls := "GaugeBlocksModel", name := "height", desc := "(I)I" } : Jvm.MethodName) prog_11_method_19_code (4 : Nat) (Option.some Jvm.ClassFile.FieldType.int)) ∈ lw_all := lw_g (lw_at lw_m9 178 rfl) rfl
theorem q2174 : (Jvm.Cond.methodLink "GaugeBlocksModel" (94 : Nat) ({ cls := "GaugeBlocksModel", name := "rub", desc := "(II)V" } : Jvm.MethodName)) ∈ lw_all := lw_g (lw_at lw_m9 179 rfl) rfl
theorem q2175 : (Jvm.Cond.privateMethod ({ cls := "GaugeBlocksModel", name := "rub", desc := "(II)V" } : Jvm.MethodName)) ∈ lw_tbl := lw_at lw_m9 180 rfl
theorem q2176 : (Jvm.Cond.instanceMethod ({ cls := "GaugeBlocksModel", name := "rub", desc := "(II)V" } : Jvm.MethodName)) ∈ lw_all := lw_g (lw_at lw_m9 181 rfl) rfl
theorem q2177 : (Jvm.Cond.code ({ cls := "GaugeBlocksModel", name := "rub", desc := "(II)V" } : Jvm.MethodName) prog_11_method_27_code (4 : Nat) (Option.none : Option Jvm.ClassFile.FieldType)) ∈ lw_all := lw_g (lw_at lw_m9 182 rfl) rfl
theorem q2178 : (Jvm.Cond.methodLink "GaugeBlocksModel" (88 : Nat) ({ cls := "GaugeBlocksModel", name := "blockAt", desc := "(II)I" } : Jvm.MethodName)) ∈ lw_all := lw_g (lw_at lw_m9 183 rfl) rfl
theorem q2179 : (Jvm.Cond.privateMethod ({ cls := "GaugeBlocksModel", name := "blockAt", desc := "(II)I" } : Jvm.MethodName)) ∈ lw_tbl := lw_at lw_m9 184 rfl
theorem q2180 : (Jvm.Cond.instanceMethod ({ cls := "GaugeBlocksModel", name := "blockAt", desc := "(II)I" } : Jvm.MethodName)) ∈ lw_all := lw_g (lw_at lw_m9 185 rfl) rfl
theorem q2181 : (Jvm.Cond.code ({ cls := "GaugeBlocksModel", name := "blockAt", desc := "(II)I" } : Jvm.MethodName) prog_11_method_20_code (5 : Nat) (Option.some Jvm.ClassFile.FieldType.int)) ∈ lw_all := lw_g (lw_at lw_m9 186 rfl) rfl
theorem q2183 : (Jvm.Cond.instanceMethod ({ cls := "GaugeBlocksModel", name := "takeOff", desc := "(I)I" } : Jvm.MethodName)) ∈ lw_all := lw_g (lw_at lw_m9 188 rfl) rfl
theorem q2184 : (Jvm.Cond.selects "GaugeBlocksModel" ({ cls := "GaugeBlocksModel", name := "takeOff", desc := "(I)I" } : Jvm.MethodName) ({ cls := "GaugeBlocksModel", name := "takeOff", desc := "(I)I" } : Jvm.MethodName)) ∈ lw_all := lw_g (lw_at lw_m9 189 rfl) rfl
theorem q2185 : (Jvm.Cond.code ({ cls := "GaugeBlocksModel", name := "takeOff", desc := "(I)I" } : Jvm.MethodName) prog_11_method_44_code (2 : Nat) (Option.some Jvm.ClassFile.FieldType.int)) ∈ lw_all := lw_g (lw_at lw_m9 190 rfl) rfl
theorem q2186 : (Jvm.Cond.methodLink "GaugeBlocksModel" (135 : Nat) ({ cls := "GaugeBlocksModel", name := "takeNow", desc := "(I)I" } : Jvm.MethodName)) ∈ lw_all := lw_g (lw_at lw_m9 191 rfl) rfl
theorem q2187 : (Jvm.Cond.privateMethod ({ cls := "GaugeBlocksModel", name := "takeNow", desc := "(I)I" } : Jvm.MethodName)) ∈ lw_tbl := lw_at lw_m9 192 rfl
theorem q2188 : (Jvm.Cond.instanceMethod ({ cls := "GaugeBlocksModel", name := "takeNow", desc := "(I)I" } : Jvm.MethodName)) ∈ lw_all := lw_g (lw_at lw_m9 193 rfl) rfl
theorem q2189 : (Jvm.Cond.code ({ cls := "GaugeBlocksModel", name := "takeNow", desc := "(I)I" } : Jvm.MethodName) prog_11_method_29_code (3 : Nat) (Option.some Jvm.ClassFile.FieldType.int)) ∈ lw_all := lw_g (lw_at lw_m9 194 rfl) rfl
theorem q2191 : (Jvm.Cond.instanceMethod ({ cls := "GaugeBlocksModel", name := "make", desc := "(II)I" } : Jvm.MethodName)) ∈ lw_all := lw_g (lw_at lw_m9 196 rfl) rfl
theorem q2192 : (Jvm.Cond.selects "GaugeBlocksModel" ({ cls := "GaugeBlocksModel", name := "make", desc := "(II)I" } : Jvm.MethodName) ({ cls := "GaugeBlocksModel", name := "make", desc := "(II)I" } : Jvm.MethodName)) ∈ lw_all := lw_g (lw_at lw_m9 197 rfl) rfl
theorem q2193 : (Jvm.Cond.code ({ cls := "GaugeBlocksModel", name := "make", desc := "(II)I" } : Jvm.MethodName) prog_11_method_46_code (3 : Nat) (Option.some Jvm.ClassFile.FieldType.int)) ∈ lw_all := lw_g (lw_at lw_m9 198 rfl) rfl
theorem q2194 : (Jvm.Cond.methodLink "GaugeBlocksModel" (141 : Nat) ({ cls := "GaugeBlocksModel", name := "isLength", desc := "(I)Z" } : Jvm.MethodName)) ∈ lw_all := lw_g (lw_at lw_m9 199 rfl) rfl
theorem q2195 : (Jvm.Cond.static ({ cls := "GaugeBlocksModel", name := "isLength", desc := "(I)Z" } : Jvm.MethodName)) ∈ lw_all := lw_g (lw_at lw_m9 200 rfl) rfl
theorem q2196 : (Jvm.Cond.code ({ cls := "GaugeBlocksModel", name := "isLength", desc := "(I)Z" } : Jvm.MethodName) prog_11_method_7_code (1 : Nat) (Option.some Jvm.ClassFile.FieldType.boolean)) ∈ lw_all := lw_g (lw_at lw_m9 201 rfl) rfl
theorem q2197 : (Jvm.Cond.constant "GaugeBlocksModel" (46 : Nat) (600000 : Int32)) ∈ lw_all := lw_g (lw_at lw_m9 202 rfl) rfl
theorem q2198 : (Jvm.Cond.methodLink "GaugeBlocksModel" (144 : Nat) ({ cls := "GaugeBlocksModel", name := "makeNow", desc := "(II)I" } : Jvm.MethodName)) ∈ lw_all := lw_g (lw_at lw_m9 203 rfl) rfl
theorem q2199 : (Jvm.Cond.privateMethod ({ cls := "GaugeBlocksModel", name := "makeNow", desc := "(II)I" } : Jvm.MethodName)) ∈ lw_tbl := lw_at lw_m9 204 rfl
theorem q2200 : (Jvm.Cond.instanceMethod ({ cls := "GaugeBlocksModel", name := "makeNow", desc := "(II)I" } : Jvm.MethodName)) ∈ lw_all := lw_g (lw_at lw_m9 205 rfl) rfl
theorem q2201 : (Jvm.Cond.code ({ cls := "GaugeBlocksModel", name := "makeNow", desc := "(II)I" } : Jvm.MethodName) prog_11_method_45_code (7 : Nat) (Option.some Jvm.ClassFile.FieldType.int)) ∈ lw_all := lw_g (lw_at lw_m9 206 rfl) rfl
theorem q2202 : (Jvm.Cond.methodLink "GaugeBlocksModel" (138 : Nat) ({ cls := "GaugeBlocksModel", name := "fewestFor", desc := "(I)I" } : Jvm.MethodName)) ∈ lw_all := lw_g (lw_at lw_m9 207 rfl) rfl
theorem q2203 : (Jvm.Cond.privateMethod ({ cls := "GaugeBlocksModel", name := "fewestFor", desc := "(I)I" } : Jvm.MethodName)) ∈ lw_tbl := lw_at lw_m9 208 rfl
theorem q2204 : (Jvm.Cond.instanceMethod ({ cls := "GaugeBlocksModel", name := "fewestFor", desc := "(I)I" } : Jvm.MethodName)) ∈ lw_all := lw_g (lw_at lw_m9 209 rfl) rfl
theorem q2205 : (Jvm.Cond.code ({ cls := "GaugeBlocksModel", name := "fewestFor", desc := "(I)I" } : Jvm.MethodName) prog_11_method_34_code (4 : Nat) (Option.some Jvm.ClassFile.FieldType.int)) ∈ lw_all := lw_g (lw_at lw_m9 210 rfl) rfl
theorem q2206 : (Jvm.Cond.methodLink "GaugeBlocksModel" (100 : Nat) ({ cls := "GaugeBlocksModel", name := "lookForFree", desc := "()V" } : Jvm.MethodName)) ∈ lw_all := lw_g (lw_at lw_m9 211 rfl) rfl
theorem q2207 : (Jvm.Cond.privateMethod ({ cls := "GaugeBlocksModel", name := "lookForFree", desc := "()V" } : Jvm.MethodName)) ∈ lw_tbl := lw_at lw_m9 212 rfl
theorem q2208 : (Jvm.Cond.instanceMethod ({ cls := "GaugeBlocksModel", name := "lookForFree", desc := "()V" } : Jvm.MethodName)) ∈ lw_all := lw_g (lw_at lw_m9 213 rfl) rfl
theorem q2209 : (Jvm.Cond.code ({ cls := "GaugeBlocksModel", name := "lookForFree", desc := "()V" } : Jvm.MethodName) prog_11_method_30_code (2 : Nat) (Option.none : Option Jvm.ClassFile.FieldType)) ∈ lw_all := lw_g (lw_at lw_m9 214 rfl) rfl
theorem q2210 : (Jvm.Cond.methodLink "GaugeBlocksModel" (103 : Nat) ({ cls := "GaugeBlocksModel", name := "sumOf", desc := "(I)I" } : Jvm.MethodName)) ∈ lw_all := lw_g (lw_at lw_m9 215 rfl) rfl
theorem q2211 : (Jvm.Cond.privateMethod ({ cls := "GaugeBlocksModel", name := "sumOf", desc := "(I)I" } : Jvm.MethodName)) ∈ lw_tbl := lw_at lw_m9 216 rfl
theorem q2212 : (Jvm.Cond.instanceMethod ({ cls := "GaugeBlocksModel", name := "sumOf", desc := "(I)I" } : Jvm.MethodName)) ∈ lw_all := lw_g (lw_at lw_m9 217 rfl) rfl
theorem q2213 : (Jvm.Cond.code ({ cls := "GaugeBlocksModel", name := "sumOf", desc := "(I)I" } : Jvm.MethodName) prog_11_method_31_code (4 : Nat) (Option.some Jvm.ClassFile.FieldType.int)) ∈ lw_all := lw_g (lw_at lw_m9 218 rfl) rfl
theorem q2214 : (Jvm.Cond.methodLink "GaugeBlocksModel" (106 : Nat) ({ cls := "GaugeBlocksModel", name := "byNumbers", desc := "(I)I" } : Jvm.MethodName)) ∈ lw_all := lw_g (lw_at lw_m9 219 rfl) rfl
theorem q2215 : (Jvm.Cond.privateMethod ({ cls := "GaugeBlocksModel", name := "byNumbers", desc := "(I)I" } : Jvm.MethodName)) ∈ lw_tbl := lw_at lw_m9 220 rfl
theorem q2216 : (Jvm.Cond.instanceMethod ({ cls := "GaugeBlocksModel", name := "byNumbers", desc := "(I)I" } : Jvm.MethodName)) ∈ lw_all := lw_g (lw_at lw_m9 221 rfl) rfl
theorem q2217 : (Jvm.Cond.code ({ cls := "GaugeBlocksModel", name := "byNumbers", desc := "(I)I" } : Jvm.MethodName) prog_11_method_33_code (4 : Nat) (Option.some Jvm.ClassFile.FieldType.int)) ∈ lw_all := lw_g (lw_at lw_m9 222 rfl) rfl
theorem q2218 : (Jvm.Cond.methodLink "GaugeBlocksModel" (109 : Nat) ({ cls := "GaugeBlocksModel", name := "nextSet", desc := "(I)I" } : Jvm.MethodName)) ∈ lw_all := lw_g (lw_at lw_m9 223 rfl) rfl
theorem q2219 : (Jvm.Cond.static ({ cls := "GaugeBlocksModel", name := "nextSet", desc := "(I)I" } : Jvm.MethodName)) ∈ lw_all := lw_g (lw_at lw_m9 224 rfl) rfl
theorem q2220 : (Jvm.Cond.code ({ cls := "GaugeBlocksModel", name := "nextSet", desc := "(I)I" } : Jvm.MethodName) prog_11_method_32_code (3 : Nat) (Option.some Jvm.ClassFile.FieldType.int)) ∈ lw_all := lw_g (lw_at lw_m9 225 rfl) rfl
theorem q2222 : (Jvm.Cond.instanceMethod ({ cls := "GaugeBlocksModel", name := "append", desc := "(I)I" } : Jvm.MethodName)) ∈ lw_all := lw_g (lw_at lw_m9 227 rfl) rfl
theorem q2223 : (Jvm.Cond.selects "GaugeBlocksModel" ({ cls := "GaugeBlocksModel", name := "append", desc := "(I)I" } : Jvm.MethodName) ({ cls := "GaugeBlocksModel", name := "append", desc := "(I)I" } : Jvm.MethodName)) ∈ lw_all := lw_g (lw_at lw_m9 228 rfl) rfl
theorem q2224 : (Jvm.Cond.code ({ cls := "GaugeBlocksModel", name := "append", desc := "(I)I" } : Jvm.MethodName) prog_11_method_47_code (2 : Nat) (Option.some Jvm.ClassFile.FieldType.int)) ∈ lw_all := lw_g (lw_at lw_m9 229 rfl) rfl
theorem q2226 : (Jvm.Cond.instanceMethod ({ cls := "GaugeBlocksModel", name := "clearBuffer", desc := "()I" } : Jvm.MethodName)) ∈ lw_all := lw_g (lw_at lw_m9 231 rfl) rfl
theorem q2227 : (Jvm.Cond.selects "GaugeBlocksModel" ({ cls := "GaugeBlocksModel", name := "clearBuffer", desc := "()I" } : Jvm.MethodName) ({ cls := "GaugeBlocksModel", name := "clearBuffer", desc := "()I" } : Jvm.MethodName)) ∈ lw_all := lw_g (lw_at lw_m9 232 rfl) rfl
theorem q2228 : (Jvm.Cond.code ({ cls := "GaugeBlocksModel", name := "clearBuffer", desc := "()I" } : Jvm.MethodName) prog_11_method_48_code (2 : Nat) (Option.some Jvm.ClassFile.FieldType.int)) ∈ lw_all := lw_g (lw_at lw_m9 233 rfl) rfl
theorem q2230 : (Jvm.Cond.instanceMethod ({ cls := "GaugeBlocksModel", name := "firstError", desc := "()I" } : Jvm.MethodName)) ∈ lw_all := lw_g (lw_at lw_m9 235 rfl) rfl
theorem q2231 : (Jvm.Cond.selects "GaugeBlocksModel" ({ cls := "GaugeBlocksModel", name := "firstError", desc := "()I" } : Jvm.MethodName) ({ cls := "GaugeBlocksModel", name := "firstError", desc := "()I" } : Jvm.MethodName)) ∈ lw_all := lw_g (lw_at lw_m9 236 rfl) rfl
theorem q2232 : (Jvm.Cond.code ({ cls := "GaugeBlocksModel", name := "firstError", desc := "()I" } : Jvm.MethodName) prog_11_method_55_code (1 : Nat) (Option.some Jvm.ClassFile.FieldType.int)) ∈ lw_all := lw_g (lw_at lw_m9 237 rfl) rfl
theorem q2233 : (Jvm.Cond.methodLink "GaugeBlocksModel" (175 : Nat) ({ cls := "GaugeBlocksModel", name := "isComplete", desc := "()Z" } : Jvm.MethodName)) ∈ lw_all := lw_g (lw_at lw_m9 238 rfl) rfl
theorem q2234 : (Jvm.Cond.privateMethod ({ cls := "GaugeBlocksModel", name := "isComplete", desc := "()Z" } : Jvm.MethodName)) ∈ lw_tbl := lw_at lw_m9 239 rfl
theorem q2235 : (Jvm.Cond.instanceMethod ({ cls := "GaugeBlocksModel", name := "isComplete", desc := "()Z" } : Jvm.MethodName)) ∈ lw_all := lw_g (lw_at lw_m10 0 rfl) rfl
theorem q2236 : (Jvm.Cond.code ({ cls := "GaugeBlocksModel", name := "isComplete", desc := "()Z" } : Jvm.MethodName) prog_11_method_54_code (2 : Nat) (Option.some Jvm.ClassFile.FieldType.boolean)) ∈ lw_all := lw_g (lw_at lw_m10 1 rfl) rfl
theorem q2237 : (Jvm.Cond.methodLink "GaugeBlocksModel" (171 : Nat) ({ cls := "GaugeBlocksModel", name := "readOrder", desc := "()Z" } : Jvm.MethodName)) ∈ lw_all := lw_g (lw_at lw_m10 2 rfl) rfl
theorem q2238 : (Jvm.Cond.privateMethod ({ cls := "GaugeBlocksModel", name := "readOrder", desc := "()Z" } : Jvm.MethodName)) ∈ lw_tbl := lw_at lw_m10 3 rfl
theorem q2239 : (Jvm.Cond.instanceMethod ({ cls := "GaugeBlocksModel", name := "readOrder", desc := "()Z" } : Jvm.MethodName)) ∈ lw_all := lw_g (lw_at lw_m10 4 rfl) rfl
theorem q2240 : (Jvm.Cond.code ({ cls := "GaugeBlocksModel", name := "readOrder", desc := "()Z" } : Jvm.MethodName) prog_11_method_53_code (3 : Nat) (Option.some Jvm.ClassFile.FieldType.boolean)) ∈ lw_all := lw_g (lw_at lw_m10 5 rfl) rfl
theorem q2241 : (Jvm.Cond.methodLink "GaugeBlocksModel" (168 : Nat) ({ cls := "GaugeBlocksModel", name := "readNumbers", desc := "(I)Z" } : Jvm.MethodName)) ∈ lw_all := lw_g (lw_at lw_m10 6 rfl) rfl
theorem q2242 : (Jvm.Cond.privateMethod ({ cls := "GaugeBlocksModel", name := "readNumbers", desc := "(I)Z" } : Jvm.MethodName)) ∈ lw_tbl := lw_at lw_m10 7 rfl
theorem q2243 : (Jvm.Cond.instanceMethod ({ cls := "GaugeBlocksModel", name := "readNumbers", desc := "(I)Z" } : Jvm.MethodName)) ∈ lw_all := lw_g (lw_at lw_m10 8 rfl) rfl
theorem q2244 : (Jvm.Cond.code ({ cls := "GaugeBlocksModel", name := "readNumbers", desc := "(I)Z" } : Jvm.MethodName) prog_11_method_52_code (2 : Nat) (Option.some Jvm.ClassFile.FieldType.boolean)) ∈ lw_all := lw_g (lw_at lw_m10 9 rfl) rfl
theorem q2245 : (Jvm.Cond.methodLink "GaugeBlocksModel" (159 : Nat) ({ cls := "GaugeBlocksModel", name := "reads", desc := "(II)Z" } : Jvm.MethodName)) ∈ lw_all := lw_g (lw_at lw_m10 10 rfl) rfl
theorem q2246 : (Jvm.Cond.privateMethod ({ cls := "GaugeBlocksModel", name := "reads", desc := "(II)Z" } : Jvm.MethodName)) ∈ lw_tbl := lw_at lw_m10 11 rfl
theorem q2247 : (Jvm.Cond.instanceMethod ({ cls := "GaugeBlocksModel", name := "reads", desc := "(II)Z" } : Jvm.MethodName)) ∈ lw_all := lw_g (lw_at lw_m10 12 rfl) rfl
theorem q2248 : (Jvm.Cond.code ({ cls := "GaugeBlocksModel", name := "reads", desc := "(II)Z" } : Jvm.MethodName) prog_11_method_51_code (3 : Nat) (Option.some Jvm.ClassFile.FieldType.boolean)) ∈ lw_all := lw_g (lw_at lw_m10 13 rfl) rfl
theorem q2249 : (Jvm.Cond.methodLink "GaugeBlocksModel" (153 : Nat) ({ cls := "GaugeBlocksModel", name := "isAt", desc := "(II)Z" } : Jvm.MethodName)) ∈ lw_all := lw_g (lw_at lw_m10 14 rfl) rfl
theorem q2250 : (Jvm.Cond.privateMethod ({ cls := "GaugeBlocksModel", name := "isAt", desc := "(II)Z" } : Jvm.MethodName)) ∈ lw_tbl := lw_at lw_m10 15 rfl
theorem q2251 : (Jvm.Cond.instanceMethod ({ cls := "GaugeBlocksModel", name := "isAt", desc := "(II)Z" } : Jvm.MethodName)) ∈ lw_all := lw_g (lw_at lw_m10 16 rfl) rfl
theorem q2252 : (Jvm.Cond.code ({ cls := "GaugeBlocksModel", name := "isAt", desc := "(II)Z" } : Jvm.MethodName) prog_11_method_49_code (3 : Nat) (Option.some Jvm.ClassFile.FieldType.boolean)) ∈ lw_all := lw_g (lw_at lw_m10 17 rfl) rfl
theorem q2253 : (Jvm.Cond.methodLink "GaugeBlocksModel" (165 : Nat) ({ cls := "GaugeBlocksModel", name := "takes", desc := "(I)Z" } : Jvm.MethodName)) ∈ lw_all := lw_g (lw_at lw_m10 18 rfl) rfl
theorem q2254 : (Jvm.Cond.privateMethod ({ cls := "GaugeBlocksModel", name := "takes", desc := "(I)Z" } : Jvm.MethodName)) ∈ lw_tbl := lw_at lw_m10 19 rfl
theorem q2255 : (Jvm.Cond.instanceMethod ({ cls := "GaugeBlocksModel", name := "takes", desc := "(I)Z" } : Jvm.MethodName)) ∈ lw_all := lw_g (lw_at lw_m10 20 rfl) rfl
theorem q2256 : (Jvm.Cond.code ({ cls := "GaugeBlocksModel", name := "takes", desc := "(I)Z" } : Jvm.MethodName) prog_11_method_50_code (3 : Nat) (Option.some Jvm.ClassFile.FieldType.boolean)) ∈ lw_all := lw_g (lw_at lw_m10 21 rfl) rfl
theorem q2258 : (Jvm.Cond.instanceMethod ({ cls := "GaugeBlocksModel", name := "execute", desc := "()I" } : Jvm.MethodName)) ∈ lw_all := lw_g (lw_at lw_m10 23 rfl) rfl
theorem q2259 : (Jvm.Cond.selects "GaugeBlocksModel" ({ cls := "GaugeBlocksModel", name := "execute", desc := "()I" } : Jvm.MethodName) ({ cls := "GaugeBlocksModel", name := "execute", desc := "()I" } : Jvm.MethodName)) ∈ lw_all := lw_g (lw_at lw_m10 24 rfl) rfl
theorem q2260 : (Jvm.Cond.code ({ cls := "GaugeBlocksModel", name := "execute", desc := "()I" } : Jvm.MethodName) prog_11_method_57_code (2 : Nat) (Option.some Jvm.ClassFile.FieldType.int)) ∈ lw_all := lw_g (lw_at lw_m10 25 rfl) rfl
theorem q2261 : (Jvm.Cond.methodLink "GaugeBlocksModel" (178 : Nat) ({ cls := "GaugeBlocksModel", name := "isDone", desc := "(I)Z" } : Jvm.MethodName)) ∈ lw_all := lw_g (lw_at lw_m10 26 rfl) rfl
theorem q2262 : (Jvm.Cond.privateMethod ({ cls := "GaugeBlocksModel", name := "isDone", desc := "(I)Z" } : Jvm.MethodName)) ∈ lw_tbl := lw_at lw_m10 27 rfl
theorem q2263 : (Jvm.Cond.instanceMethod ({ cls := "GaugeBlocksModel", name := "isDone", desc := "(I)Z" } : Jvm.MethodName)) ∈ lw_all := lw_g (lw_at lw_m10 28 rfl) rfl
theorem q2264 : (Jvm.Cond.code ({ cls := "GaugeBlocksModel", name := "isDone", desc := "(I)Z" } : Jvm.MethodName) prog_11_method_56_code (3 : Nat) (Option.some Jvm.ClassFile.FieldType.boolean)) ∈ lw_all := lw_g (lw_at lw_m10 29 rfl) rfl
theorem q2266 : (Jvm.Cond.instanceMethod ({ cls := "GaugeBlocksModel", name := "blockOf", desc := "(II)I" } : Jvm.MethodName)) ∈ lw_all := lw_g (lw_at lw_m10 31 rfl) rfl
theorem q2267 : (Jvm.Cond.selects "GaugeBlocksModel" ({ cls := "GaugeBlocksModel", name := "blockOf", desc := "(II)I" } : Jvm.MethodName) ({ cls := "GaugeBlocksModel", name := "blockOf", desc := "(II)I" } : Jvm.MethodName)) ∈ lw_all := lw_g (lw_at lw_m10 32 rfl) rfl
theorem q2268 : (Jvm.Cond.code ({ cls := "GaugeBlocksModel", name := "blockOf", desc := "(II)I" } : Jvm.MethodName) prog_11_method_59_code (3 : Nat) (Option.some Jvm.ClassFile.FieldType.int)) ∈ lw_all := lw_g (lw_at lw_m10 33 rfl) rfl
theorem q2269 : (Jvm.Cond.methodLink "GaugeBlocksModel" (184 : Nat) ({ cls := "GaugeBlocksModel", name := "ofBlock", desc := "(II)I" } : Jvm.MethodName)) ∈ lw_all := lw_g (lw_at lw_m10 34 rfl) rfl
theorem q2270 : (Jvm.Cond.privateMethod ({ cls := "GaugeBlocksModel", name := "ofBlock", desc := "(II)I" } : Jvm.MethodName)) ∈ lw_tbl := lw_at lw_m10 35 rfl
theorem q2271 : (Jvm.Cond.instanceMethod ({ cls := "GaugeBlocksModel", name := "ofBlock", desc := "(II)I" } : Jvm.MethodName)) ∈ lw_all := lw_g (lw_at lw_m10 36 rfl) rfl
theorem q2272 : (Jvm.Cond.code ({ cls := "GaugeBlocksModel", name := "ofBlock", desc := "(II)I" } : Jvm.MethodName) prog_11_method_58_code (3 : Nat) (Option.some Jvm.ClassFile.FieldType.int)) ∈ lw_all := lw_g (lw_at lw_m10 37 rfl) rfl
theorem q2273 : (Jvm.Cond.methodLink "GaugeBlocksModel" (181 : Nat) ({ cls := "GaugeBlocksModel", name := "trueLength", desc := "(II)I" } : Jvm.MethodName)) ∈ lw_all := lw_g (lw_at lw_m10 38 rfl) rfl
theorem q2274 : (Jvm.Cond.privateMethod ({ cls := "GaugeBlocksModel", name := "trueLength", desc := "(II)I" } : Jvm.MethodName)) ∈ lw_tbl := lw_at lw_m10 39 rfl
theorem q2275 : (Jvm.Cond.instanceMethod ({ cls := "GaugeBlocksModel", name := "trueLength", desc := "(II)I" } : Jvm.MethodName)) ∈ lw_all := lw_g (lw_at lw_m10 40 rfl) rfl
theorem q2276 : (Jvm.Cond.code ({ cls := "GaugeBlocksModel", name := "trueLength", desc := "(II)I" } : Jvm.MethodName) prog_11_method_18_code (4 : Nat) (Option.some Jvm.ClassFile.FieldType.int)) ∈ lw_all := lw_g (lw_at lw_m10 41 rfl) rfl
theorem q2278 : (Jvm.Cond.instanceMethod ({ cls := "GaugeBlocksModel", name := "stackOf", desc := "(II)I" } : Jvm.MethodName)) ∈ lw_all := lw_g (lw_at lw_m10 43 rfl) rfl
theorem q2279 : (Jvm.Cond.selects "GaugeBlocksModel" ({ cls := "GaugeBlocksModel", name := "stackOf", desc := "(II)I" } : Jvm.MethodName) ({ cls := "GaugeBlocksModel", name := "stackOf", desc := "(II)I" } : Jvm.MethodName)) ∈ lw_all := lw_g (lw_at lw_m10 44 rfl) rfl
theorem q2280 : (Jvm.Cond.code ({ cls := "GaugeBlocksModel", name := "stackOf", desc := "(II)I" } : Jvm.MethodName) prog_11_method_63_code (3 : Nat) (Option.some Jvm.ClassFile.FieldType.int)) ∈ lw_all := lw_g (lw_at lw_m10 45 rfl) rfl
theorem q2281 : (Jvm.Cond.methodLink "GaugeBlocksModel" (193 : Nat) ({ cls := "GaugeBlocksModel", name := "ofStack", desc := "(II)I" } : Jvm.MethodName)) ∈ lw_all := lw_g (lw_at lw_m10 46 rfl) rfl
theorem q2282 : (Jvm.Cond.privateMethod ({ cls := "GaugeBlocksModel", name := "ofStack", desc := "(II)I" } : Jvm.MethodName)) ∈ lw_tbl := lw_at lw_m10 47 rfl
theorem q2283 : (Jvm.Cond.instanceMethod ({ cls := "GaugeBlocksModel", name := "ofStack", desc := "(II)I" } : Jvm.MethodName)) ∈ lw_all := lw_g (lw_at lw_m10 48 rfl) rfl
theorem q2284 : (Jvm.Cond.code ({ cls := "GaugeBlocksModel", name := "ofStack", desc := "(II)I" } : Jvm.MethodName) prog_11_method_62_code (3 : Nat) (Option.some Jvm.ClassFile.FieldType.int)) ∈ lw_all := lw_g (lw_at lw_m10 49 rfl) rfl
theorem q2285 : (Jvm.Cond.methodLink "GaugeBlocksModel" (187 : Nat) ({ cls := "GaugeBlocksModel", name := "together", desc := "(II)I" } : Jvm.MethodName)) ∈ lw_all := lw_g (lw_at lw_m10 50 rfl) rfl
theorem q2286 : (Jvm.Cond.privateMethod ({ cls := "GaugeBlocksModel", name := "together", desc := "(II)I" } : Jvm.MethodName)) ∈ lw_tbl := lw_at lw_m10 51 rfl
theorem q2287 : (Jvm.Cond.instanceMethod ({ cls := "GaugeBlocksModel", name := "together", desc := "(II)I" } : Jvm.MethodName)) ∈ lw_all := lw_g (lw_at lw_m10 52 rfl) rfl
theorem q2288 : (Jvm.Cond.code ({ cls := "GaugeBlocksModel", name := "together", desc := "(II)I" } : Jvm.MethodName) prog_11_method_61_code (6 : Nat) (Option.some Jvm.ClassFile.FieldType.int)) ∈ lw_all := lw_g (lw_at lw_m10 53 rfl) rfl
theorem q2289 : (Jvm.Cond.methodLink "GaugeBlocksModel" (190 : Nat) ({ cls := "GaugeBlocksModel", name := "lengthBehind", desc := "(II)I" } : Jvm.MethodName)) ∈ lw_all := lw_g (lw_at lw_m10 54 rfl) rfl
theorem q2290 : (Jvm.Cond.privateMethod ({ cls := "GaugeBlocksModel", name := "lengthBehind", desc := "(II)I" } : Jvm.MethodName)) ∈ lw_tbl := lw_at lw_m10 55 rfl
theorem q2291 : (Jvm.Cond.instanceMethod ({ cls := "GaugeBlocksModel", name := "lengthBehind", desc := "(II)I" } : Jvm.MethodName)) ∈ lw_all := lw_g (lw_at lw_m10 56 rfl) rfl
theorem q2292 : (Jvm.Cond.code ({ cls := "GaugeBlocksModel", name := "lengthBehind", desc := "(II)I" } : Jvm.MethodName) prog_11_method_60_code (7 : Nat) (Option.some Jvm.ClassFile.FieldType.int)) ∈ lw_all := lw_g (lw_at lw_m10 57 rfl) rfl
theorem q2294 : (Jvm.Cond.instanceMethod ({ cls := "GaugeBlocksModel", name := "ranked", desc := "(II)I" } : Jvm.MethodName)) ∈ lw_all := lw_g (lw_at lw_m10 59 rfl) rfl
theorem q2295 : (Jvm.Cond.selects "GaugeBlocksModel" ({ cls := "GaugeBlocksModel", name := "ranked", desc := "(II)I" } : Jvm.MethodName) ({ cls := "GaugeBlocksModel", name := "ranked", desc := "(II)I" } : Jvm.MethodName)) ∈ lw_all := lw_g (lw_at lw_m10 60 rfl) rfl
theorem q2296 : (Jvm.Cond.code ({ cls := "GaugeBlocksModel", name := "ranked", desc := "(II)I" } : Jvm.MethodName) prog_11_method_66_code (3 : Nat) (Option.some Jvm.ClassFile.FieldType.int)) ∈ lw_all := lw_g (lw_at lw_m10 61 rfl) rfl
theorem q2297 : (Jvm.Cond.methodLink "GaugeBlocksModel" (199 : Nat) ({ cls := "GaugeBlocksModel", name := "blockOfRank", desc := "(II)I" } : Jvm.MethodName)) ∈ lw_all := lw_g (lw_at lw_m10 62 rfl) rfl
theorem q2298 : (Jvm.Cond.privateMethod ({ cls := "GaugeBlocksModel", name := "blockOfRank", desc := "(II)I" } : Jvm.MethodName)) ∈ lw_tbl := lw_at lw_m10 63 rfl
theorem q2299 : (Jvm.Cond.instanceMethod ({ cls := "GaugeBlocksModel", name := "blockOfRank", desc := "(II)I" } : Jvm.MethodName)) ∈ lw_all := lw_g (lw_at lw_m10 64 rfl) rfl
theorem q2300 : (Jvm.Cond.code ({ cls := "GaugeBlocksModel", name := "blockOfRank", desc := "(II)I" } : Jvm.MethodName) prog_11_method_65_code (8 : Nat) (Option.some Jvm.ClassFile.FieldType.int)) ∈ lw_all := lw_g (lw_at lw_m10 65 rfl) rfl
theorem q2301 : (Jvm.Cond.methodLink "GaugeBlocksModel" (196 : Nat) ({ cls := "GaugeBlocksModel", name := "keyOf", desc := "(II)I" } : Jvm.MethodName)) ∈ lw_all := lw_g (lw_at lw_m10 66 rfl) rfl
theorem q2302 : (Jvm.Cond.privateMethod ({ cls := "GaugeBlocksModel", name := "keyOf", desc := "(II)I" } : Jvm.MethodName)) ∈ lw_tbl := lw_at lw_m10 67 rfl
theorem q2303 : (Jvm.Cond.instanceMethod ({ cls := "GaugeBlocksModel", name := "keyOf", desc := "(II)I" } : Jvm.MethodName)) ∈ lw_all := lw_g (lw_at lw_m10 68 rfl) rfl
theorem q2304 : (Jvm.Cond.code ({ cls := "GaugeBlocksModel", name := "keyOf", desc := "(II)I" } : Jvm.MethodName) prog_11_method_64_code (3 : Nat) (Option.some Jvm.ClassFile.FieldType.int)) ∈ lw_all := lw_g (lw_at lw_m10 69 rfl) rfl
theorem q2306 : (Jvm.Cond.instanceMethod ({ cls := "GaugeBlocksModel", name := "lengths", desc := "(I)I" } : Jvm.MethodName)) ∈ lw_all := lw_g (lw_at lw_m10 71 rfl) rfl
theorem q2307 : (Jvm.Cond.selects "GaugeBlocksModel" ({ cls := "GaugeBlocksModel", name := "lengths", desc := "(I)I" } : Jvm.MethodName) ({ cls := "GaugeBlocksModel", name := "lengths", desc := "(I)I" } : Jvm.MethodName)) ∈ lw_all := lw_g (lw_at lw_m10 72 rfl) rfl
theorem q2308 : (Jvm.Cond.code ({ cls := "GaugeBlocksModel", name := "lengths", desc := "(I)I" } : Jvm.MethodName) prog_11_method_69_code (2 : Nat) (Option.some Jvm.ClassFile.FieldType.int)) ∈ lw_all := lw_g (lw_at lw_m10 73 rfl) rfl
theorem q2309 : (Jvm.Cond.methodLink "GaugeBlocksModel" (205 : Nat) ({ cls := "GaugeBlocksModel", name := "lengthOfRank", desc := "(I)I" } : Jvm.MethodName)) ∈ lw_all := lw_g (lw_at lw_m10 74 rfl) rfl
theorem q2310 : (Jvm.Cond.privateMethod ({ cls := "GaugeBlocksModel", name := "lengthOfRank", desc := "(I)I" } : Jvm.MethodName)) ∈ lw_tbl := lw_at lw_m10 75 rfl
theorem q2311 : (Jvm.Cond.instanceMethod ({ cls := "GaugeBlocksModel", name := "lengthOfRank", desc := "(I)I" } : Jvm.MethodName)) ∈ lw_all := lw_g (lw_at lw_m10 76 rfl) rfl
theorem q2312 : (Jvm.Cond.code ({ cls := "GaugeBlocksModel", name := "lengthOfRank", desc := "(I)I" } : Jvm.MethodName) prog_11_method_68_code (4 : Nat) (Option.some Jvm.ClassFile.FieldType.int)) ∈ lw_all := lw_g (lw_at lw_m10 77 rfl) rfl
theorem q2313 : (Jvm.Cond.methodLink "GaugeBlocksModel" (202 : Nat) ({ cls := "GaugeBlocksModel", name := "lengthBeyond", desc := "(I)I" } : Jvm.MethodName)) ∈ lw_all := lw_g (lw_at lw_m10 78 rfl) rfl
theorem q2314 : (Jvm.Cond.privateMethod ({ cls := "GaugeBlocksModel", name := "lengthBeyond", desc := "(I)I" } : Jvm.MethodName)) ∈ lw_tbl := lw_at lw_m10 79 rfl
theorem q2315 : (Jvm.Cond.instanceMethod ({ cls := "GaugeBlocksModel", name := "lengthBeyond", desc := "(I)I" } : Jvm.MethodName)) ∈ lw_all := lw_g (lw_at lw_m10 80 rfl) rfl
theorem q2316 : (Jvm.Cond.code ({ cls := "GaugeBlocksModel", name := "lengthBeyond", desc := "(I)I" } : Jvm.MethodName) prog_11_method_67_code (5 : Nat) (Option.some Jvm.ClassFile.FieldType.int)) ∈ lw_all := lw_g (lw_at lw_m10 81 rfl) rfl
theorem q2318 : (Jvm.Cond.instanceMethod ({ cls := "GaugeBlocksModel", name := "count", desc := "(I)I" } : Jvm.MethodName)) ∈ lw_all := lw_g (lw_at lw_m10 83 rfl) rfl
theorem q2319 : (Jvm.Cond.selects "GaugeBlocksModel" ({ cls := "GaugeBlocksModel", name := "count", desc := "(I)I" } : Jvm.MethodName) ({ cls := "GaugeBlocksModel", name := "count", desc := "(I)I" } : Jvm.MethodName)) ∈ lw_all := lw_g (lw_at lw_m10 84 rfl) rfl
theorem q2320 : (Jvm.Cond.code ({ cls := "GaugeBlocksModel", name := "count", desc := "(I)I" } : Jvm.MethodName) prog_11_method_74_code (2 : Nat) (Option.some Jvm.ClassFile.FieldType.int)) ∈ lw_all := lw_g (lw_at lw_m10 85 rfl) rfl
theorem q2321 : (Jvm.Cond.methodLink "GaugeBlocksModel" (218 : Nat) ({ cls := "GaugeBlocksModel", name := "numberOf", desc := "(I)I" } : Jvm.MethodName)) ∈ lw_all := lw_g (lw_at lw_m10 86 rfl) rfl
theorem q2322 : (Jvm.Cond.privateMethod ({ cls := "GaugeBlocksModel", name := "numberOf", desc := "(I)I" } : Jvm.MethodName)) ∈ lw_tbl := lw_at lw_m10 87 rfl
theorem q2323 : (Jvm.Cond.instanceMethod ({ cls := "GaugeBlocksModel", name := "numberOf", desc := "(I)I" } : Jvm.MethodName)) ∈ lw_all := lw_g (lw_at lw_m10 88 rfl) rfl
theorem q2324 : (Jvm.Cond.code ({ cls := "GaugeBlocksModel", name := "numberOf", desc := "(I)I" } : Jvm.MethodName) prog_11_method_73_code (2 : Nat) (Option.some Jvm.ClassFile.FieldType.int)) ∈ lw_all := lw_g (lw_at lw_m10 89 rfl) rfl
theorem q2325 : (Jvm.Cond.methodLink "GaugeBlocksModel" (208 : Nat) ({ cls := "GaugeBlocksModel", name := "freeSet", desc := "()I" } : Jvm.MethodName)) ∈ lw_all := lw_g (lw_at lw_m10 90 rfl) rfl
theorem q2326 : (Jvm.Cond.privateMethod ({ cls := "GaugeBlocksModel", name := "freeSet", desc := "()I" } : Jvm.MethodName)) ∈ lw_tbl := lw_at lw_m10 91 rfl
theorem q2327 : (Jvm.Cond.instanceMethod ({ cls := "GaugeBlocksModel", name := "freeSet", desc := "()I" } : Jvm.MethodName)) ∈ lw_all := lw_g (lw_at lw_m10 92 rfl) rfl
theorem q2328 : (Jvm.Cond.code ({ cls := "GaugeBlocksModel", name := "freeSet", desc := "()I" } : Jvm.MethodName) prog_11_method_70_code (1 : Nat) (Option.some Jvm.ClassFile.FieldType.int)) ∈ lw_all := lw_g (lw_at lw_m10 93 rfl) rfl
theorem q2329 : (Jvm.Cond.methodLink "GaugeBlocksModel" (212 : Nat) ({ cls := "GaugeBlocksModel", name := "wearOfAll", desc := "()I" } : Jvm.MethodName)) ∈ lw_all := lw_g (lw_at lw_m10 94 rfl) rfl
theorem q2330 : (Jvm.Cond.privateMethod ({ cls := "GaugeBlocksModel", name := "wearOfAll", desc := "()I" } : Jvm.MethodName)) ∈ lw_tbl := lw_at lw_m10 95 rfl
theorem q2331 : (Jvm.Cond.instanceMethod ({ cls := "GaugeBlocksModel", name := "wearOfAll", desc := "()I" } : Jvm.MethodName)) ∈ lw_all := lw_g (lw_at lw_m10 96 rfl) rfl
theorem q2332 : (Jvm.Cond.code ({ cls := "GaugeBlocksModel", name := "wearOfAll", desc := "()I" } : Jvm.MethodName) prog_11_method_71_code (3 : Nat) (Option.some Jvm.ClassFile.FieldType.int)) ∈ lw_all := lw_g (lw_at lw_m10 97 rfl) rfl
theorem q2333 : (Jvm.Cond.methodLink "GaugeBlocksModel" (215 : Nat) ({ cls := "GaugeBlocksModel", name := "worstSet", desc := "()I" } : Jvm.MethodName)) ∈ lw_all := lw_g (lw_at lw_m10 98 rfl) rfl
theorem q2334 : (Jvm.Cond.privateMethod ({ cls := "GaugeBlocksModel", name := "worstSet", desc := "()I" } : Jvm.MethodName)) ∈ lw_tbl := lw_at lw_m10 99 rfl
theorem q2335 : (Jvm.Cond.instanceMethod ({ cls := "GaugeBlocksModel", name := "worstSet", desc := "()I" } : Jvm.MethodName)) ∈ lw_all := lw_g (lw_at lw_m10 100 rfl) rfl
theorem q2336 : (Jvm.Cond.code ({ cls := "GaugeBlocksModel", name := "worstSet", desc := "()I" } : Jvm.MethodName) prog_11_method_72_code (3 : Nat) (Option.some Jvm.ClassFile.FieldType.int)) ∈ lw_all := lw_g (lw_at lw_m10 101 rfl) rfl
theorem q2338 : (Jvm.Cond.instanceMethod ({ cls := "GaugeBlocksModel", name := "setting", desc := "(I)I" } : Jvm.MethodName)) ∈ lw_all := lw_g (lw_at lw_m10 103 rfl) rfl
theorem q2339 : (Jvm.Cond.selects "GaugeBlocksModel" ({ cls := "GaugeBlocksModel", name := "setting", desc := "(I)I" } : Jvm.MethodName) ({ cls := "GaugeBlocksModel", name := "setting", desc := "(I)I" } : Jvm.MethodName)) ∈ lw_all := lw_g (lw_at lw_m10 104 rfl) rfl
theorem q2340 : (Jvm.Cond.code ({ cls := "GaugeBlocksModel", name := "setting", desc := "(I)I" } : Jvm.MethodName) prog_11_method_75_code (2 : Nat) (Option.some Jvm.ClassFile.FieldType.int)) ∈ lw_all := lw_g (lw_at lw_m10 105 rfl) rfl
theorem q2342 : (Jvm.Cond.instanceMethod ({ cls := "GaugeBlocksModel", name := "refusal", desc := "(II)I" } : Jvm.MethodName)) ∈ lw_all := lw_g (lw_at lw_m10 107 rfl) rfl
theorem q2343 : (Jvm.Cond.selects "GaugeBlocksModel" ({ cls := "GaugeBlocksModel", name := "refusal", desc := "(II)I" } : Jvm.MethodName) ({ cls := "GaugeBlocksModel", name := "refusal", desc := "(II)I" } : Jvm.MethodName)) ∈ lw_all := lw_g (lw_at lw_m10 108 rfl) rfl
theorem q2344 : (Jvm.Cond.code ({ cls := "GaugeBlocksModel", name := "refusal", desc := "(II)I" } : Jvm.MethodName) prog_11_method_76_code (3 : Nat) (Option.some Jvm.ClassFile.FieldType.int)) ∈ lw_all := lw_g (lw_at lw_m10 109 rfl) rfl
theorem q2346 : (Jvm.Cond.instanceMethod ({ cls := "GaugeBlocksModel", name := "fewest", desc := "(II)I" } : Jvm.MethodName)) ∈ lw_all := lw_g (lw_at lw_m10 111 rfl) rfl
theorem q2347 : (Jvm.Cond.selects "GaugeBlocksModel" ({ cls := "GaugeBlocksModel", name := "fewest", desc := "(II)I" } : Jvm.MethodName) ({ cls := "GaugeBlocksModel", name := "fewest", desc := "(II)I" } : Jvm.MethodName)) ∈ lw_all := lw_g (lw_at lw_m10 112 rfl) rfl
theorem q2348 : (Jvm.Cond.code ({ cls := "GaugeBlocksModel", name := "fewest", desc := "(II)I" } : Jvm.MethodName) prog_11_method_78_code (3 : Nat) (Option.some Jvm.ClassFile.FieldType.int)) ∈ lw_all := lw_g (lw_at lw_m10 113 rfl) rfl
theorem q2349 : (Jvm.Cond.methodLink "GaugeBlocksModel" (224 : Nat) ({ cls := "GaugeBlocksModel", name := "fewestOf", desc := "(II)I" } : Jvm.MethodName)) ∈ lw_all := lw_g (lw_at lw_m10 114 rfl) rfl
theorem q2350 : (Jvm.Cond.privateMethod ({ cls := "GaugeBlocksModel", name := "fewestOf", desc := "(II)I" } : Jvm.MethodName)) ∈ lw_tbl := lw_at lw_m10 115 rfl
theorem q2351 : (Jvm.Cond.instanceMethod ({ cls := "GaugeBlocksModel", name := "fewestOf", desc := "(II)I" } : Jvm.MethodName)) ∈ lw_all := lw_g (lw_at lw_m10 116 rfl) rfl
theorem q2352 : (Jvm.Cond.code ({ cls := "GaugeBlocksModel", name := "fewestOf", desc := "(II)I" } : Jvm.MethodName) prog_11_method_77_code (4 : Nat) (Option.some Jvm.ClassFile.FieldType.int)) ∈ lw_all := lw_g (lw_at lw_m10 117 rfl) rfl
theorem q2353 : (Jvm.Cond.methodLink "GaugeBlocksModel" (221 : Nat) ({ cls := "GaugeBlocksModel", name := "ones", desc := "(I)I" } : Jvm.MethodName)) ∈ lw_all := lw_g (lw_at lw_m10 118 rfl) rfl
theorem q2354 : (Jvm.Cond.static ({ cls := "GaugeBlocksModel", name := "ones", desc := "(I)I" } : Jvm.MethodName)) ∈ lw_all := lw_g (lw_at lw_m10 119 rfl) rfl
theorem q2355 : (Jvm.Cond.code ({ cls := "GaugeBlocksModel", name := "ones", desc := "(I)I" } : Jvm.MethodName) prog_11_method_35_code (3 : Nat) (Option.some Jvm.ClassFile.FieldType.int)) ∈ lw_all := lw_g (lw_at lw_m10 120 rfl) rfl
theorem q2357 : (Jvm.Cond.instanceMethod ({ cls := "GaugeBlocksModel", name := "oldWay", desc := "(II)I" } : Jvm.MethodName)) ∈ lw_all := lw_g (lw_at lw_m10 122 rfl) rfl
theorem q2358 : (Jvm.Cond.selects "GaugeBlocksModel" ({ cls := "GaugeBlocksModel", name := "oldWay", desc := "(II)I" } : Jvm.MethodName) ({ cls := "GaugeBlocksModel", name := "oldWay", desc := "(II)I" } : Jvm.MethodName)) ∈ lw_all := lw_g (lw_at lw_m10 123 rfl) rfl
theorem q2359 : (Jvm.Cond.code ({ cls := "GaugeBlocksModel", name := "oldWay", desc := "(II)I" } : Jvm.MethodName) prog_11_method_81_code (3 : Nat) (Option.some Jvm.ClassFile.FieldType.int)) ∈ lw_all := lw_g (lw_at lw_m10 124 rfl) rfl
theorem q2360 : (Jvm.Cond.methodLink "GaugeBlocksModel" (236 : Nat) ({ cls := "GaugeBlocksModel", name := "oldOf", desc := "(II)I" } : Jvm.MethodName)) ∈ lw_all := lw_g (lw_at lw_m10 125 rfl) rfl
theorem q2361 : (Jvm.Cond.privateMethod ({ cls := "GaugeBlocksModel", name := "oldOf", desc := "(II)I" } : Jvm.MethodName)) ∈ lw_tbl := lw_at lw_m10 126 rfl
theorem q2362 : (Jvm.Cond.instanceMethod ({ cls := "GaugeBlocksModel", name := "oldOf", desc := "(II)I" } : Jvm.MethodName)) ∈ lw_all := lw_g (lw_at lw_m10 127 rfl) rfl
theorem q2363 : (Jvm.Cond.code ({ cls := "GaugeBlocksModel", name := "oldOf", desc := "(II)I" } : Jvm.MethodName) prog_11_method_80_code (6 : Nat) (Option.some Jvm.ClassFile.FieldType.int)) ∈ lw_all := lw_g (lw_at lw_m10 128 rfl) rfl
theorem q2364 : (Jvm.Cond.methodLink "GaugeBlocksModel" (233 : Nat) ({ cls := "GaugeBlocksModel", name := "nextOld", desc := "()I" } : Jvm.MethodName)) ∈ lw_all := lw_g (lw_at lw_m10 129 rfl) rfl
theorem q2365 : (Jvm.Cond.privateMethod ({ cls := "GaugeBlocksModel", name := "nextOld", desc := "()I" } : Jvm.MethodName)) ∈ lw_tbl := lw_at lw_m10 130 rfl
theorem q2366 : (Jvm.Cond.instanceMethod ({ cls := "GaugeBlocksModel", name := "nextOld", desc := "()I" } : Jvm.MethodName)) ∈ lw_all := lw_g (lw_at lw_m10 131 rfl) rfl
theorem q2367 : (Jvm.Cond.code ({ cls := "GaugeBlocksModel", name := "nextOld", desc := "()I" } : Jvm.MethodName) prog_11_method_79_code (6 : Nat) (Option.some Jvm.ClassFile.FieldType.int)) ∈ lw_all := lw_g (lw_at lw_m10 132 rfl) rfl
theorem q2369 : (Jvm.Cond.instanceMethod ({ cls := "GaugeBlocksModel", name := "nearest", desc := "(I)I" } : Jvm.MethodName)) ∈ lw_all := lw_g (lw_at lw_m10 134 rfl) rfl
theorem q2370 : (Jvm.Cond.selects "GaugeBlocksModel" ({ cls := "GaugeBlocksModel", name := "nearest", desc := "(I)I" } : Jvm.MethodName) ({ cls := "GaugeBlocksModel", name := "nearest", desc := "(I)I" } : Jvm.MethodName)) ∈ lw_all := lw_g (lw_at lw_m10 135 rfl) rfl
theorem q2371 : (Jvm.Cond.code ({ cls := "GaugeBlocksModel", name := "nearest", desc := "(I)I" } : Jvm.MethodName) prog_11_method_84_code (2 : Nat) (Option.some Jvm.ClassFile.FieldType.int)) ∈ lw_all := lw_g (lw_at lw_m10 136 rfl) rfl
theorem q2372 : (Jvm.Cond.methodLink "GaugeBlocksModel" (243 : Nat) ({ cls := "GaugeBlocksModel", name := "nearestTo", desc := "(I)I" } : Jvm.MethodName)) ∈ lw_all := lw_g (lw_at lw_m10 137 rfl) rfl
theorem q2373 : (Jvm.Cond.privateMethod ({ cls := "GaugeBlocksModel", name := "nearestTo", desc := "(I)I" } : Jvm.MethodName)) ∈ lw_tbl := lw_at lw_m10 138 rfl
theorem q2374 : (Jvm.Cond.instanceMethod ({ cls := "GaugeBlocksModel", name := "nearestTo", desc := "(I)I" } : Jvm.MethodName)) ∈ lw_all := lw_g (lw_at lw_m10 139 rfl) rfl
theorem q2375 : (Jvm.Cond.code ({ cls := "GaugeBlocksModel", name := "nearestTo", desc := "(I)I" } : Jvm.MethodName) prog_11_method_83_code (5 : Nat) (Option.some Jvm.ClassFile.FieldType.int)) ∈ lw_all := lw_g (lw_at lw_m10 140 rfl) rfl
theorem q2376 : (Jvm.Cond.methodLink "GaugeBlocksModel" (239 : Nat) ({ cls := "GaugeBlocksModel", name := "nearer", desc := "(III)I" } : Jvm.MethodName)) ∈ lw_all := lw_g (lw_at lw_m10 141 rfl) rfl
theorem q2377 : (Jvm.Cond.static ({ cls := "GaugeBlocksModel", name := "nearer", desc := "(III)I" } : Jvm.MethodName)) ∈ lw_all := lw_g (lw_at lw_m10 142 rfl) rfl
theorem q2378 : (Jvm.Cond.code ({ cls := "GaugeBlocksModel", name := "nearer", desc := "(III)I" } : Jvm.MethodName) prog_11_method_82_code (4 : Nat) (Option.some Jvm.ClassFile.FieldType.int)) ∈ lw_all := lw_g (lw_at lw_m10 143 rfl) rfl
theorem q2380 : (Jvm.Cond.instanceMethod ({ cls := "GaugeBlocksModel", name := "coolIn", desc := "(I)I" } : Jvm.MethodName)) ∈ lw_all := lw_g (lw_at lw_m10 145 rfl) rfl
theorem q2381 : (Jvm.Cond.selects "GaugeBlocksModel" ({ cls := "GaugeBlocksModel", name := "coolIn", desc := "(I)I" } : Jvm.MethodName) ({ cls := "GaugeBlocksModel", name := "coolIn", desc := "(I)I" } : Jvm.MethodName)) ∈ lw_all := lw_g (lw_at lw_m10 146 rfl) rfl
theorem q2382 : (Jvm.Cond.code ({ cls := "GaugeBlocksModel", name := "coolIn", desc := "(I)I" } : Jvm.MethodName) prog_11_method_85_code (4 : Nat) (Option.some Jvm.ClassFile.FieldType.int)) ∈ lw_all := lw_g (lw_at lw_m10 147 rfl) rfl
theorem q2384 : (Jvm.Cond.instanceMethod ({ cls := "GaugeBlocksModel", name := "lengthIn", desc := "(II)I" } : Jvm.MethodName)) ∈ lw_all := lw_g (lw_at lw_m10 149 rfl) rfl
theorem q2385 : (Jvm.Cond.selects "GaugeBlocksModel" ({ cls := "GaugeBlocksModel", name := "lengthIn", desc := "(II)I" } : Jvm.MethodName) ({ cls := "GaugeBlocksModel", name := "lengthIn", desc := "(II)I" } : Jvm.MethodName)) ∈ lw_all := lw_g (lw_at lw_m10 150 rfl) rfl
theorem q2386 : (Jvm.Cond.code ({ cls := "GaugeBlocksModel", name := "lengthIn", desc := "(II)I" } : Jvm.MethodName) prog_11_method_86_code (3 : Nat) (Option.some Jvm.ClassFile.FieldType.int)) ∈ lw_all := lw_g (lw_at lw_m10 151 rfl) rfl
theorem q2388 : (Jvm.Cond.instanceMethod ({ cls := "GaugeBlocksModel", name := "meanError", desc := "()D" } : Jvm.MethodName)) ∈ lw_all := lw_g (lw_at lw_m10 153 rfl) rfl
theorem q2389 : (Jvm.Cond.selects "GaugeBlocksModel" ({ cls := "GaugeBlocksModel", name := "meanError", desc := "()D" } : Jvm.MethodName) ({ cls := "GaugeBlocksModel", name := "meanError", desc := "()D" } : Jvm.MethodName)) ∈ lw_all := lw_g (lw_at lw_m10 154 rfl) rfl
theorem q2390 : (Jvm.Cond.code ({ cls := "GaugeBlocksModel", name := "meanError", desc := "()D" } : Jvm.MethodName) prog_11_method_87_code (3 : Nat) (Option.some Jvm.ClassFile.FieldType.double)) ∈ lw_all := lw_g (lw_at lw_m10 155 rfl) rfl
theorem q2416 : (Jvm.Cond.castable "GaugeBlocksModel" "java/lang/Object") ∈ lw_tbl := lw_at lw_m10 181 rfl
theorem in_X3 : ∀ w ∈ wsX30, w ∈ lw_all := lw_in wsX30 [2016, 2018, 2020, 2022, 2024, 2026, 2028, 2030, 2032, 2034, 2036, 2038, 2040, 2042, 2044, 2046, 2048, 2050] (by decide +kernel) (by decide +kernel)

