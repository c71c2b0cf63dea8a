/-! GaugeBlocks$Reader -/
set_option maxRecDepth 100000
def RX6 : String := "GaugeBlocks$Reader"
def TX6 : u_T := fun k => match k with
  | 0 => ("GaugeBlocks$Reader", "place", "I", false)
  | _ => ("GaugeBlocks$Reader", "this$0", "LGaugeBlocks;", true)
def tyX6 : Nat → FieldType := fun k => match k with
  | 0 => .int
  | _ => .object "GaugeBlocks"
abbrev wsX60 : List Cond := u_ws RX6 TX6 2
theorem nmX6 : ∀ a, a < 2 → ∀ b, b < 2 → a ≠ b → (TX6 a).2.1 ≠ (TX6 b).2.1 := by decide +kernel
theorem tyX6_ok : ∀ k, k < 2 → parseFieldDescriptor (TX6 k).2.2.1 = some (tyX6 k) := by decide +kernel
abbrev cX6_init : ByteArray := prog_7_method_1_code
def yX6_init : MethodName := ⟨RX6, "<init>", "(LGaugeBlocks;)V"⟩
def dkwX6_init_0 : List UInt8 := [42, 43, 181, 0, 3, 42, 183, 0, 9, 177]
abbrev dktX6_init_0 : List UInt8 := dkwX6_init_0 ++ []
theorem dksX6_init_0 : cX6_init.data.toList.drop 0 = dktX6_init_0 := by decide +kernel
theorem dX6_init_0 : decode cX6_init 0 = .ok (.aload_n 0, 1) := dk_42 (dk_at dksX6_init_0 0 rfl rfl)
theorem dX6_init_1 : decode cX6_init 1 = .ok (.aload_n 1, 1) := dk_43 (dk_at dksX6_init_0 1 rfl rfl)
theorem dX6_init_2 : decode cX6_init 2 = .ok (.putfield 3, 3) := dk_181 0 3 (dk_at dksX6_init_0 2 rfl rfl)
theorem dX6_init_5 : decode cX6_init 5 = .ok (.aload_n 0, 1) := dk_42 (dk_at dksX6_init_0 5 rfl rfl)
theorem dX6_init_6 : decode cX6_init 6 = .ok (.invokespecial 9, 3) := dk_183 0 9 (dk_at dksX6_init_0 6 rfl rfl)
theorem dX6_init_9 : decode cX6_init 9 = .ok (.return_, 1) := dk_177 (dk_at dksX6_init_0 9 rfl rfl)
abbrev cX6_commands : ByteArray := prog_7_method_8_code
def yX6_commands : MethodName := ⟨RX6, "commands", "()Ljava/util/ArrayList;"⟩
def dkwX6_commands_2 : List UInt8 := [182, 0, 74, 87, 167, 255, 224, 43, 176]
abbrev dktX6_commands_2 : List UInt8 := dkwX6_commands_2 ++ []
def dkwX6_commands_1 : List UInt8 := [180, 0, 3, 180, 0, 19, 182, 0, 23, 162, 0, 21, 42, 16, 59, 182, 0, 63, 43, 42, 182, 0, 70]
abbrev dktX6_commands_1 : List UInt8 := dkwX6_commands_1 ++ dktX6_commands_2
def dkwX6_commands_0 : List UInt8 := [187, 0, 67, 89, 183, 0, 69, 76, 43, 42, 182, 0, 70, 182, 0, 74, 87, 42, 180, 0, 15, 42]
abbrev dktX6_commands_0 : List UInt8 := dkwX6_commands_0 ++ dktX6_commands_1
theorem dksX6_commands_0 : cX6_commands.data.toList.drop 0 = dktX6_commands_0 := by decide +kernel
theorem dksX6_commands_1 : cX6_commands.data.toList.drop 22 = dktX6_commands_1 := dk_seg dksX6_commands_0 22 rfl rfl
theorem dksX6_commands_2 : cX6_commands.data.toList.drop 45 = dktX6_commands_2 := dk_seg dksX6_commands_1 23 rfl rfl
theorem dX6_commands_0 : decode cX6_commands 0 = .ok (.new 67, 3) := dk_187 0 67 (dk_at dksX6_commands_0 0 rfl rfl)
theorem dX6_commands_3 : decode cX6_commands 3 = .ok (.dup, 1) := dk_89 (dk_at dksX6_commands_0 3 rfl rfl)
theorem dX6_commands_4 : decode cX6_commands 4 = .ok (.invokespecial 69, 3) := dk_183 0 69 (dk_at dksX6_commands_0 4 rfl rfl)
theorem dX6_commands_7 : decode cX6_commands 7 = .ok (.astore_n 1, 1) := dk_76 (dk_at dksX6_commands_0 7 rfl rfl)
theorem dX6_commands_8 : decode cX6_commands 8 = .ok (.aload_n 1, 1) := dk_43 (dk_at dksX6_commands_0 8 rfl rfl)
theorem dX6_commands_9 : decode cX6_commands 9 = .ok (.aload_n 0, 1) := dk_42 (dk_at dksX6_commands_0 9 rfl rfl)
theorem dX6_commands_10 : decode cX6_commands 10 = .ok (.invokevirtual 70, 3) := dk_182 0 70 (dk_at dksX6_commands_0 10 rfl rfl)
theorem dX6_commands_13 : decode cX6_commands 13 = .ok (.invokevirtual 74, 3) := dk_182 0 74 (dk_at dksX6_commands_0 13 rfl rfl)
theorem dX6_commands_16 : decode cX6_commands 16 = .ok (.pop, 1) := dk_87 (dk_at dksX6_commands_0 16 rfl rfl)
theorem dX6_commands_17 : decode cX6_commands 17 = .ok (.aload_n 0, 1) := dk_42 (dk_at dksX6_commands_0 17 rfl rfl)
theorem dX6_commands_18 : decode cX6_commands 18 = .ok (.getfield 15, 3) := dk_180 0 15 (dk_at dksX6_commands_0 18 rfl rfl)
theorem dX6_commands_21 : decode cX6_commands 21 = .ok (.aload_n 0, 1) := dk_42 (dk_at dksX6_commands_0 21 rfl rfl)
theorem dX6_commands_22 : decode cX6_commands 22 = .ok (.getfield 3, 3) := dk_180 0 3 (dk_at dksX6_commands_1 0 rfl rfl)
theorem dX6_commands_25 : decode cX6_commands 25 = .ok (.getfield 19, 3) := dk_180 0 19 (dk_at dksX6_commands_1 3 rfl rfl)
theorem dX6_commands_28 : decode cX6_commands 28 = .ok (.invokevirtual 23, 3) := dk_182 0 23 (dk_at dksX6_commands_1 6 rfl rfl)
theorem dX6_commands_31 : decode cX6_commands 31 = .ok (.if_icmp .ge 21, 3) := dk_162 0 21 (dk_at dksX6_commands_1 9 rfl rfl)
theorem dX6_commands_34 : decode cX6_commands 34 = .ok (.aload_n 0, 1) := dk_42 (dk_at dksX6_commands_1 12 rfl rfl)
theorem dX6_commands_35 : decode cX6_commands 35 = .ok (.bipush 59, 2) := dk_16 59 (dk_at dksX6_commands_1 13 rfl rfl)
theorem dX6_commands_37 : decode cX6_commands 37 = .ok (.invokevirtual 63, 3) := dk_182 0 63 (dk_at dksX6_commands_1 15 rfl rfl)
theorem dX6_commands_40 : decode cX6_commands 40 = .ok (.aload_n 1, 1) := dk_43 (dk_at dksX6_commands_1 18 rfl rfl)
theorem dX6_commands_41 : decode cX6_commands 41 = .ok (.aload_n 0, 1) := dk_42 (dk_at dksX6_commands_1 19 rfl rfl)
theorem dX6_commands_42 : decode cX6_commands 42 = .ok (.invokevirtual 70, 3) := dk_182 0 70 (dk_at dksX6_commands_1 20 rfl rfl)
theorem dX6_commands_45 : decode cX6_commands 45 = .ok (.invokevirtual 74, 3) := dk_182 0 74 (dk_at dksX6_commands_2 0 rfl rfl)
theorem dX6_commands_48 : decode cX6_commands 48 = .ok (.pop, 1) := dk_87 (dk_at dksX6_commands_2 3 rfl rfl)
theorem dX6_commands_49 : decode cX6_commands 49 = .ok (.goto (-32), 3) := dk_167 255 224 (dk_at dksX6_commands_2 4 rfl rfl)
theorem dX6_commands_52 : decode cX6_commands 52 = .ok (.aload_n 1, 1) := dk_43 (dk_at dksX6_commands_2 7 rfl rfl)
theorem dX6_commands_53 : decode cX6_commands 53 = .ok (.areturn, 1) := dk_176 (dk_at dksX6_commands_2 8 rfl rfl)
abbrev cX6_command : ByteArray := prog_7_method_7_code
def yX6_command : MethodName := ⟨RX6, "command", "()LGaugeBlocks$Command;"⟩
def dkwX6_command_10 : List UInt8 := [183, 0, 60, 176]
abbrev dktX6_command_10 : List UInt8 := dkwX6_command_10 ++ []
def dkwX6_command_9 : List UInt8 := [79, 183, 0, 60, 176, 187, 0, 53, 89, 27, 4, 188, 10, 89, 3, 42, 4, 16, 60, 182, 0, 56, 79]
abbrev dktX6_command_9 : List UInt8 := dkwX6_command_9 ++ dktX6_command_10
def dkwX6_command_8 : List UInt8 := [182, 0, 63, 187, 0, 53, 89, 27, 5, 188, 10, 89, 3, 28, 79, 89, 4, 42, 4, 16, 60, 182, 0, 56]
abbrev dktX6_command_8 : List UInt8 := dkwX6_command_8 ++ dktX6_command_9
def dkwX6_command_7 : List UInt8 := [3, 42, 3, 5, 182, 0, 56, 79, 183, 0, 60, 176, 42, 3, 16, 19, 182, 0, 56, 61, 42, 16, 44]
abbrev dktX6_command_7 : List UInt8 := dkwX6_command_7 ++ dktX6_command_8
def dkwX6_command_6 : List UInt8 := [79, 89, 4, 42, 3, 16, 19, 182, 0, 56, 79, 183, 0, 60, 176, 187, 0, 53, 89, 27, 4, 188, 10, 89]
abbrev dktX6_command_6 : List UInt8 := dkwX6_command_6 ++ dktX6_command_7
def dkwX6_command_5 : List UInt8 := [42, 3, 5, 182, 0, 56, 61, 42, 16, 43, 182, 0, 63, 187, 0, 53, 89, 27, 5, 188, 10, 89, 3, 28]
abbrev dktX6_command_5 : List UInt8 := dkwX6_command_5 ++ dktX6_command_6
def dkwX6_command_4 : List UInt8 := [187, 0, 53, 89, 27, 4, 188, 10, 89, 3, 42, 17, 1, 244, 18, 55, 182, 0, 56, 79, 183, 0, 60, 176]
abbrev dktX6_command_4 : List UInt8 := dkwX6_command_4 ++ dktX6_command_5
def dkwX6_command_3 : List UInt8 := [171, 0, 0, 0, 165, 0, 0, 0, 4, 0, 0, 0, 98, 0, 0, 0, 41, 0, 0, 0, 104, 0, 0, 0, 125, 0, 0, 0, 117, 0, 0, 0, 104, 0, 0, 0, 119, 0, 0, 0, 65]
abbrev dktX6_command_3 : List UInt8 := dkwX6_command_3 ++ dktX6_command_4
def dkwX6_command_2 : List UInt8 := [180, 0, 15, 4, 96, 181, 0, 15, 27]
abbrev dktX6_command_2 : List UInt8 := dkwX6_command_2 ++ dktX6_command_3
def dkwX6_command_1 : List UInt8 := [27, 16, 104, 159, 0, 9, 27, 16, 114, 160, 0, 7, 4, 167, 0, 4, 3, 182, 0, 42, 42, 89]
abbrev dktX6_command_1 : List UInt8 := dkwX6_command_1 ++ dktX6_command_2
def dkwX6_command_0 : List UInt8 := [42, 182, 0, 38, 60, 42, 27, 16, 98, 159, 0, 27, 27, 16, 119, 159, 0, 21, 27, 16, 117, 159, 0, 15]
abbrev dktX6_command_0 : List UInt8 := dkwX6_command_0 ++ dktX6_command_1
theorem dksX6_command_0 : cX6_command.data.toList.drop 0 = dktX6_command_0 := by decide +kernel
theorem dksX6_command_1 : cX6_command.data.toList.drop 24 = dktX6_command_1 := dk_seg dksX6_command_0 24 rfl rfl
theorem dksX6_command_2 : cX6_command.data.toList.drop 46 = dktX6_command_2 := dk_seg dksX6_command_1 22 rfl rfl
theorem dksX6_command_3 : cX6_command.data.toList.drop 55 = dktX6_command_3 := dk_seg dksX6_command_2 9 rfl rfl
theorem dksX6_command_4 : cX6_command.data.toList.drop 96 = dktX6_command_4 := dk_seg dksX6_command_3 41 rfl rfl
theorem dksX6_command_5 : cX6_command.data.toList.drop 120 = dktX6_command_5 := dk_seg dksX6_command_4 24 rfl rfl
theorem dksX6_command_6 : cX6_command.data.toList.drop 144 = dktX6_command_6 := dk_seg dksX6_command_5 24 rfl rfl
theorem dksX6_command_7 : cX6_command.data.toList.drop 168 = dktX6_command_7 := dk_seg dksX6_command_6 24 rfl rfl
theorem dksX6_command_8 : cX6_command.data.toList.drop 191 = dktX6_command_8 := dk_seg dksX6_command_7 23 rfl rfl
theorem dksX6_command_9 : cX6_command.data.toList.drop 215 = dktX6_command_9 := dk_seg dksX6_command_8 24 rfl rfl
theorem dksX6_command_10 : cX6_command.data.toList.drop 238 = dktX6_command_10 := dk_seg dksX6_command_9 23 rfl rfl
theorem dX6_command_0 : decode cX6_command 0 = .ok (.aload_n 0, 1) := dk_42 (dk_at dksX6_command_0 0 rfl rfl)
theorem dX6_command_1 : decode cX6_command 1 = .ok (.invokevirtual 38, 3) := dk_182 0 38 (dk_at dksX6_command_0 1 rfl rfl)
theorem dX6_command_4 : decode cX6_command 4 = .ok (.istore_n 1, 1) := dk_60 (dk_at dksX6_command_0 4 rfl rfl)
theorem dX6_command_5 : decode cX6_command 5 = .ok (.aload_n 0, 1) := dk_42 (dk_at dksX6_command_0 5 rfl rfl)
theorem dX6_command_6 : decode cX6_command 6 = .ok (.iload_n 1, 1) := dk_27 (dk_at dksX6_command_0 6 rfl rfl)
theorem dX6_command_7 : decode cX6_command 7 = .ok (.bipush 98, 2) := dk_16 98 (dk_at dksX6_command_0 7 rfl rfl)
theorem dX6_command_9 : decode cX6_command 9 = .ok (.if_icmp .eq 27, 3) := dk_159 0 27 (dk_at dksX6_command_0 9 rfl rfl)
theorem dX6_command_12 : decode cX6_command 12 = .ok (.iload_n 1, 1) := dk_27 (dk_at dksX6_command_0 12 rfl rfl)
theorem dX6_command_13 : decode cX6_command 13 = .ok (.bipush 119, 2) := dk_16 119 (dk_at dksX6_command_0 13 rfl rfl)
theorem dX6_command_15 : decode cX6_command 15 = .ok (.if_icmp .eq 21, 3) := dk_159 0 21 (dk_at dksX6_command_0 15 rfl rfl)
theorem dX6_command_18 : decode cX6_command 18 = .ok (.iload_n 1, 1) := dk_27 (dk_at dksX6_command_0 18 rfl rfl)
theorem dX6_command_19 : decode cX6_command 19 = .ok (.bipush 117, 2) := dk_16 117 (dk_at dksX6_command_0 19 rfl rfl)
theorem dX6_command_21 : decode cX6_command 21 = .ok (.if_icmp .eq 15, 3) := dk_159 0 15 (dk_at dksX6_command_0 21 rfl rfl)
theorem dX6_command_24 : decode cX6_command 24 = .ok (.iload_n 1, 1) := dk_27 (dk_at dksX6_command_1 0 rfl rfl)
theorem dX6_command_25 : decode cX6_command 25 = .ok (.bipush 104, 2) := dk_16 104 (dk_at dksX6_command_1 1 rfl rfl)
theorem dX6_command_27 : decode cX6_command 27 = .ok (.if_icmp .eq 9, 3) := dk_159 0 9 (dk_at dksX6_command_1 3 rfl rfl)
theorem dX6_command_30 : decode cX6_command 30 = .ok (.iload_n 1, 1) := dk_27 (dk_at dksX6_command_1 6 rfl rfl)
theorem dX6_command_31 : decode cX6_command 31 = .ok (.bipush 114, 2) := dk_16 114 (dk_at dksX6_command_1 7 rfl rfl)
theorem dX6_command_33 : decode cX6_command 33 = .ok (.if_icmp .ne 7, 3) := dk_160 0 7 (dk_at dksX6_command_1 9 rfl rfl)
theorem dX6_command_36 : decode cX6_command 36 = .ok (.iconst 1, 1) := dk_4 (dk_at dksX6_command_1 12 rfl rfl)
theorem dX6_command_37 : decode cX6_command 37 = .ok (.goto 4, 3) := dk_167 0 4 (dk_at dksX6_command_1 13 rfl rfl)
theorem dX6_command_40 : decode cX6_command 40 = .ok (.iconst 0, 1) := dk_3 (dk_at dksX6_command_1 16 rfl rfl)
theorem dX6_command_41 : decode cX6_command 41 = .ok (.invokevirtual 42, 3) := dk_182 0 42 (dk_at dksX6_command_1 17 rfl rfl)
theorem dX6_command_44 : decode cX6_command 44 = .ok (.aload_n 0, 1) := dk_42 (dk_at dksX6_command_1 20 rfl rfl)
theorem dX6_command_45 : decode cX6_command 45 = .ok (.dup, 1) := dk_89 (dk_at dksX6_command_1 21 rfl rfl)
theorem dX6_command_46 : decode cX6_command 46 = .ok (.getfield 15, 3) := dk_180 0 15 (dk_at dksX6_command_2 0 rfl rfl)
theorem dX6_command_49 : decode cX6_command 49 = .ok (.iconst 1, 1) := dk_4 (dk_at dksX6_command_2 3 rfl rfl)
theorem dX6_command_50 : decode cX6_command 50 = .ok (.iadd, 1) := dk_96 (dk_at dksX6_command_2 4 rfl rfl)
theorem dX6_command_51 : decode cX6_command 51 = .ok (.putfield 15, 3) := dk_181 0 15 (dk_at dksX6_command_2 5 rfl rfl)
theorem dX6_command_54 : decode cX6_command 54 = .ok (.iload_n 1, 1) := dk_27 (dk_at dksX6_command_2 8 rfl rfl)
theorem dX6_command_55 : decode cX6_command 55 = .ok (.lookupswitch 165 #[(98, 41), (104, 125), (117, 104), (119, 65)], 41) := by decide +kernel
theorem dX6_command_96 : decode cX6_command 96 = .ok (.new 53, 3) := dk_187 0 53 (dk_at dksX6_command_4 0 rfl rfl)
theorem dX6_command_99 : decode cX6_command 99 = .ok (.dup, 1) := dk_89 (dk_at dksX6_command_4 3 rfl rfl)
theorem dX6_command_100 : decode cX6_command 100 = .ok (.iload_n 1, 1) := dk_27 (dk_at dksX6_command_4 4 rfl rfl)
theorem dX6_command_101 : decode cX6_command 101 = .ok (.iconst 1, 1) := dk_4 (dk_at dksX6_command_4 5 rfl rfl)
theorem dX6_command_102 : decode cX6_command 102 = .ok (.newarray .int, 2) := dk_188_10 (dk_at dksX6_command_4 6 rfl rfl)
theorem dX6_command_104 : decode cX6_command 104 = .ok (.dup, 1) := dk_89 (dk_at dksX6_command_4 8 rfl rfl)
theorem dX6_command_105 : decode cX6_command 105 = .ok (.iconst 0, 1) := dk_3 (dk_at dksX6_command_4 9 rfl rfl)
theorem dX6_command_106 : decode cX6_command 106 = .ok (.aload_n 0, 1) := dk_42 (dk_at dksX6_command_4 10 rfl rfl)
theorem dX6_command_107 : decode cX6_command 107 = .ok (.sipush 500, 3) := dk_17 1 244 (dk_at dksX6_command_4 11 rfl rfl)
theorem dX6_command_110 : decode cX6_command 110 = .ok (.ldc 55, 2) := dk_18 55 (dk_at dksX6_command_4 14 rfl rfl)
theorem dX6_command_112 : decode cX6_command 112 = .ok (.invokevirtual 56, 3) := dk_182 0 56 (dk_at dksX6_command_4 16 rfl rfl)
theorem dX6_command_115 : decode cX6_command 115 = .ok (.iastore, 1) := dk_79 (dk_at dksX6_command_4 19 rfl rfl)
theorem dX6_command_116 : decode cX6_command 116 = .ok (.invokespecial 60, 3) := dk_183 0 60 (dk_at dksX6_command_4 20 rfl rfl)
theorem dX6_command_119 : decode cX6_command 119 = .ok (.areturn, 1) := dk_176 (dk_at dksX6_command_4 23 rfl rfl)
theorem dX6_command_120 : decode cX6_command 120 = .ok (.aload_n 0, 1) := dk_42 (dk_at dksX6_command_5 0 rfl rfl)
theorem dX6_command_121 : decode cX6_command 121 = .ok (.iconst 0, 1) := dk_3 (dk_at dksX6_command_5 1 rfl rfl)
theorem dX6_command_122 : decode cX6_command 122 = .ok (.iconst 2, 1) := dk_5 (dk_at dksX6_command_5 2 rfl rfl)
theorem dX6_command_123 : decode cX6_command 123 = .ok (.invokevirtual 56, 3) := dk_182 0 56 (dk_at dksX6_command_5 3 rfl rfl)
theorem dX6_command_126 : decode cX6_command 126 = .ok (.istore_n 2, 1) := dk_61 (dk_at dksX6_command_5 6 rfl rfl)
theorem dX6_command_127 : decode cX6_command 127 = .ok (.aload_n 0, 1) := dk_42 (dk_at dksX6_command_5 7 rfl rfl)
theorem dX6_command_128 : decode cX6_command 128 = .ok (.bipush 43, 2) := dk_16 43 (dk_at dksX6_command_5 8 rfl rfl)
theorem dX6_command_130 : decode cX6_command 130 = .ok (.invokevirtual 63, 3) := dk_182 0 63 (dk_at dksX6_command_5 10 rfl rfl)
theorem dX6_command_133 : decode cX6_command 133 = .ok (.new 53, 3) := dk_187 0 53 (dk_at dksX6_command_5 13 rfl rfl)
theorem dX6_command_136 : decode cX6_command 136 = .ok (.dup, 1) := dk_89 (dk_at dksX6_command_5 16 rfl rfl)
theorem dX6_command_137 : decode cX6_command 137 = .ok (.iload_n 1, 1) := dk_27 (dk_at dksX6_command_5 17 rfl rfl)
theorem dX6_command_138 : decode cX6_command 138 = .ok (.iconst 2, 1) := dk_5 (dk_at dksX6_command_5 18 rfl rfl)
theorem dX6_command_139 : decode cX6_command 139 = .ok (.newarray .int, 2) := dk_188_10 (dk_at dksX6_command_5 19 rfl rfl)
theorem dX6_command_141 : decode cX6_command 141 = .ok (.dup, 1) := dk_89 (dk_at dksX6_command_5 21 rfl rfl)
theorem dX6_command_142 : decode cX6_command 142 = .ok (.iconst 0, 1) := dk_3 (dk_at dksX6_command_5 22 rfl rfl)
theorem dX6_command_143 : decode cX6_command 143 = .ok (.iload_n 2, 1) := dk_28 (dk_at dksX6_command_5 23 rfl rfl)
theorem dX6_command_144 : decode cX6_command 144 = .ok (.iastore, 1) := dk_79 (dk_at dksX6_command_6 0 rfl rfl)
theorem dX6_command_145 : decode cX6_command 145 = .ok (.dup, 1) := dk_89 (dk_at dksX6_command_6 1 rfl rfl)
theorem dX6_command_146 : decode cX6_command 146 = .ok (.iconst 1, 1) := dk_4 (dk_at dksX6_command_6 2 rfl rfl)
theorem dX6_command_147 : decode cX6_command 147 = .ok (.aload_n 0, 1) := dk_42 (dk_at dksX6_command_6 3 rfl rfl)
theorem dX6_command_148 : decode cX6_command 148 = .ok (.iconst 0, 1) := dk_3 (dk_at dksX6_command_6 4 rfl rfl)
theorem dX6_command_149 : decode cX6_command 149 = .ok (.bipush 19, 2) := dk_16 19 (dk_at dksX6_command_6 5 rfl rfl)
theorem dX6_command_151 : decode cX6_command 151 = .ok (.invokevirtual 56, 3) := dk_182 0 56 (dk_at dksX6_command_6 7 rfl rfl)
theorem dX6_command_154 : decode cX6_command 154 = .ok (.iastore, 1) := dk_79 (dk_at dksX6_command_6 10 rfl rfl)
theorem dX6_command_155 : decode cX6_command 155 = .ok (.invokespecial 60, 3) := dk_183 0 60 (dk_at dksX6_command_6 11 rfl rfl)
theorem dX6_command_158 : decode cX6_command 158 = .ok (.areturn, 1) := dk_176 (dk_at dksX6_command_6 14 rfl rfl)
theorem dX6_command_159 : decode cX6_command 159 = .ok (.new 53, 3) := dk_187 0 53 (dk_at dksX6_command_6 15 rfl rfl)
theorem dX6_command_162 : decode cX6_command 162 = .ok (.dup, 1) := dk_89 (dk_at dksX6_command_6 18 rfl rfl)
theorem dX6_command_163 : decode cX6_command 163 = .ok (.iload_n 1, 1) := dk_27 (dk_at dksX6_command_6 19 rfl rfl)
theorem dX6_command_164 : decode cX6_command 164 = .ok (.iconst 1, 1) := dk_4 (dk_at dksX6_command_6 20 rfl rfl)
theorem dX6_command_165 : decode cX6_command 165 = .ok (.newarray .int, 2) := dk_188_10 (dk_at dksX6_command_6 21 rfl rfl)
theorem dX6_command_167 : decode cX6_command 167 = .ok (.dup, 1) := dk_89 (dk_at dksX6_command_6 23 rfl rfl)
theorem dX6_command_168 : decode cX6_command 168 = .ok (.iconst 0, 1) := dk_3 (dk_at dksX6_command_7 0 rfl rfl)
theorem dX6_command_169 : decode cX6_command 169 = .ok (.aload_n 0, 1) := dk_42 (dk_at dksX6_command_7 1 rfl rfl)
theorem dX6_command_170 : decode cX6_command 170 = .ok (.iconst 0, 1) := dk_3 (dk_at dksX6_command_7 2 rfl rfl)
theorem dX6_command_171 : decode cX6_command 171 = .ok (.iconst 2, 1) := dk_5 (dk_at dksX6_command_7 3 rfl rfl)
theorem dX6_command_172 : decode cX6_command 172 = .ok (.invokevirtual 56, 3) := dk_182 0 56 (dk_at dksX6_command_7 4 rfl rfl)
theorem dX6_command_175 : decode cX6_command 175 = .ok (.iastore, 1) := dk_79 (dk_at dksX6_command_7 7 rfl rfl)
theorem dX6_command_176 : decode cX6_command 176 = .ok (.invokespecial 60, 3) := dk_183 0 60 (dk_at dksX6_command_7 8 rfl rfl)
theorem dX6_command_179 : decode cX6_command 179 = .ok (.areturn, 1) := dk_176 (dk_at dksX6_command_7 11 rfl rfl)
theorem dX6_command_180 : decode cX6_command 180 = .ok (.aload_n 0, 1) := dk_42 (dk_at dksX6_command_7 12 rfl rfl)
theorem dX6_command_181 : decode cX6_command 181 = .ok (.iconst 0, 1) := dk_3 (dk_at dksX6_command_7 13 rfl rfl)
theorem dX6_command_182 : decode cX6_command 182 = .ok (.bipush 19, 2) := dk_16 19 (dk_at dksX6_command_7 14 rfl rfl)
theorem dX6_command_184 : decode cX6_command 184 = .ok (.invokevirtual 56, 3) := dk_182 0 56 (dk_at dksX6_command_7 16 rfl rfl)
theorem dX6_command_187 : decode cX6_command 187 = .ok (.istore_n 2, 1) := dk_61 (dk_at dksX6_command_7 19 rfl rfl)
theorem dX6_command_188 : decode cX6_command 188 = .ok (.aload_n 0, 1) := dk_42 (dk_at dksX6_command_7 20 rfl rfl)
theorem dX6_command_189 : decode cX6_command 189 = .ok (.bipush 44, 2) := dk_16 44 (dk_at dksX6_command_7 21 rfl rfl)
theorem dX6_command_191 : decode cX6_command 191 = .ok (.invokevirtual 63, 3) := dk_182 0 63 (dk_at dksX6_command_8 0 rfl rfl)
theorem dX6_command_194 : decode cX6_command 194 = .ok (.new 53, 3) := dk_187 0 53 (dk_at dksX6_command_8 3 rfl rfl)
theorem dX6_command_197 : decode cX6_command 197 = .ok (.dup, 1) := dk_89 (dk_at dksX6_command_8 6 rfl rfl)
theorem dX6_command_198 : decode cX6_command 198 = .ok (.iload_n 1, 1) := dk_27 (dk_at dksX6_command_8 7 rfl rfl)
theorem dX6_command_199 : decode cX6_command 199 = .ok (.iconst 2, 1) := dk_5 (dk_at dksX6_command_8 8 rfl rfl)
theorem dX6_command_200 : decode cX6_command 200 = .ok (.newarray .int, 2) := dk_188_10 (dk_at dksX6_command_8 9 rfl rfl)
theorem dX6_command_202 : decode cX6_command 202 = .ok (.dup, 1) := dk_89 (dk_at dksX6_command_8 11 rfl rfl)
theorem dX6_command_203 : decode cX6_command 203 = .ok (.iconst 0, 1) := dk_3 (dk_at dksX6_command_8 12 rfl rfl)
theorem dX6_command_204 : decode cX6_command 204 = .ok (.iload_n 2, 1) := dk_28 (dk_at dksX6_command_8 13 rfl rfl)
theorem dX6_command_205 : decode cX6_command 205 = .ok (.iastore, 1) := dk_79 (dk_at dksX6_command_8 14 rfl rfl)
theorem dX6_command_206 : decode cX6_command 206 = .ok (.dup, 1) := dk_89 (dk_at dksX6_command_8 15 rfl rfl)
theorem dX6_command_207 : decode cX6_command 207 = .ok (.iconst 1, 1) := dk_4 (dk_at dksX6_command_8 16 rfl rfl)
theorem dX6_command_208 : decode cX6_command 208 = .ok (.aload_n 0, 1) := dk_42 (dk_at dksX6_command_8 17 rfl rfl)
theorem dX6_command_209 : decode cX6_command 209 = .ok (.iconst 1, 1) := dk_4 (dk_at dksX6_command_8 18 rfl rfl)
theorem dX6_command_210 : decode cX6_command 210 = .ok (.bipush 60, 2) := dk_16 60 (dk_at dksX6_command_8 19 rfl rfl)
theorem dX6_command_212 : decode cX6_command 212 = .ok (.invokevirtual 56, 3) := dk_182 0 56 (dk_at dksX6_command_8 21 rfl rfl)
theorem dX6_command_215 : decode cX6_command 215 = .ok (.iastore, 1) := dk_79 (dk_at dksX6_command_9 0 rfl rfl)
theorem dX6_command_216 : decode cX6_command 216 = .ok (.invokespecial 60, 3) := dk_183 0 60 (dk_at dksX6_command_9 1 rfl rfl)
theorem dX6_command_219 : decode cX6_command 219 = .ok (.areturn, 1) := dk_176 (dk_at dksX6_command_9 4 rfl rfl)
theorem dX6_command_220 : decode cX6_command 220 = .ok (.new 53, 3) := dk_187 0 53 (dk_at dksX6_command_9 5 rfl rfl)
theorem dX6_command_223 : decode cX6_command 223 = .ok (.dup, 1) := dk_89 (dk_at dksX6_command_9 8 rfl rfl)
theorem dX6_command_224 : decode cX6_command 224 = .ok (.iload_n 1, 1) := dk_27 (dk_at dksX6_command_9 9 rfl rfl)
theorem dX6_command_225 : decode cX6_command 225 = .ok (.iconst 1, 1) := dk_4 (dk_at dksX6_command_9 10 rfl rfl)
theorem dX6_command_226 : decode cX6_command 226 = .ok (.newarray .int, 2) := dk_188_10 (dk_at dksX6_command_9 11 rfl rfl)
theorem dX6_command_228 : decode cX6_command 228 = .ok (.dup, 1) := dk_89 (dk_at dksX6_command_9 13 rfl rfl)
theorem dX6_command_229 : decode cX6_command 229 = .ok (.iconst 0, 1) := dk_3 (dk_at dksX6_command_9 14 rfl rfl)
theorem dX6_command_230 : decode cX6_command 230 = .ok (.aload_n 0, 1) := dk_42 (dk_at dksX6_command_9 15 rfl rfl)
theorem dX6_command_231 : decode cX6_command 231 = .ok (.iconst 1, 1) := dk_4 (dk_at dksX6_command_9 16 rfl rfl)
theorem dX6_command_232 : decode cX6_command 232 = .ok (.bipush 60, 2) := dk_16 60 (dk_at dksX6_command_9 17 rfl rfl)
theorem dX6_command_234 : decode cX6_command 234 = .ok (.invokevirtual 56, 3) := dk_182 0 56 (dk_at dksX6_command_9 19 rfl rfl)
theorem dX6_command_237 : decode cX6_command 237 = .ok (.iastore, 1) := dk_79 (dk_at dksX6_command_9 22 rfl rfl)
theorem dX6_command_238 : decode cX6_command 238 = .ok (.invokespecial 60, 3) := dk_183 0 60 (dk_at dksX6_command_10 0 rfl rfl)
theorem dX6_command_241 : decode cX6_command 241 = .ok (.areturn, 1) := dk_176 (dk_at dksX6_command_10 3 rfl rfl)
abbrev cX6_peek : ByteArray := prog_7_method_2_code
def yX6_peek : MethodName := ⟨RX6, "peek", "()C"⟩
def dkwX6_peek_1 : List UInt8 := [42, 180, 0, 15, 182, 0, 29, 167, 0, 4, 3, 172]
abbrev dktX6_peek_1 : List UInt8 := dkwX6_peek_1 ++ []
def dkwX6_peek_0 : List UInt8 := [42, 180, 0, 15, 42, 180, 0, 3, 180, 0, 19, 182, 0, 23, 162, 0, 20, 42, 180, 0, 3, 180, 0, 19]
abbrev dktX6_peek_0 : List UInt8 := dkwX6_peek_0 ++ dktX6_peek_1
theorem dksX6_peek_0 : cX6_peek.data.toList.drop 0 = dktX6_peek_0 := by decide +kernel
theorem dksX6_peek_1 : cX6_peek.data.toList.drop 24 = dktX6_peek_1 := dk_seg dksX6_peek_0 24 rfl rfl
theorem dX6_peek_0 : decode cX6_peek 0 = .ok (.aload_n 0, 1) := dk_42 (dk_at dksX6_peek_0 0 rfl rfl)
theorem dX6_peek_1 : decode cX6_peek 1 = .ok (.getfield 15, 3) := dk_180 0 15 (dk_at dksX6_peek_0 1 rfl rfl)
theorem dX6_peek_4 : decode cX6_peek 4 = .ok (.aload_n 0, 1) := dk_42 (dk_at dksX6_peek_0 4 rfl rfl)
theorem dX6_peek_5 : decode cX6_peek 5 = .ok (.getfield 3, 3) := dk_180 0 3 (dk_at dksX6_peek_0 5 rfl rfl)
theorem dX6_peek_8 : decode cX6_peek 8 = .ok (.getfield 19, 3) := dk_180 0 19 (dk_at dksX6_peek_0 8 rfl rfl)
theorem dX6_peek_11 : decode cX6_peek 11 = .ok (.invokevirtual 23, 3) := dk_182 0 23 (dk_at dksX6_peek_0 11 rfl rfl)
theorem dX6_peek_14 : decode cX6_peek 14 = .ok (.if_icmp .ge 20, 3) := dk_162 0 20 (dk_at dksX6_peek_0 14 rfl rfl)
theorem dX6_peek_17 : decode cX6_peek 17 = .ok (.aload_n 0, 1) := dk_42 (dk_at dksX6_peek_0 17 rfl rfl)
theorem dX6_peek_18 : decode cX6_peek 18 = .ok (.getfield 3, 3) := dk_180 0 3 (dk_at dksX6_peek_0 18 rfl rfl)
theorem dX6_peek_21 : decode cX6_peek 21 = .ok (.getfield 19, 3) := dk_180 0 19 (dk_at dksX6_peek_0 21 rfl rfl)
theorem dX6_peek_24 : decode cX6_peek 24 = .ok (.aload_n 0, 1) := dk_42 (dk_at dksX6_peek_1 0 rfl rfl)
theorem dX6_peek_25 : decode cX6_peek 25 = .ok (.getfield 15, 3) := dk_180 0 15 (dk_at dksX6_peek_1 1 rfl rfl)
theorem dX6_peek_28 : decode cX6_peek 28 = .ok (.invokevirtual 29, 3) := dk_182 0 29 (dk_at dksX6_peek_1 4 rfl rfl)
theorem dX6_peek_31 : decode cX6_peek 31 = .ok (.goto 4, 3) := dk_167 0 4 (dk_at dksX6_peek_1 7 rfl rfl)
theorem dX6_peek_34 : decode cX6_peek 34 = .ok (.iconst 0, 1) := dk_3 (dk_at dksX6_peek_1 10 rfl rfl)
theorem dX6_peek_35 : decode cX6_peek 35 = .ok (.ireturn, 1) := dk_172 (dk_at dksX6_peek_1 11 rfl rfl)
abbrev cX6_require : ByteArray := prog_7_method_3_code
def yX6_require : MethodName := ⟨RX6, "require", "(Z)V"⟩
def dkwX6_require_0 : List UInt8 := [27, 154, 0, 15, 187, 0, 33, 89, 42, 180, 0, 15, 183, 0, 35, 191, 177]
abbrev dktX6_require_0 : List UInt8 := dkwX6_require_0 ++ []
theorem dksX6_require_0 : cX6_require.data.toList.drop 0 = dktX6_require_0 := by decide +kernel
theorem dX6_require_0 : decode cX6_require 0 = .ok (.iload_n 1, 1) := dk_27 (dk_at dksX6_require_0 0 rfl rfl)
theorem dX6_require_1 : decode cX6_require 1 = .ok (.ifCond .ne 15, 3) := dk_154 0 15 (dk_at dksX6_require_0 1 rfl rfl)
theorem dX6_require_4 : decode cX6_require 4 = .ok (.new 33, 3) := dk_187 0 33 (dk_at dksX6_require_0 4 rfl rfl)
theorem dX6_require_7 : decode cX6_require 7 = .ok (.dup, 1) := dk_89 (dk_at dksX6_require_0 7 rfl rfl)
theorem dX6_require_8 : decode cX6_require 8 = .ok (.aload_n 0, 1) := dk_42 (dk_at dksX6_require_0 8 rfl rfl)
theorem dX6_require_9 : decode cX6_require 9 = .ok (.getfield 15, 3) := dk_180 0 15 (dk_at dksX6_require_0 9 rfl rfl)
theorem dX6_require_12 : decode cX6_require 12 = .ok (.invokespecial 35, 3) := dk_183 0 35 (dk_at dksX6_require_0 12 rfl rfl)
theorem dX6_require_15 : decode cX6_require 15 = .ok (.athrow, 1) := dk_191 (dk_at dksX6_require_0 15 rfl rfl)
theorem dX6_require_16 : decode cX6_require 16 = .ok (.return_, 1) := dk_177 (dk_at dksX6_require_0 16 rfl rfl)
abbrev cX6_number : ByteArray := prog_7_method_6_code
def yX6_number : MethodName := ⟨RX6, "number", "(II)I"⟩
def dkwX6_number_5 : List UInt8 := [4, 96, 181, 0, 15, 167, 255, 192, 42, 29, 27, 161, 0, 7, 4, 167, 0, 4, 3, 182, 0, 42, 29, 172]
abbrev dktX6_number_5 : List UInt8 := dkwX6_number_5 ++ []
def dkwX6_number_4 : List UInt8 := [182, 0, 50, 153, 0, 29, 16, 10, 29, 104, 42, 182, 0, 38, 96, 16, 48, 100, 62, 42, 89, 180, 0, 15]
abbrev dktX6_number_4 : List UInt8 := dkwX6_number_4 ++ dktX6_number_5
def dkwX6_number_3 : List UInt8 := [16, 9, 184, 0, 46, 153, 0, 50, 42, 16, 10, 29, 104, 42, 182, 0, 38, 96, 16, 48, 100, 27, 28]
abbrev dktX6_number_3 : List UInt8 := dkwX6_number_3 ++ dktX6_number_4
def dkwX6_number_2 : List UInt8 := [62, 42, 89, 180, 0, 15, 4, 96, 181, 0, 15, 29, 158, 0, 66, 42, 182, 0, 38, 16, 48, 100, 3]
abbrev dktX6_number_2 : List UInt8 := dkwX6_number_2 ++ dktX6_number_3
def dkwX6_number_1 : List UInt8 := [100, 27, 28, 182, 0, 50, 153, 0, 7, 4, 167, 0, 4, 3, 182, 0, 42, 42, 182, 0, 38, 16, 48, 100]
abbrev dktX6_number_1 : List UInt8 := dkwX6_number_1 ++ dktX6_number_2
def dkwX6_number_0 : List UInt8 := [42, 42, 182, 0, 38, 16, 48, 100, 3, 16, 9, 184, 0, 46, 153, 0, 23, 42, 42, 182, 0, 38, 16, 48]
abbrev dktX6_number_0 : List UInt8 := dkwX6_number_0 ++ dktX6_number_1
theorem dksX6_number_0 : cX6_number.data.toList.drop 0 = dktX6_number_0 := by decide +kernel
theorem dksX6_number_1 : cX6_number.data.toList.drop 24 = dktX6_number_1 := dk_seg dksX6_number_0 24 rfl rfl
theorem dksX6_number_2 : cX6_number.data.toList.drop 48 = dktX6_number_2 := dk_seg dksX6_number_1 24 rfl rfl
theorem dksX6_number_3 : cX6_number.data.toList.drop 71 = dktX6_number_3 := dk_seg dksX6_number_2 23 rfl rfl
theorem dksX6_number_4 : cX6_number.data.toList.drop 94 = dktX6_number_4 := dk_seg dksX6_number_3 23 rfl rfl
theorem dksX6_number_5 : cX6_number.data.toList.drop 118 = dktX6_number_5 := dk_seg dksX6_number_4 24 rfl rfl
theorem dX6_number_0 : decode cX6_number 0 = .ok (.aload_n 0, 1) := dk_42 (dk_at dksX6_number_0 0 rfl rfl)
theorem dX6_number_1 : decode cX6_number 1 = .ok (.aload_n 0, 1) := dk_42 (dk_at dksX6_number_0 1 rfl rfl)
theorem dX6_number_2 : decode cX6_number 2 = .ok (.invokevirtual 38, 3) := dk_182 0 38 (dk_at dksX6_number_0 2 rfl rfl)
theorem dX6_number_5 : decode cX6_number 5 = .ok (.bipush 48, 2) := dk_16 48 (dk_at dksX6_number_0 5 rfl rfl)
theorem dX6_number_7 : decode cX6_number 7 = .ok (.isub, 1) := dk_100 (dk_at dksX6_number_0 7 rfl rfl)
theorem dX6_number_8 : decode cX6_number 8 = .ok (.iconst 0, 1) := dk_3 (dk_at dksX6_number_0 8 rfl rfl)
theorem dX6_number_9 : decode cX6_number 9 = .ok (.bipush 9, 2) := dk_16 9 (dk_at dksX6_number_0 9 rfl rfl)
theorem dX6_number_11 : decode cX6_number 11 = .ok (.invokestatic 46, 3) := dk_184 0 46 (dk_at dksX6_number_0 11 rfl rfl)
theorem dX6_number_14 : decode cX6_number 14 = .ok (.ifCond .eq 23, 3) := dk_153 0 23 (dk_at dksX6_number_0 14 rfl rfl)
theorem dX6_number_17 : decode cX6_number 17 = .ok (.aload_n 0, 1) := dk_42 (dk_at dksX6_number_0 17 rfl rfl)
theorem dX6_number_18 : decode cX6_number 18 = .ok (.aload_n 0, 1) := dk_42 (dk_at dksX6_number_0 18 rfl rfl)
theorem dX6_number_19 : decode cX6_number 19 = .ok (.invokevirtual 38, 3) := dk_182 0 38 (dk_at dksX6_number_0 19 rfl rfl)
theorem dX6_number_22 : decode cX6_number 22 = .ok (.bipush 48, 2) := dk_16 48 (dk_at dksX6_number_0 22 rfl rfl)
theorem dX6_number_24 : decode cX6_number 24 = .ok (.isub, 1) := dk_100 (dk_at dksX6_number_1 0 rfl rfl)
theorem dX6_number_25 : decode cX6_number 25 = .ok (.iload_n 1, 1) := dk_27 (dk_at dksX6_number_1 1 rfl rfl)
theorem dX6_number_26 : decode cX6_number 26 = .ok (.iload_n 2, 1) := dk_28 (dk_at dksX6_number_1 2 rfl rfl)
theorem dX6_number_27 : decode cX6_number 27 = .ok (.invokevirtual 50, 3) := dk_182 0 50 (dk_at dksX6_number_1 3 rfl rfl)
theorem dX6_number_30 : decode cX6_number 30 = .ok (.ifCond .eq 7, 3) := dk_153 0 7 (dk_at dksX6_number_1 6 rfl rfl)
theorem dX6_number_33 : decode cX6_number 33 = .ok (.iconst 1, 1) := dk_4 (dk_at dksX6_number_1 9 rfl rfl)
theorem dX6_number_34 : decode cX6_number 34 = .ok (.goto 4, 3) := dk_167 0 4 (dk_at dksX6_number_1 10 rfl rfl)
theorem dX6_number_37 : decode cX6_number 37 = .ok (.iconst 0, 1) := dk_3 (dk_at dksX6_number_1 13 rfl rfl)
theorem dX6_number_38 : decode cX6_number 38 = .ok (.invokevirtual 42, 3) := dk_182 0 42 (dk_at dksX6_number_1 14 rfl rfl)
theorem dX6_number_41 : decode cX6_number 41 = .ok (.aload_n 0, 1) := dk_42 (dk_at dksX6_number_1 17 rfl rfl)
theorem dX6_number_42 : decode cX6_number 42 = .ok (.invokevirtual 38, 3) := dk_182 0 38 (dk_at dksX6_number_1 18 rfl rfl)
theorem dX6_number_45 : decode cX6_number 45 = .ok (.bipush 48, 2) := dk_16 48 (dk_at dksX6_number_1 21 rfl rfl)
theorem dX6_number_47 : decode cX6_number 47 = .ok (.isub, 1) := dk_100 (dk_at dksX6_number_1 23 rfl rfl)
theorem dX6_number_48 : decode cX6_number 48 = .ok (.istore_n 3, 1) := dk_62 (dk_at dksX6_number_2 0 rfl rfl)
theorem dX6_number_49 : decode cX6_number 49 = .ok (.aload_n 0, 1) := dk_42 (dk_at dksX6_number_2 1 rfl rfl)
theorem dX6_number_50 : decode cX6_number 50 = .ok (.dup, 1) := dk_89 (dk_at dksX6_number_2 2 rfl rfl)
theorem dX6_number_51 : decode cX6_number 51 = .ok (.getfield 15, 3) := dk_180 0 15 (dk_at dksX6_number_2 3 rfl rfl)
theorem dX6_number_54 : decode cX6_number 54 = .ok (.iconst 1, 1) := dk_4 (dk_at dksX6_number_2 6 rfl rfl)
theorem dX6_number_55 : decode cX6_number 55 = .ok (.iadd, 1) := dk_96 (dk_at dksX6_number_2 7 rfl rfl)
theorem dX6_number_56 : decode cX6_number 56 = .ok (.putfield 15, 3) := dk_181 0 15 (dk_at dksX6_number_2 8 rfl rfl)
theorem dX6_number_59 : decode cX6_number 59 = .ok (.iload_n 3, 1) := dk_29 (dk_at dksX6_number_2 11 rfl rfl)
theorem dX6_number_60 : decode cX6_number 60 = .ok (.ifCond .le 66, 3) := dk_158 0 66 (dk_at dksX6_number_2 12 rfl rfl)
theorem dX6_number_63 : decode cX6_number 63 = .ok (.aload_n 0, 1) := dk_42 (dk_at dksX6_number_2 15 rfl rfl)
theorem dX6_number_64 : decode cX6_number 64 = .ok (.invokevirtual 38, 3) := dk_182 0 38 (dk_at dksX6_number_2 16 rfl rfl)
theorem dX6_number_67 : decode cX6_number 67 = .ok (.bipush 48, 2) := dk_16 48 (dk_at dksX6_number_2 19 rfl rfl)
theorem dX6_number_69 : decode cX6_number 69 = .ok (.isub, 1) := dk_100 (dk_at dksX6_number_2 21 rfl rfl)
theorem dX6_number_70 : decode cX6_number 70 = .ok (.iconst 0, 1) := dk_3 (dk_at dksX6_number_2 22 rfl rfl)
theorem dX6_number_71 : decode cX6_number 71 = .ok (.bipush 9, 2) := dk_16 9 (dk_at dksX6_number_3 0 rfl rfl)
theorem dX6_number_73 : decode cX6_number 73 = .ok (.invokestatic 46, 3) := dk_184 0 46 (dk_at dksX6_number_3 2 rfl rfl)
theorem dX6_number_76 : decode cX6_number 76 = .ok (.ifCond .eq 50, 3) := dk_153 0 50 (dk_at dksX6_number_3 5 rfl rfl)
theorem dX6_number_79 : decode cX6_number 79 = .ok (.aload_n 0, 1) := dk_42 (dk_at dksX6_number_3 8 rfl rfl)
theorem dX6_number_80 : decode cX6_number 80 = .ok (.bipush 10, 2) := dk_16 10 (dk_at dksX6_number_3 9 rfl rfl)
theorem dX6_number_82 : decode cX6_number 82 = .ok (.iload_n 3, 1) := dk_29 (dk_at dksX6_number_3 11 rfl rfl)
theorem dX6_number_83 : decode cX6_number 83 = .ok (.imul, 1) := dk_104 (dk_at dksX6_number_3 12 rfl rfl)
theorem dX6_number_84 : decode cX6_number 84 = .ok (.aload_n 0, 1) := dk_42 (dk_at dksX6_number_3 13 rfl rfl)
theorem dX6_number_85 : decode cX6_number 85 = .ok (.invokevirtual 38, 3) := dk_182 0 38 (dk_at dksX6_number_3 14 rfl rfl)
theorem dX6_number_88 : decode cX6_number 88 = .ok (.iadd, 1) := dk_96 (dk_at dksX6_number_3 17 rfl rfl)
theorem dX6_number_89 : decode cX6_number 89 = .ok (.bipush 48, 2) := dk_16 48 (dk_at dksX6_number_3 18 rfl rfl)
theorem dX6_number_91 : decode cX6_number 91 = .ok (.isub, 1) := dk_100 (dk_at dksX6_number_3 20 rfl rfl)
theorem dX6_number_92 : decode cX6_number 92 = .ok (.iload_n 1, 1) := dk_27 (dk_at dksX6_number_3 21 rfl rfl)
theorem dX6_number_93 : decode cX6_number 93 = .ok (.iload_n 2, 1) := dk_28 (dk_at dksX6_number_3 22 rfl rfl)
theorem dX6_number_94 : decode cX6_number 94 = .ok (.invokevirtual 50, 3) := dk_182 0 50 (dk_at dksX6_number_4 0 rfl rfl)
theorem dX6_number_97 : decode cX6_number 97 = .ok (.ifCond .eq 29, 3) := dk_153 0 29 (dk_at dksX6_number_4 3 rfl rfl)
theorem dX6_number_100 : decode cX6_number 100 = .ok (.bipush 10, 2) := dk_16 10 (dk_at dksX6_number_4 6 rfl rfl)
theorem dX6_number_102 : decode cX6_number 102 = .ok (.iload_n 3, 1) := dk_29 (dk_at dksX6_number_4 8 rfl rfl)
theorem dX6_number_103 : decode cX6_number 103 = .ok (.imul, 1) := dk_104 (dk_at dksX6_number_4 9 rfl rfl)
theorem dX6_number_104 : decode cX6_number 104 = .ok (.aload_n 0, 1) := dk_42 (dk_at dksX6_number_4 10 rfl rfl)
theorem dX6_number_105 : decode cX6_number 105 = .ok (.invokevirtual 38, 3) := dk_182 0 38 (dk_at dksX6_number_4 11 rfl rfl)
theorem dX6_number_108 : decode cX6_number 108 = .ok (.iadd, 1) := dk_96 (dk_at dksX6_number_4 14 rfl rfl)
theorem dX6_number_109 : decode cX6_number 109 = .ok (.bipush 48, 2) := dk_16 48 (dk_at dksX6_number_4 15 rfl rfl)
theorem dX6_number_111 : decode cX6_number 111 = .ok (.isub, 1) := dk_100 (dk_at dksX6_number_4 17 rfl rfl)
theorem dX6_number_112 : decode cX6_number 112 = .ok (.istore_n 3, 1) := dk_62 (dk_at dksX6_number_4 18 rfl rfl)
theorem dX6_number_113 : decode cX6_number 113 = .ok (.aload_n 0, 1) := dk_42 (dk_at dksX6_number_4 19 rfl rfl)
theorem dX6_number_114 : decode cX6_number 114 = .ok (.dup, 1) := dk_89 (dk_at dksX6_number_4 20 rfl rfl)
theorem dX6_number_115 : decode cX6_number 115 = .ok (.getfield 15, 3) := dk_180 0 15 (dk_at dksX6_number_4 21 rfl rfl)
theorem dX6_number_118 : decode cX6_number 118 = .ok (.iconst 1, 1) := dk_4 (dk_at dksX6_number_5 0 rfl rfl)
theorem dX6_number_119 : decode cX6_number 119 = .ok (.iadd, 1) := dk_96 (dk_at dksX6_number_5 1 rfl rfl)
theorem dX6_number_120 : decode cX6_number 120 = .ok (.putfield 15, 3) := dk_181 0 15 (dk_at dksX6_number_5 2 rfl rfl)
theorem dX6_number_123 : decode cX6_number 123 = .ok (.goto (-64), 3) := dk_167 255 192 (dk_at dksX6_number_5 5 rfl rfl)
theorem dX6_number_126 : decode cX6_number 126 = .ok (.aload_n 0, 1) := dk_42 (dk_at dksX6_number_5 8 rfl rfl)
theorem dX6_number_127 : decode cX6_number 127 = .ok (.iload_n 3, 1) := dk_29 (dk_at dksX6_number_5 9 rfl rfl)
theorem dX6_number_128 : decode cX6_number 128 = .ok (.iload_n 1, 1) := dk_27 (dk_at dksX6_number_5 10 rfl rfl)
theorem dX6_number_129 : decode cX6_number 129 = .ok (.if_icmp .lt 7, 3) := dk_161 0 7 (dk_at dksX6_number_5 11 rfl rfl)
theorem dX6_number_132 : decode cX6_number 132 = .ok (.iconst 1, 1) := dk_4 (dk_at dksX6_number_5 14 rfl rfl)
theorem dX6_number_133 : decode cX6_number 133 = .ok (.goto 4, 3) := dk_167 0 4 (dk_at dksX6_number_5 15 rfl rfl)
theorem dX6_number_136 : decode cX6_number 136 = .ok (.iconst 0, 1) := dk_3 (dk_at dksX6_number_5 18 rfl rfl)
theorem dX6_number_137 : decode cX6_number 137 = .ok (.invokevirtual 42, 3) := dk_182 0 42 (dk_at dksX6_number_5 19 rfl rfl)
theorem dX6_number_140 : decode cX6_number 140 = .ok (.iload_n 3, 1) := dk_29 (dk_at dksX6_number_5 22 rfl rfl)
theorem dX6_number_141 : decode cX6_number 141 = .ok (.ireturn, 1) := dk_172 (dk_at dksX6_number_5 23 rfl rfl)
abbrev cX6_canBegin : ByteArray := prog_7_method_5_code
def yX6_canBegin : MethodName := ⟨RX6, "canBegin", "(III)Z"⟩
def dkwX6_canBegin_3 : List UInt8 := [172]
abbrev dktX6_canBegin_3 : List UInt8 := dkwX6_canBegin_3 ++ []
def dkwX6_canBegin_2 : List UInt8 := [21, 4, 29, 163, 0, 13, 21, 5, 28, 161, 0, 7, 4, 167, 0, 4, 3, 54, 6, 167, 255, 205, 21, 6]
abbrev dktX6_canBegin_2 : List UInt8 := dkwX6_canBegin_2 ++ dktX6_canBegin_3
def dkwX6_canBegin_1 : List UInt8 := [21, 4, 29, 163, 0, 42, 16, 10, 21, 4, 104, 54, 4, 16, 10, 21, 5, 104, 16, 9, 96, 54, 5]
abbrev dktX6_canBegin_1 : List UInt8 := dkwX6_canBegin_1 ++ dktX6_canBegin_2
def dkwX6_canBegin_0 : List UInt8 := [27, 54, 4, 27, 54, 5, 27, 28, 29, 184, 0, 46, 54, 6, 21, 6, 154, 0, 52, 27, 158, 0, 48]
abbrev dktX6_canBegin_0 : List UInt8 := dkwX6_canBegin_0 ++ dktX6_canBegin_1
theorem dksX6_canBegin_0 : cX6_canBegin.data.toList.drop 0 = dktX6_canBegin_0 := by decide +kernel
theorem dksX6_canBegin_1 : cX6_canBegin.data.toList.drop 23 = dktX6_canBegin_1 := dk_seg dksX6_canBegin_0 23 rfl rfl
theorem dksX6_canBegin_2 : cX6_canBegin.data.toList.drop 46 = dktX6_canBegin_2 := dk_seg dksX6_canBegin_1 23 rfl rfl
theorem dksX6_canBegin_3 : cX6_canBegin.data.toList.drop 70 = dktX6_canBegin_3 := dk_seg dksX6_canBegin_2 24 rfl rfl
theorem dX6_canBegin_0 : decode cX6_canBegin 0 = .ok (.iload_n 1, 1) := dk_27 (dk_at dksX6_canBegin_0 0 rfl rfl)
theorem dX6_canBegin_1 : decode cX6_canBegin 1 = .ok (.istore 4, 2) := dk_54 4 (dk_at dksX6_canBegin_0 1 rfl rfl)
theorem dX6_canBegin_3 : decode cX6_canBegin 3 = .ok (.iload_n 1, 1) := dk_27 (dk_at dksX6_canBegin_0 3 rfl rfl)
theorem dX6_canBegin_4 : decode cX6_canBegin 4 = .ok (.istore 5, 2) := dk_54 5 (dk_at dksX6_canBegin_0 4 rfl rfl)
theorem dX6_canBegin_6 : decode cX6_canBegin 6 = .ok (.iload_n 1, 1) := dk_27 (dk_at dksX6_canBegin_0 6 rfl rfl)
theorem dX6_canBegin_7 : decode cX6_canBegin 7 = .ok (.iload_n 2, 1) := dk_28 (dk_at dksX6_canBegin_0 7 rfl rfl)
theorem dX6_canBegin_8 : decode cX6_canBegin 8 = .ok (.iload_n 3, 1) := dk_29 (dk_at dksX6_canBegin_0 8 rfl rfl)
theorem dX6_canBegin_9 : decode cX6_canBegin 9 = .ok (.invokestatic 46, 3) := dk_184 0 46 (dk_at dksX6_canBegin_0 9 rfl rfl)
theorem dX6_canBegin_12 : decode cX6_canBegin 12 = .ok (.istore 6, 2) := dk_54 6 (dk_at dksX6_canBegin_0 12 rfl rfl)
theorem dX6_canBegin_14 : decode cX6_canBegin 14 = .ok (.iload 6, 2) := dk_21 6 (dk_at dksX6_canBegin_0 14 rfl rfl)
theorem dX6_canBegin_16 : decode cX6_canBegin 16 = .ok (.ifCond .ne 52, 3) := dk_154 0 52 (dk_at dksX6_canBegin_0 16 rfl rfl)
theorem dX6_canBegin_19 : decode cX6_canBegin 19 = .ok (.iload_n 1, 1) := dk_27 (dk_at dksX6_canBegin_0 19 rfl rfl)
theorem dX6_canBegin_20 : decode cX6_canBegin 20 = .ok (.ifCond .le 48, 3) := dk_158 0 48 (dk_at dksX6_canBegin_0 20 rfl rfl)
theorem dX6_canBegin_23 : decode cX6_canBegin 23 = .ok (.iload 4, 2) := dk_21 4 (dk_at dksX6_canBegin_1 0 rfl rfl)
theorem dX6_canBegin_25 : decode cX6_canBegin 25 = .ok (.iload_n 3, 1) := dk_29 (dk_at dksX6_canBegin_1 2 rfl rfl)
theorem dX6_canBegin_26 : decode cX6_canBegin 26 = .ok (.if_icmp .gt 42, 3) := dk_163 0 42 (dk_at dksX6_canBegin_1 3 rfl rfl)
theorem dX6_canBegin_29 : decode cX6_canBegin 29 = .ok (.bipush 10, 2) := dk_16 10 (dk_at dksX6_canBegin_1 6 rfl rfl)
theorem dX6_canBegin_31 : decode cX6_canBegin 31 = .ok (.iload 4, 2) := dk_21 4 (dk_at dksX6_canBegin_1 8 rfl rfl)
theorem dX6_canBegin_33 : decode cX6_canBegin 33 = .ok (.imul, 1) := dk_104 (dk_at dksX6_canBegin_1 10 rfl rfl)
theorem dX6_canBegin_34 : decode cX6_canBegin 34 = .ok (.istore 4, 2) := dk_54 4 (dk_at dksX6_canBegin_1 11 rfl rfl)
theorem dX6_canBegin_36 : decode cX6_canBegin 36 = .ok (.bipush 10, 2) := dk_16 10 (dk_at dksX6_canBegin_1 13 rfl rfl)
theorem dX6_canBegin_38 : decode cX6_canBegin 38 = .ok (.iload 5, 2) := dk_21 5 (dk_at dksX6_canBegin_1 15 rfl rfl)
theorem dX6_canBegin_40 : decode cX6_canBegin 40 = .ok (.imul, 1) := dk_104 (dk_at dksX6_canBegin_1 17 rfl rfl)
theorem dX6_canBegin_41 : decode cX6_canBegin 41 = .ok (.bipush 9, 2) := dk_16 9 (dk_at dksX6_canBegin_1 18 rfl rfl)
theorem dX6_canBegin_43 : decode cX6_canBegin 43 = .ok (.iadd, 1) := dk_96 (dk_at dksX6_canBegin_1 20 rfl rfl)
theorem dX6_canBegin_44 : decode cX6_canBegin 44 = .ok (.istore 5, 2) := dk_54 5 (dk_at dksX6_canBegin_1 21 rfl rfl)
theorem dX6_canBegin_46 : decode cX6_canBegin 46 = .ok (.iload 4, 2) := dk_21 4 (dk_at dksX6_canBegin_2 0 rfl rfl)
theorem dX6_canBegin_48 : decode cX6_canBegin 48 = .ok (.iload_n 3, 1) := dk_29 (dk_at dksX6_canBegin_2 2 rfl rfl)
theorem dX6_canBegin_49 : decode cX6_canBegin 49 = .ok (.if_icmp .gt 13, 3) := dk_163 0 13 (dk_at dksX6_canBegin_2 3 rfl rfl)
theorem dX6_canBegin_52 : decode cX6_canBegin 52 = .ok (.iload 5, 2) := dk_21 5 (dk_at dksX6_canBegin_2 6 rfl rfl)
theorem dX6_canBegin_54 : decode cX6_canBegin 54 = .ok (.iload_n 2, 1) := dk_28 (dk_at dksX6_canBegin_2 8 rfl rfl)
theorem dX6_canBegin_55 : decode cX6_canBegin 55 = .ok (.if_icmp .lt 7, 3) := dk_161 0 7 (dk_at dksX6_canBegin_2 9 rfl rfl)
theorem dX6_canBegin_58 : decode cX6_canBegin 58 = .ok (.iconst 1, 1) := dk_4 (dk_at dksX6_canBegin_2 12 rfl rfl)
theorem dX6_canBegin_59 : decode cX6_canBegin 59 = .ok (.goto 4, 3) := dk_167 0 4 (dk_at dksX6_canBegin_2 13 rfl rfl)
theorem dX6_canBegin_62 : decode cX6_canBegin 62 = .ok (.iconst 0, 1) := dk_3 (dk_at dksX6_canBegin_2 16 rfl rfl)
theorem dX6_canBegin_63 : decode cX6_canBegin 63 = .ok (.istore 6, 2) := dk_54 6 (dk_at dksX6_canBegin_2 17 rfl rfl)
theorem dX6_canBegin_65 : decode cX6_canBegin 65 = .ok (.goto (-51), 3) := dk_167 255 205 (dk_at dksX6_canBegin_2 19 rfl rfl)
theorem dX6_canBegin_68 : decode cX6_canBegin 68 = .ok (.iload 6, 2) := dk_21 6 (dk_at dksX6_canBegin_2 22 rfl rfl)
theorem dX6_canBegin_70 : decode cX6_canBegin 70 = .ok (.ireturn, 1) := dk_172 (dk_at dksX6_canBegin_3 0 rfl rfl)
abbrev cX6_sign : ByteArray := prog_7_method_4_code
def yX6_sign : MethodName := ⟨RX6, "sign", "(C)V"⟩
def dkwX6_sign_1 : List UInt8 := [181, 0, 15, 177]
abbrev dktX6_sign_1 : List UInt8 := dkwX6_sign_1 ++ []
def dkwX6_sign_0 : List UInt8 := [42, 42, 182, 0, 38, 27, 160, 0, 7, 4, 167, 0, 4, 3, 182, 0, 42, 42, 89, 180, 0, 15, 4, 96]
abbrev dktX6_sign_0 : List UInt8 := dkwX6_sign_0 ++ dktX6_sign_1
theorem dksX6_sign_0 : cX6_sign.data.toList.drop 0 = dktX6_sign_0 := by decide +kernel
theorem dksX6_sign_1 : cX6_sign.data.toList.drop 24 = dktX6_sign_1 := dk_seg dksX6_sign_0 24 rfl rfl
theorem dX6_sign_0 : decode cX6_sign 0 = .ok (.aload_n 0, 1) := dk_42 (dk_at dksX6_sign_0 0 rfl rfl)
theorem dX6_sign_1 : decode cX6_sign 1 = .ok (.aload_n 0, 1) := dk_42 (dk_at dksX6_sign_0 1 rfl rfl)
theorem dX6_sign_2 : decode cX6_sign 2 = .ok (.invokevirtual 38, 3) := dk_182 0 38 (dk_at dksX6_sign_0 2 rfl rfl)
theorem dX6_sign_5 : decode cX6_sign 5 = .ok (.iload_n 1, 1) := dk_27 (dk_at dksX6_sign_0 5 rfl rfl)
theorem dX6_sign_6 : decode cX6_sign 6 = .ok (.if_icmp .ne 7, 3) := dk_160 0 7 (dk_at dksX6_sign_0 6 rfl rfl)
theorem dX6_sign_9 : decode cX6_sign 9 = .ok (.iconst 1, 1) := dk_4 (dk_at dksX6_sign_0 9 rfl rfl)
theorem dX6_sign_10 : decode cX6_sign 10 = .ok (.goto 4, 3) := dk_167 0 4 (dk_at dksX6_sign_0 10 rfl rfl)
theorem dX6_sign_13 : decode cX6_sign 13 = .ok (.iconst 0, 1) := dk_3 (dk_at dksX6_sign_0 13 rfl rfl)
theorem dX6_sign_14 : decode cX6_sign 14 = .ok (.invokevirtual 42, 3) := dk_182 0 42 (dk_at dksX6_sign_0 14 rfl rfl)
theorem dX6_sign_17 : decode cX6_sign 17 = .ok (.aload_n 0, 1) := dk_42 (dk_at dksX6_sign_0 17 rfl rfl)
theorem dX6_sign_18 : decode cX6_sign 18 = .ok (.dup, 1) := dk_89 (dk_at dksX6_sign_0 18 rfl rfl)
theorem dX6_sign_19 : decode cX6_sign 19 = .ok (.getfield 15, 3) := dk_180 0 15 (dk_at dksX6_sign_0 19 rfl rfl)
theorem dX6_sign_22 : decode cX6_sign 22 = .ok (.iconst 1, 1) := dk_4 (dk_at dksX6_sign_0 22 rfl rfl)
theorem dX6_sign_23 : decode cX6_sign 23 = .ok (.iadd, 1) := dk_96 (dk_at dksX6_sign_0 23 rfl rfl)
theorem dX6_sign_24 : decode cX6_sign 24 = .ok (.putfield 15, 3) := dk_181 0 15 (dk_at dksX6_sign_1 0 rfl rfl)
theorem dX6_sign_27 : decode cX6_sign 27 = .ok (.return_, 1) := dk_177 (dk_at dksX6_sign_1 3 rfl rfl)
theorem q106 : (Jvm.Cond.initialized "GaugeBlocks$Reader") ∈ lw_all := lw_g (lw_at lw_m1 31 rfl) rfl
theorem q206 : (Jvm.Cond.selects "GaugeBlocks$Reader" ({ cls := "java/lang/Object", name := "getClass", desc := "()Ljava/lang/Class;" } : Jvm.MethodName) ({ cls := "java/lang/Object", name := "getClass", desc := "()Ljava/lang/Class;" } : Jvm.MethodName)) ∈ lw_all := lw_g (lw_at lw_m1 131 rfl) rfl
theorem q327 : (Jvm.Cond.fieldLinkNest "GaugeBlocks$Reader" (19 : Nat) "GaugeBlocks" "buffer" "Ljava/lang/StringBuilder;" "GaugeBlocks") ∈ lw_tbl := lw_at lw_m2 12 rfl
theorem q678 : (Jvm.Cond.instantiable "GaugeBlocks$Reader" (2 : Nat)) ∈ lw_all := lw_g (lw_at lw_m3 123 rfl) rfl
theorem q680 : (Jvm.Cond.instanceMethod ({ cls := "GaugeBlocks$Reader", name := "<init>", desc := "(LGaugeBlocks;)V" } : Jvm.MethodName)) ∈ lw_all := lw_g (lw_at lw_m3 125 rfl) rfl
theorem q681 : (Jvm.Cond.code ({ cls := "GaugeBlocks$Reader", name := "<init>", desc := "(LGaugeBlocks;)V" } : Jvm.MethodName) prog_7_method_1_code (2 : Nat) (Option.none : Option Jvm.ClassFile.FieldType)) ∈ lw_all := lw_g (lw_at lw_m3 126 rfl) rfl
theorem q682 : (Jvm.Cond.methodLink "GaugeBlocks$Reader" (9 : Nat) ({ cls := "java/lang/Object", name := "<init>", desc := "()V" } : Jvm.MethodName)) ∈ lw_all := lw_g (lw_at lw_m3 127 rfl) rfl
theorem q683 : (Jvm.Cond.fieldLink "GaugeBlocks$Reader" (15 : Nat) "GaugeBlocks$Reader" "place" "I") ∈ lw_all := lw_g (lw_at lw_m3 128 rfl) rfl
theorem q684 : (Jvm.Cond.fieldLink "GaugeBlocks$Reader" (3 : Nat) "GaugeBlocks$Reader" "this$0" "LGaugeBlocks;") ∈ lw_all := lw_g (lw_at lw_m3 129 rfl) rfl
theorem q685 : (Jvm.Cond.lays "GaugeBlocks$Reader" "GaugeBlocks$Reader" "place" "I") ∈ lw_all := lw_g (lw_at lw_m3 130 rfl) rfl
theorem q686 : (Jvm.Cond.soleField "GaugeBlocks$Reader" "place") ∈ lw_all := lw_g (lw_at lw_m3 131 rfl) rfl
theorem q687 : (Jvm.Cond.laysFinal "GaugeBlocks$Reader" "GaugeBlocks$Reader" "this$0" "LGaugeBlocks;") ∈ lw_all := lw_g (lw_at lw_m3 132 rfl) rfl
theorem q688 : (Jvm.Cond.soleField "GaugeBlocks$Reader" "this$0") ∈ lw_all := lw_g (lw_at lw_m3 133 rfl) rfl
theorem q689 : (Jvm.Cond.superclass "GaugeBlocks$Reader" "java/lang/Object") ∈ lw_all := lw_g (lw_at lw_m3 134 rfl) rfl
theorem q691 : (Jvm.Cond.instanceMethod ({ cls := "GaugeBlocks$Reader", name := "commands", desc := "()Ljava/util/ArrayList;" } : Jvm.MethodName)) ∈ lw_all := lw_g (lw_at lw_m3 136 rfl) rfl
theorem q692 : (Jvm.Cond.selects "GaugeBlocks$Reader" ({ cls := "GaugeBlocks$Reader", name := "commands", desc := "()Ljava/util/ArrayList;" } : Jvm.MethodName) ({ cls := "GaugeBlocks$Reader", name := "commands", desc := "()Ljava/util/ArrayList;" } : Jvm.MethodName)) ∈ lw_all := lw_g (lw_at lw_m3 137 rfl) rfl
theorem q693 : (Jvm.Cond.code ({ cls := "GaugeBlocks$Reader", name := "commands", desc := "()Ljava/util/ArrayList;" } : Jvm.MethodName) prog_7_method_8_code (2 : Nat) (Option.some (Jvm.ClassFile.FieldType.object "java/util/ArrayList"))) ∈ lw_all := lw_g (lw_at lw_m3 138 rfl) rfl
theorem q694 : (Jvm.Cond.classLink "GaugeBlocks$Reader" (67 : Nat) "java/util/ArrayList") ∈ lw_all := lw_g (lw_at lw_m3 139 rfl) rfl
theorem q695 : (Jvm.Cond.methodLink "GaugeBlocks$Reader" (69 : Nat) ({ cls := "java/util/ArrayList", name := "<init>", desc := "()V" } : Jvm.MethodName)) ∈ lw_all := lw_g (lw_at lw_m3 140 rfl) rfl
theorem q696 : (Jvm.Cond.methodLink "GaugeBlocks$Reader" (70 : Nat) ({ cls := "GaugeBlocks$Reader", name := "command", desc := "()LGaugeBlocks$Command;" } : Jvm.MethodName)) ∈ lw_all := lw_g (lw_at lw_m3 141 rfl) rfl
theorem q697 : (Jvm.Cond.privateMethod ({ cls := "GaugeBlocks$Reader", name := "command", desc := "()LGaugeBlocks$Command;" } : Jvm.MethodName)) ∈ lw_tbl := lw_at lw_m3 142 rfl
theorem q698 : (Jvm.Cond.instanceMethod ({ cls := "GaugeBlocks$Reader", name := "command", desc := "()LGaugeBlocks$Command;" } : Jvm.MethodName)) ∈ lw_all := lw_g (lw_at lw_m3 143 rfl) rfl
theorem q699 : (Jvm.Cond.code ({ cls := "GaugeBlocks$Reader", name := "command", desc := "()LGaugeBlocks$Command;" } : Jvm.MethodName) prog_7_method_7_code (3 : Nat) (Option.some (Jvm.ClassFile.FieldType.object "GaugeBlocks$Command"))) ∈ lw_all := lw_g (lw_at lw_m3 144 rfl) rfl
theorem q700 : (Jvm.Cond.methodLink "GaugeBlocks$Reader" (38 : Nat) ({ cls := "GaugeBlocks$Reader", name := "peek", desc := "()C" } : Jvm.MethodName)) ∈ lw_all := lw_g (lw_at lw_m3 145 rfl) rfl
theorem q701 : (Jvm.Cond.privateMethod ({ cls := "GaugeBlocks$Reader", name := "peek", desc := "()C" } : Jvm.MethodName)) ∈ lw_tbl := lw_at lw_m3 146 rfl
theorem q702 : (Jvm.Cond.instanceMethod ({ cls := "GaugeBlocks$Reader", name := "peek", desc := "()C" } : Jvm.MethodName)) ∈ lw_all := lw_g (lw_at lw_m3 147 rfl) rfl
theorem q703 : (Jvm.Cond.code ({ cls := "GaugeBlocks$Reader", name := "peek", desc := "()C" } : Jvm.MethodName) prog_7_method_2_code (1 : Nat) (Option.some Jvm.ClassFile.FieldType.char)) ∈ lw_all := lw_g (lw_at lw_m3 148 rfl) rfl
theorem q704 : (Jvm.Cond.methodLink "GaugeBlocks$Reader" (23 : Nat) ({ cls := "java/lang/StringBuilder", name := "length", desc := "()I" } : Jvm.MethodName)) ∈ lw_all := lw_g (lw_at lw_m3 149 rfl) rfl
theorem q705 : (Jvm.Cond.methodLink "GaugeBlocks$Reader" (29 : Nat) ({ cls := "java/lang/StringBuilder", name := "charAt", desc := "(I)C" } : Jvm.MethodName)) ∈ lw_all := lw_g (lw_at lw_m3 150 rfl) rfl
theorem q720 : (Jvm.Cond.methodLink "GaugeBlocks$Reader" (42 : Nat) ({ cls := "GaugeBlocks$Reader", name := "require", desc := "(Z)V" } : Jvm.MethodName)) ∈ lw_all := lw_g (lw_at lw_m3 165 rfl) rfl
theorem q721 : (Jvm.Cond.privateMethod ({ cls := "GaugeBlocks$Reader", name := "require", desc := "(Z)V" } : Jvm.MethodName)) ∈ lw_tbl := lw_at lw_m3 166 rfl
theorem q722 : (Jvm.Cond.instanceMethod ({ cls := "GaugeBlocks$Reader", name := "require", desc := "(Z)V" } : Jvm.MethodName)) ∈ lw_all := lw_g (lw_at lw_m3 167 rfl) rfl
theorem q723 : (Jvm.Cond.code ({ cls := "GaugeBlocks$Reader", name := "require", desc := "(Z)V" } : Jvm.MethodName) prog_7_method_3_code (2 : Nat) (Option.none : Option Jvm.ClassFile.FieldType)) ∈ lw_all := lw_g (lw_at lw_m3 168 rfl) rfl
theorem q724 : (Jvm.Cond.classLink "GaugeBlocks$Reader" (33 : Nat) "GaugeBlocks$SyntaxFault") ∈ lw_all := lw_g (lw_at lw_m3 169 rfl) rfl
theorem q733 : (Jvm.Cond.methodLink "GaugeBlocks$Reader" (35 : Nat) ({ cls := "GaugeBlocks$SyntaxFault", name := "<init>", desc := "(I)V" } : Jvm.MethodName)) ∈ lw_all := lw_g (lw_at lw_m3 178 rfl) rfl
theorem q746 : (Jvm.Cond.classLink "GaugeBlocks$Reader" (53 : Nat) "GaugeBlocks$Command") ∈ lw_all := lw_g (lw_at lw_m3 191 rfl) rfl
theorem q748 : (Jvm.Cond.constant "GaugeBlocks$Reader" (55 : Nat) (100000 : Int32)) ∈ lw_all := lw_g (lw_at lw_m3 193 rfl) rfl
theorem q749 : (Jvm.Cond.methodLink "GaugeBlocks$Reader" (56 : Nat) ({ cls := "GaugeBlocks$Reader", name := "number", desc := "(II)I" } : Jvm.MethodName)) ∈ lw_all := lw_g (lw_at lw_m3 194 rfl) rfl
theorem q750 : (Jvm.Cond.privateMethod ({ cls := "GaugeBlocks$Reader", name := "number", desc := "(II)I" } : Jvm.MethodName)) ∈ lw_tbl := lw_at lw_m3 195 rfl
theorem q751 : (Jvm.Cond.instanceMethod ({ cls := "GaugeBlocks$Reader", name := "number", desc := "(II)I" } : Jvm.MethodName)) ∈ lw_all := lw_g (lw_at lw_m3 196 rfl) rfl
theorem q752 : (Jvm.Cond.code ({ cls := "GaugeBlocks$Reader", name := "number", desc := "(II)I" } : Jvm.MethodName) prog_7_method_6_code (4 : Nat) (Option.some Jvm.ClassFile.FieldType.int)) ∈ lw_all := lw_g (lw_at lw_m3 197 rfl) rfl
theorem q753 : (Jvm.Cond.methodLinkNest "GaugeBlocks$Reader" (46 : Nat) ({ cls := "GaugeBlocks", name := "isIn", desc := "(III)Z" } : Jvm.MethodName) "GaugeBlocks") ∈ lw_tbl := lw_at lw_m3 198 rfl
theorem q756 : (Jvm.Cond.methodLink "GaugeBlocks$Reader" (50 : Nat) ({ cls := "GaugeBlocks$Reader", name := "canBegin", desc := "(III)Z" } : Jvm.MethodName)) ∈ lw_all := lw_g (lw_at lw_m3 201 rfl) rfl
theorem q757 : (Jvm.Cond.privateMethod ({ cls := "GaugeBlocks$Reader", name := "canBegin", desc := "(III)Z" } : Jvm.MethodName)) ∈ lw_tbl := lw_at lw_m3 202 rfl
theorem q758 : (Jvm.Cond.instanceMethod ({ cls := "GaugeBlocks$Reader", name := "canBegin", desc := "(III)Z" } : Jvm.MethodName)) ∈ lw_all := lw_g (lw_at lw_m3 203 rfl) rfl
theorem q759 : (Jvm.Cond.code ({ cls := "GaugeBlocks$Reader", name := "canBegin", desc := "(III)Z" } : Jvm.MethodName) prog_7_method_5_code (7 : Nat) (Option.some Jvm.ClassFile.FieldType.boolean)) ∈ lw_all := lw_g (lw_at lw_m3 204 rfl) rfl
theorem q760 : (Jvm.Cond.methodLink "GaugeBlocks$Reader" (60 : Nat) ({ cls := "GaugeBlocks$Command", name := "<init>", desc := "(C[I)V" } : Jvm.MethodName)) ∈ lw_all := lw_g (lw_at lw_m3 205 rfl) rfl
theorem q773 : (Jvm.Cond.methodLink "GaugeBlocks$Reader" (63 : Nat) ({ cls := "GaugeBlocks$Reader", name := "sign", desc := "(C)V" } : Jvm.MethodName)) ∈ lw_all := lw_g (lw_at lw_m3 218 rfl) rfl
theorem q774 : (Jvm.Cond.privateMethod ({ cls := "GaugeBlocks$Reader", name := "sign", desc := "(C)V" } : Jvm.MethodName)) ∈ lw_tbl := lw_at lw_m3 219 rfl
theorem q775 : (Jvm.Cond.instanceMethod ({ cls := "GaugeBlocks$Reader", name := "sign", desc := "(C)V" } : Jvm.MethodName)) ∈ lw_all := lw_g (lw_at lw_m3 220 rfl) rfl
theorem q776 : (Jvm.Cond.code ({ cls := "GaugeBlocks$Reader", name := "sign", desc := "(C)V" } : Jvm.MethodName) prog_7_method_4_code (2 : Nat) (Option.none : Option Jvm.ClassFile.FieldType)) ∈ lw_all := lw_g (lw_at lw_m3 221 rfl) rfl
theorem q777 : (Jvm.Cond.methodLink "GaugeBlocks$Reader" (74 : Nat) ({ cls := "java/util/ArrayList", name := "add", desc := "(Ljava/lang/Object;)Z" } : Jvm.MethodName)) ∈ lw_all := lw_g (lw_at lw_m3 222 rfl) rfl
theorem q2425 : (Jvm.Cond.castable "GaugeBlocks$Reader" "java/lang/Object") ∈ lw_tbl := lw_at lw_m10 190 rfl
theorem in_X6 : ∀ w ∈ wsX60, w ∈ lw_all := lw_in wsX60 [685, 687] (by decide +kernel) (by decide +kernel)

/-! GaugeBlocks$SyntaxFault -/
set_option maxRecDepth 100000
def RX7 : String := "GaugeBlocks$SyntaxFault"
def TX7 : u_T := fun k => match k with
  | 0 => ("java/lang/Throwable", "cause", "Ljava/lang/Throwable;", false)
  | 1 => ("java/lang/Throwable", "stackTrace", "[Ljava/lang/StackTraceElement;", false)
  | 2 => ("java/lang/Throwable", "suppressedExceptions", "Ljava/util/List;", false)
  | 3 => ("java/lang/Throwable", "detailMessage", "Ljava/lang/String;", false)
  | 4 => ("java/lang/Throwable", "backtrace", "Ljava/lang/Object;", false)
  | 5 => ("java/lang/Throwable", "depth", "I", false)
  | _ => ("GaugeBlocks$SyntaxFault", "place", "I", true)
def tyX7 : Nat → FieldType := fun k => match k with
  | 0 => .object "java/lang/Throwable"
  | 1 => .array (.object "java/lang/StackTraceElement")
  | 2 => .object "java/util/List"
  | 3 => .object "java/lang/String"
  | 4 => .object "java/lang/Object"
  | 5 => .int
  | _ => .int
abbrev wsX70 : List Cond := u_ws RX7 TX7 7
theorem nmX7 : ∀ a, a < 7 → ∀ b, b < 7 → a ≠ b → (TX7 a).2.1 ≠ (TX7 b).2.1 := by decide +kernel
theorem tyX7_ok : ∀ k, k < 7 → parseFieldDescriptor (TX7 k).2.2.1 = some (tyX7 k) := by decide +kernel
abbrev cX7_init : ByteArray := prog_9_method_1_code
def yX7_init : MethodName := ⟨RX7, "<init>", "(I)V"⟩
def dkwX7_init_0 : List UInt8 := [42, 183, 0, 1, 42, 27, 181, 0, 7, 177]
abbrev dktX7_init_0 : List UInt8 := dkwX7_init_0 ++ []
theorem dksX7_init_0 : cX7_init.data.toList.drop 0 = dktX7_init_0 := by decide +kernel
theorem dX7_init_0 : decode cX7_init 0 = .ok (.aload_n 0, 1) := dk_42 (dk_at dksX7_init_0 0 rfl rfl)
theorem dX7_init_1 : decode cX7_init 1 = .ok (.invokespecial 1, 3) := dk_183 0 1 (dk_at dksX7_init_0 1 rfl rfl)
theorem dX7_init_4 : decode cX7_init 4 = .ok (.aload_n 0, 1) := dk_42 (dk_at dksX7_init_0 4 rfl rfl)
theorem dX7_init_5 : decode cX7_init 5 = .ok (.iload_n 1, 1) := dk_27 (dk_at dksX7_init_0 5 rfl rfl)
theorem dX7_init_6 : decode cX7_init 6 = .ok (.putfield 7, 3) := dk_181 0 7 (dk_at dksX7_init_0 6 rfl rfl)
theorem dX7_init_9 : decode cX7_init 9 = .ok (.return_, 1) := dk_177 (dk_at dksX7_init_0 9 rfl rfl)
theorem q107 : (Jvm.Cond.initialized "GaugeBlocks$SyntaxFault") ∈ lw_all := lw_g (lw_at lw_m1 32 rfl) rfl
theorem q208 : (Jvm.Cond.selects "GaugeBlocks$SyntaxFault" ({ cls := "java/lang/Object", name := "getClass", desc := "()Ljava/lang/Class;" } : Jvm.MethodName) ({ cls := "java/lang/Object", name := "getClass", desc := "()Ljava/lang/Class;" } : Jvm.MethodName)) ∈ lw_all := lw_g (lw_at lw_m1 133 rfl) rfl
theorem q556 : (Jvm.Cond.selects "GaugeBlocks$SyntaxFault" ({ cls := "java/lang/Throwable", name := "fillInStackTrace", desc := "()Ljava/lang/Throwable;" } : Jvm.MethodName) ({ cls := "java/lang/Throwable", name := "fillInStackTrace", desc := "()Ljava/lang/Throwable;" } : Jvm.MethodName)) ∈ lw_all := lw_g (lw_at lw_m3 1 rfl) rfl
theorem q725 : (Jvm.Cond.instantiable "GaugeBlocks$SyntaxFault" (7 : Nat)) ∈ lw_all := lw_g (lw_at lw_m3 170 rfl) rfl
theorem q726 : (Jvm.Cond.castable "GaugeBlocks$SyntaxFault" "GaugeBlocks$SyntaxFault") ∈ lw_tbl := lw_at lw_m3 171 rfl
theorem q727 : (Jvm.Cond.selects "GaugeBlocks$SyntaxFault" ({ cls := "java/lang/Throwable", name := "fillInStackTrace", desc := "(I)Ljava/lang/Throwable;" } : Jvm.MethodName) ({ cls := "java/lang/Throwable", name := "fillInStackTrace", desc := "(I)Ljava/lang/Throwable;" } : Jvm.MethodName)) ∈ lw_all := lw_g (lw_at lw_m3 172 rfl) rfl
theorem q728 : (Jvm.Cond.lays "GaugeBlocks$SyntaxFault" "java/lang/Throwable" "cause" "Ljava/lang/Throwable;") ∈ lw_all := lw_g (lw_at lw_m3 173 rfl) rfl
theorem q729 : (Jvm.Cond.lays "GaugeBlocks$SyntaxFault" "java/lang/Throwable" "stackTrace" "[Ljava/lang/StackTraceElement;") ∈ lw_all := lw_g (lw_at lw_m3 174 rfl) rfl
theorem q730 : (Jvm.Cond.lays "GaugeBlocks$SyntaxFault" "java/lang/Throwable" "suppressedExceptions" "Ljava/util/List;") ∈ lw_all := lw_g (lw_at lw_m3 175 rfl) rfl
theorem q731 : (Jvm.Cond.lays "GaugeBlocks$SyntaxFault" "java/lang/Throwable" "detailMessage" "Ljava/lang/String;") ∈ lw_all := lw_g (lw_at lw_m3 176 rfl) rfl
theorem q732 : (Jvm.Cond.lays "GaugeBlocks$SyntaxFault" "java/lang/Throwable" "backtrace" "Ljava/lang/Object;") ∈ lw_all := lw_g (lw_at lw_m3 177 rfl) rfl
theorem q734 : (Jvm.Cond.instanceMethod ({ cls := "GaugeBlocks$SyntaxFault", name := "<init>", desc := "(I)V" } : Jvm.MethodName)) ∈ lw_all := lw_g (lw_at lw_m3 179 rfl) rfl
theorem q735 : (Jvm.Cond.code ({ cls := "GaugeBlocks$SyntaxFault", name := "<init>", desc := "(I)V" } : Jvm.MethodName) prog_9_method_1_code (2 : Nat) (Option.none : Option Jvm.ClassFile.FieldType)) ∈ lw_all := lw_g (lw_at lw_m3 180 rfl) rfl
theorem q736 : (Jvm.Cond.methodLink "GaugeBlocks$SyntaxFault" (1 : Nat) ({ cls := "java/lang/Exception", name := "<init>", desc := "()V" } : Jvm.MethodName)) ∈ lw_all := lw_g (lw_at lw_m3 181 rfl) rfl
theorem q740 : (Jvm.Cond.fieldLink "GaugeBlocks$SyntaxFault" (7 : Nat) "GaugeBlocks$SyntaxFault" "place" "I") ∈ lw_all := lw_g (lw_at lw_m3 185 rfl) rfl
theorem q742 : (Jvm.Cond.laysFinal "GaugeBlocks$SyntaxFault" "GaugeBlocks$SyntaxFault" "place" "I") ∈ lw_all := lw_g (lw_at lw_m3 187 rfl) rfl
theorem q743 : (Jvm.Cond.soleField "GaugeBlocks$SyntaxFault" "place") ∈ lw_all := lw_g (lw_at lw_m3 188 rfl) rfl
theorem q744 : (Jvm.Cond.lays "GaugeBlocks$SyntaxFault" "java/lang/Throwable" "depth" "I") ∈ lw_all := lw_g (lw_at lw_m3 189 rfl) rfl
theorem q745 : (Jvm.Cond.superclass "GaugeBlocks$SyntaxFault" "java/lang/Exception") ∈ lw_all := lw_g (lw_at lw_m3 190 rfl) rfl
theorem q2426 : (Jvm.Cond.castable "GaugeBlocks$SyntaxFault" "java/lang/Object") ∈ lw_tbl := lw_at lw_m10 191 rfl
theorem in_X7 : ∀ w ∈ wsX70, w ∈ lw_all := lw_in wsX70 [728, 729, 730, 731, 732, 744, 742] (by decide +kernel) (by decide +kernel)

/-! GaugeBlocks$Command -/
set_option maxRecDepth 100000
def RX8 : String := "GaugeBlocks$Command"
def TX8 : u_T := fun k => match k with
  | 0 => ("GaugeBlocks$Command", "letter", "C", true)
  | _ => ("GaugeBlocks$Command", "numbers", "[I", true)
def tyX8 : Nat → FieldType := fun k => match k with
  | 0 => .char
  | _ => .array .int
abbrev wsX80 : List Cond := u_ws RX8 TX8 2
theorem nmX8 : ∀ a, a < 2 → ∀ b, b < 2 → a ≠ b → (TX8 a).2.1 ≠ (TX8 b).2.1 := by decide +kernel
theorem tyX8_ok : ∀ k, k < 2 → parseFieldDescriptor (TX8 k).2.2.1 = some (tyX8 k) := by decide +kernel
abbrev cX8_init : ByteArray := prog_3_method_1_code
def yX8_init : MethodName := ⟨RX8, "<init>", "(C[I)V"⟩
def dkwX8_init_0 : List UInt8 := [42, 183, 0, 1, 42, 27, 181, 0, 7, 42, 44, 181, 0, 13, 177]
abbrev dktX8_init_0 : List UInt8 := dkwX8_init_0 ++ []
theorem dksX8_init_0 : cX8_init.data.toList.drop 0 = dktX8_init_0 := by decide +kernel
theorem dX8_init_0 : decode cX8_init 0 = .ok (.aload_n 0, 1) := dk_42 (dk_at dksX8_init_0 0 rfl rfl)
theorem dX8_init_1 : decode cX8_init 1 = .ok (.invokespecial 1, 3) := dk_183 0 1 (dk_at dksX8_init_0 1 rfl rfl)
theorem dX8_init_4 : decode cX8_init 4 = .ok (.aload_n 0, 1) := dk_42 (dk_at dksX8_init_0 4 rfl rfl)
theorem dX8_init_5 : decode cX8_init 5 = .ok (.iload_n 1, 1) := dk_27 (dk_at dksX8_init_0 5 rfl rfl)
theorem dX8_init_6 : decode cX8_init 6 = .ok (.putfield 7, 3) := dk_181 0 7 (dk_at dksX8_init_0 6 rfl rfl)
theorem dX8_init_9 : decode cX8_init 9 = .ok (.aload_n 0, 1) := dk_42 (dk_at dksX8_init_0 9 rfl rfl)
theorem dX8_init_10 : decode cX8_init 10 = .ok (.aload_n 2, 1) := dk_44 (dk_at dksX8_init_0 10 rfl rfl)
theorem dX8_init_11 : decode cX8_init 11 = .ok (.putfield 13, 3) := dk_181 0 13 (dk_at dksX8_init_0 11 rfl rfl)
theorem dX8_init_14 : decode cX8_init 14 = .ok (.return_, 1) := dk_177 (dk_at dksX8_init_0 14 rfl rfl)
theorem q108 : (Jvm.Cond.initialized "GaugeBlocks$Command") ∈ lw_all := lw_g (lw_at lw_m1 33 rfl) rfl
theorem q202 : (Jvm.Cond.selects "GaugeBlocks$Command" ({ cls := "java/lang/Object", name := "getClass", desc := "()Ljava/lang/Class;" } : Jvm.MethodName) ({ cls := "java/lang/Object", name := "getClass", desc := "()Ljava/lang/Class;" } : Jvm.MethodName)) ∈ lw_all := lw_g (lw_at lw_m1 127 rfl) rfl
theorem q747 : (Jvm.Cond.instantiable "GaugeBlocks$Command" (2 : Nat)) ∈ lw_all := lw_g (lw_at lw_m3 192 rfl) rfl
theorem q761 : (Jvm.Cond.instanceMethod ({ cls := "GaugeBlocks$Command", name := "<init>", desc := "(C[I)V" } : Jvm.MethodName)) ∈ lw_all := lw_g (lw_at lw_m3 206 rfl) rfl
theorem q762 : (Jvm.Cond.code ({ cls := "GaugeBlocks$Command", name := "<init>", desc := "(C[I)V" } : Jvm.MethodName) prog_3_method_1_code (3 : Nat) (Option.none : Option Jvm.ClassFile.FieldType)) ∈ lw_all := lw_g (lw_at lw_m3 207 rfl) rfl
theorem q763 : (Jvm.Cond.methodLink "GaugeBlocks$Command" (1 : Nat) ({ cls := "java/lang/Object", name := "<init>", desc := "()V" } : Jvm.MethodName)) ∈ lw_all := lw_g (lw_at lw_m3 208 rfl) rfl
theorem q764 : (Jvm.Cond.fieldLink "GaugeBlocks$Command" (7 : Nat) "GaugeBlocks$Command" "letter" "C") ∈ lw_all := lw_g (lw_at lw_m3 209 rfl) rfl
theorem q766 : (Jvm.Cond.fieldLink "GaugeBlocks$Command" (13 : Nat) "GaugeBlocks$Command" "numbers" "[I") ∈ lw_all := lw_g (lw_at lw_m3 211 rfl) rfl
theorem q768 : (Jvm.Cond.laysFinal "GaugeBlocks$Command" "GaugeBlocks$Command" "letter" "C") ∈ lw_all := lw_g (lw_at lw_m3 213 rfl) rfl
theorem q769 : (Jvm.Cond.soleField "GaugeBlocks$Command" "letter") ∈ lw_all := lw_g (lw_at lw_m3 214 rfl) rfl
theorem q770 : (Jvm.Cond.laysFinal "GaugeBlocks$Command" "GaugeBlocks$Command" "numbers" "[I") ∈ lw_all := lw_g (lw_at lw_m3 215 rfl) rfl
theorem q771 : (Jvm.Cond.soleField "GaugeBlocks$Command" "numbers") ∈ lw_all := lw_g (lw_at lw_m3 216 rfl) rfl
theorem q772 : (Jvm.Cond.superclass "GaugeBlocks$Command" "java/lang/Object") ∈ lw_all := lw_g (lw_at lw_m3 217 rfl) rfl
theorem q2427 : (Jvm.Cond.castable "GaugeBlocks$Command" "java/lang/Object") ∈ lw_tbl := lw_at lw_m10 192 rfl
theorem in_X8 : ∀ w ∈ wsX80, w ∈ lw_all := lw_in wsX80 [768, 770] (by decide +kernel) (by decide +kernel)

/-! GaugeBlocks$Order -/
set_option maxRecDepth 100000
def RX9 : String := "GaugeBlocks$Order"
def TX9 : u_T := fun k => match k with
  | _ => ("GaugeBlocks$Order", "how", "I", true)
def tyX9 : Nat → FieldType := fun k => match k with
  | _ => .int
abbrev wsX90 : List Cond := u_ws RX9 TX9 1
theorem nmX9 : ∀ a, a < 1 → ∀ b, b < 1 → a ≠ b → (TX9 a).2.1 ≠ (TX9 b).2.1 := by decide +kernel
theorem tyX9_ok : ∀ k, k < 1 → parseFieldDescriptor (TX9 k).2.2.1 = some (tyX9 k) := by decide +kernel
abbrev cX9_init : ByteArray := prog_6_method_1_code
def yX9_init : MethodName := ⟨RX9, "<init>", "(I)V"⟩
def dkwX9_init_0 : List UInt8 := [42, 183, 0, 1, 42, 27, 181, 0, 7, 177]
abbrev dktX9_init_0 : List UInt8 := dkwX9_init_0 ++ []
theorem dksX9_init_0 : cX9_init.data.toList.drop 0 = dktX9_init_0 := by decide +kernel
theorem dX9_init_0 : decode cX9_init 0 = .ok (.aload_n 0, 1) := dk_42 (dk_at dksX9_init_0 0 rfl rfl)
theorem dX9_init_1 : decode cX9_init 1 = .ok (.invokespecial 1, 3) := dk_183 0 1 (dk_at dksX9_init_0 1 rfl rfl)
theorem dX9_init_4 : decode cX9_init 4 = .ok (.aload_n 0, 1) := dk_42 (dk_at dksX9_init_0 4 rfl rfl)
theorem dX9_init_5 : decode cX9_init 5 = .ok (.iload_n 1, 1) := dk_27 (dk_at dksX9_init_0 5 rfl rfl)
theorem dX9_init_6 : decode cX9_init 6 = .ok (.putfield 7, 3) := dk_181 0 7 (dk_at dksX9_init_0 6 rfl rfl)
theorem dX9_init_9 : decode cX9_init 9 = .ok (.return_, 1) := dk_177 (dk_at dksX9_init_0 9 rfl rfl)
abbrev cX9_compare : ByteArray := prog_6_method_4_code
def yX9_compare : MethodName := ⟨RX9, "compare", "(Ljava/lang/Object;Ljava/lang/Object;)I"⟩
def dkwX9_compare_0 : List UInt8 := [42, 43, 192, 0, 32, 44, 192, 0, 32, 182, 0, 50, 172]
abbrev dktX9_compare_0 : List UInt8 := dkwX9_compare_0 ++ []
theorem dksX9_compare_0 : cX9_compare.data.toList.drop 0 = dktX9_compare_0 := by decide +kernel
theorem dX9_compare_0 : decode cX9_compare 0 = .ok (.aload_n 0, 1) := dk_42 (dk_at dksX9_compare_0 0 rfl rfl)
theorem dX9_compare_1 : decode cX9_compare 1 = .ok (.aload_n 1, 1) := dk_43 (dk_at dksX9_compare_0 1 rfl rfl)
theorem dX9_compare_2 : decode cX9_compare 2 = .ok (.checkcast 32, 3) := dk_192 0 32 (dk_at dksX9_compare_0 2 rfl rfl)
theorem dX9_compare_5 : decode cX9_compare 5 = .ok (.aload_n 2, 1) := dk_44 (dk_at dksX9_compare_0 5 rfl rfl)
theorem dX9_compare_6 : decode cX9_compare 6 = .ok (.checkcast 32, 3) := dk_192 0 32 (dk_at dksX9_compare_0 6 rfl rfl)
theorem dX9_compare_9 : decode cX9_compare 9 = .ok (.invokevirtual 50, 3) := dk_182 0 50 (dk_at dksX9_compare_0 9 rfl rfl)
theorem dX9_compare_12 : decode cX9_compare 12 = .ok (.ireturn, 1) := dk_172 (dk_at dksX9_compare_0 12 rfl rfl)
abbrev cX9_compare_2 : ByteArray := prog_6_method_3_code
def yX9_compare_2 : MethodName := ⟨RX9, "compare", "(LGaugeBlocks$Numbered;LGaugeBlocks$Numbered;)I"⟩
def dkwX9_compare_2_1 : List UInt8 := [159, 0, 12, 29, 21, 4, 184, 0, 41, 167, 0, 14, 43, 180, 0, 47, 44, 180, 0, 47, 184, 0, 41, 172]
abbrev dktX9_compare_2_1 : List UInt8 := dkwX9_compare_2_1 ++ []
def dkwX9_compare_2_0 : List UInt8 := [42, 43, 180, 0, 31, 182, 0, 37, 62, 42, 44, 180, 0, 31, 182, 0, 37, 54, 4, 29, 21, 4]
abbrev dktX9_compare_2_0 : List UInt8 := dkwX9_compare_2_0 ++ dktX9_compare_2_1
theorem dksX9_compare_2_0 : cX9_compare_2.data.toList.drop 0 = dktX9_compare_2_0 := by decide +kernel
theorem dksX9_compare_2_1 : cX9_compare_2.data.toList.drop 22 = dktX9_compare_2_1 := dk_seg dksX9_compare_2_0 22 rfl rfl
theorem dX9_compare_2_0 : decode cX9_compare_2 0 = .ok (.aload_n 0, 1) := dk_42 (dk_at dksX9_compare_2_0 0 rfl rfl)
theorem dX9_compare_2_1 : decode cX9_compare_2 1 = .ok (.aload_n 1, 1) := dk_43 (dk_at dksX9_compare_2_0 1 rfl rfl)
theorem dX9_compare_2_2 : decode cX9_compare_2 2 = .ok (.getfield 31, 3) := dk_180 0 31 (dk_at dksX9_compare_2_0 2 rfl rfl)
theorem dX9_compare_2_5 : decode cX9_compare_2 5 = .ok (.invokevirtual 37, 3) := dk_182 0 37 (dk_at dksX9_compare_2_0 5 rfl rfl)
theorem dX9_compare_2_8 : decode cX9_compare_2 8 = .ok (.istore_n 3, 1) := dk_62 (dk_at dksX9_compare_2_0 8 rfl rfl)
theorem dX9_compare_2_9 : decode cX9_compare_2 9 = .ok (.aload_n 0, 1) := dk_42 (dk_at dksX9_compare_2_0 9 rfl rfl)
theorem dX9_compare_2_10 : decode cX9_compare_2 10 = .ok (.aload_n 2, 1) := dk_44 (dk_at dksX9_compare_2_0 10 rfl rfl)
theorem dX9_compare_2_11 : decode cX9_compare_2 11 = .ok (.getfield 31, 3) := dk_180 0 31 (dk_at dksX9_compare_2_0 11 rfl rfl)
theorem dX9_compare_2_14 : decode cX9_compare_2 14 = .ok (.invokevirtual 37, 3) := dk_182 0 37 (dk_at dksX9_compare_2_0 14 rfl rfl)
theorem dX9_compare_2_17 : decode cX9_compare_2 17 = .ok (.istore 4, 2) := dk_54 4 (dk_at dksX9_compare_2_0 17 rfl rfl)
theorem dX9_compare_2_19 : decode cX9_compare_2 19 = .ok (.iload_n 3, 1) := dk_29 (dk_at dksX9_compare_2_0 19 rfl rfl)
theorem dX9_compare_2_20 : decode cX9_compare_2 20 = .ok (.iload 4, 2) := dk_21 4 (dk_at dksX9_compare_2_0 20 rfl rfl)
theorem dX9_compare_2_22 : decode cX9_compare_2 22 = .ok (.if_icmp .eq 12, 3) := dk_159 0 12 (dk_at dksX9_compare_2_1 0 rfl rfl)
theorem dX9_compare_2_25 : decode cX9_compare_2 25 = .ok (.iload_n 3, 1) := dk_29 (dk_at dksX9_compare_2_1 3 rfl rfl)
theorem dX9_compare_2_26 : decode cX9_compare_2 26 = .ok (.iload 4, 2) := dk_21 4 (dk_at dksX9_compare_2_1 4 rfl rfl)
theorem dX9_compare_2_28 : decode cX9_compare_2 28 = .ok (.invokestatic 41, 3) := dk_184 0 41 (dk_at dksX9_compare_2_1 6 rfl rfl)
theorem dX9_compare_2_31 : decode cX9_compare_2 31 = .ok (.goto 14, 3) := dk_167 0 14 (dk_at dksX9_compare_2_1 9 rfl rfl)
theorem dX9_compare_2_34 : decode cX9_compare_2 34 = .ok (.aload_n 1, 1) := dk_43 (dk_at dksX9_compare_2_1 12 rfl rfl)
theorem dX9_compare_2_35 : decode cX9_compare_2 35 = .ok (.getfield 47, 3) := dk_180 0 47 (dk_at dksX9_compare_2_1 13 rfl rfl)
theorem dX9_compare_2_38 : decode cX9_compare_2 38 = .ok (.aload_n 2, 1) := dk_44 (dk_at dksX9_compare_2_1 16 rfl rfl)
theorem dX9_compare_2_39 : decode cX9_compare_2 39 = .ok (.getfield 47, 3) := dk_180 0 47 (dk_at dksX9_compare_2_1 17 rfl rfl)
theorem dX9_compare_2_42 : decode cX9_compare_2 42 = .ok (.invokestatic 41, 3) := dk_184 0 41 (dk_at dksX9_compare_2_1 20 rfl rfl)
theorem dX9_compare_2_45 : decode cX9_compare_2 45 = .ok (.ireturn, 1) := dk_172 (dk_at dksX9_compare_2_1 23 rfl rfl)
abbrev cX9_key : ByteArray := prog_6_method_2_code
def yX9_key : MethodName := ⟨RX9, "key", "(LGaugeBlocks$Block;)I"⟩
def dkwX9_key_1 : List UInt8 := [180, 0, 18, 116, 167, 0, 11, 43, 182, 0, 21, 184, 0, 25, 116, 172]
abbrev dktX9_key_1 : List UInt8 := dkwX9_key_1 ++ []
def dkwX9_key_0 : List UInt8 := [42, 180, 0, 7, 154, 0, 10, 43, 180, 0, 13, 167, 0, 27, 42, 180, 0, 7, 4, 160, 0, 11, 43]
abbrev dktX9_key_0 : List UInt8 := dkwX9_key_0 ++ dktX9_key_1
theorem dksX9_key_0 : cX9_key.data.toList.drop 0 = dktX9_key_0 := by decide +kernel
theorem dksX9_key_1 : cX9_key.data.toList.drop 23 = dktX9_key_1 := dk_seg dksX9_key_0 23 rfl rfl
theorem dX9_key_0 : decode cX9_key 0 = .ok (.aload_n 0, 1) := dk_42 (dk_at dksX9_key_0 0 rfl rfl)
theorem dX9_key_1 : decode cX9_key 1 = .ok (.getfield 7, 3) := dk_180 0 7 (dk_at dksX9_key_0 1 rfl rfl)
theorem dX9_key_4 : decode cX9_key 4 = .ok (.ifCond .ne 10, 3) := dk_154 0 10 (dk_at dksX9_key_0 4 rfl rfl)
theorem dX9_key_7 : decode cX9_key 7 = .ok (.aload_n 1, 1) := dk_43 (dk_at dksX9_key_0 7 rfl rfl)
theorem dX9_key_8 : decode cX9_key 8 = .ok (.getfield 13, 3) := dk_180 0 13 (dk_at dksX9_key_0 8 rfl rfl)
theorem dX9_key_11 : decode cX9_key 11 = .ok (.goto 27, 3) := dk_167 0 27 (dk_at dksX9_key_0 11 rfl rfl)
theorem dX9_key_14 : decode cX9_key 14 = .ok (.aload_n 0, 1) := dk_42 (dk_at dksX9_key_0 14 rfl rfl)
theorem dX9_key_15 : decode cX9_key 15 = .ok (.getfield 7, 3) := dk_180 0 7 (dk_at dksX9_key_0 15 rfl rfl)
theorem dX9_key_18 : decode cX9_key 18 = .ok (.iconst 1, 1) := dk_4 (dk_at dksX9_key_0 18 rfl rfl)
theorem dX9_key_19 : decode cX9_key 19 = .ok (.if_icmp .ne 11, 3) := dk_160 0 11 (dk_at dksX9_key_0 19 rfl rfl)
theorem dX9_key_22 : decode cX9_key 22 = .ok (.aload_n 1, 1) := dk_43 (dk_at dksX9_key_0 22 rfl rfl)
theorem dX9_key_23 : decode cX9_key 23 = .ok (.getfield 18, 3) := dk_180 0 18 (dk_at dksX9_key_1 0 rfl rfl)
theorem dX9_key_26 : decode cX9_key 26 = .ok (.ineg, 1) := dk_116 (dk_at dksX9_key_1 3 rfl rfl)
theorem dX9_key_27 : decode cX9_key 27 = .ok (.goto 11, 3) := dk_167 0 11 (dk_at dksX9_key_1 4 rfl rfl)
theorem dX9_key_30 : decode cX9_key 30 = .ok (.aload_n 1, 1) := dk_43 (dk_at dksX9_key_1 7 rfl rfl)
theorem dX9_key_31 : decode cX9_key 31 = .ok (.invokevirtual 21, 3) := dk_182 0 21 (dk_at dksX9_key_1 8 rfl rfl)
theorem dX9_key_34 : decode cX9_key 34 = .ok (.invokestatic 25, 3) := dk_184 0 25 (dk_at dksX9_key_1 11 rfl rfl)
theorem dX9_key_37 : decode cX9_key 37 = .ok (.ineg, 1) := dk_116 (dk_at dksX9_key_1 14 rfl rfl)
theorem dX9_key_38 : decode cX9_key 38 = .ok (.ireturn, 1) := dk_172 (dk_at dksX9_key_1 15 rfl rfl)
theorem q111 : (Jvm.Cond.initialized "GaugeBlocks$Order") ∈ lw_all := lw_g (lw_at lw_m1 36 rfl) rfl
theorem q205 : (Jvm.Cond.selects "GaugeBlocks$Order" ({ cls := "java/lang/Object", name := "getClass", desc := "()Ljava/lang/Class;" } : Jvm.MethodName) ({ cls := "java/lang/Object", name := "getClass", desc := "()Ljava/lang/Class;" } : Jvm.MethodName)) ∈ lw_all := lw_g (lw_at lw_m1 130 rfl) rfl
theorem q961 : (Jvm.Cond.fieldLink "GaugeBlocks$Order" (13 : Nat) "GaugeBlocks$Block" "nominal" "I") ∈ lw_all := lw_g (lw_at lw_m4 166 rfl) rfl
theorem q968 : (Jvm.Cond.fieldLink "GaugeBlocks$Order" (18 : Nat) "GaugeBlocks$Block" "warmth" "I") ∈ lw_all := lw_g (lw_at lw_m4 173 rfl) rfl
theorem q1340 : (Jvm.Cond.instantiable "GaugeBlocks$Order" (1 : Nat)) ∈ lw_all := lw_g (lw_at lw_m6 65 rfl) rfl
theorem q1342 : (Jvm.Cond.instanceMethod ({ cls := "GaugeBlocks$Order", name := "<init>", desc := "(I)V" } : Jvm.MethodName)) ∈ lw_all := lw_g (lw_at lw_m6 67 rfl) rfl
theorem q1343 : (Jvm.Cond.code ({ cls := "GaugeBlocks$Order", name := "<init>", desc := "(I)V" } : Jvm.MethodName) prog_6_method_1_code (2 : Nat) (Option.none : Option Jvm.ClassFile.FieldType)) ∈ lw_all := lw_g (lw_at lw_m6 68 rfl) rfl
theorem q1344 : (Jvm.Cond.methodLink "GaugeBlocks$Order" (1 : Nat) ({ cls := "java/lang/Object", name := "<init>", desc := "()V" } : Jvm.MethodName)) ∈ lw_all := lw_g (lw_at lw_m6 69 rfl) rfl
theorem q1345 : (Jvm.Cond.fieldLink "GaugeBlocks$Order" (7 : Nat) "GaugeBlocks$Order" "how" "I") ∈ lw_all := lw_g (lw_at lw_m6 70 rfl) rfl
theorem q1346 : (Jvm.Cond.laysFinal "GaugeBlocks$Order" "GaugeBlocks$Order" "how" "I") ∈ lw_all := lw_g (lw_at lw_m6 71 rfl) rfl
theorem q1347 : (Jvm.Cond.soleField "GaugeBlocks$Order" "how") ∈ lw_all := lw_g (lw_at lw_m6 72 rfl) rfl
theorem q1348 : (Jvm.Cond.superclass "GaugeBlocks$Order" "java/lang/Object") ∈ lw_all := lw_g (lw_at lw_m6 73 rfl) rfl
theorem q1382 : (Jvm.Cond.fieldLink "GaugeBlocks$Order" (47 : Nat) "GaugeBlocks$Numbered" "number" "I") ∈ lw_all := lw_g (lw_at lw_m6 107 rfl) rfl
theorem q1385 : (Jvm.Cond.fieldLink "GaugeBlocks$Order" (31 : Nat) "GaugeBlocks$Numbered" "block" "LGaugeBlocks$Block;") ∈ lw_all := lw_g (lw_at lw_m6 110 rfl) rfl
theorem q1416 : (Jvm.Cond.castable "GaugeBlocks$Order" "java/util/Comparator") ∈ lw_tbl := lw_at lw_m6 141 rfl
theorem q1417 : (Jvm.Cond.selects "GaugeBlocks$Order" ({ cls := "java/util/Comparator", name := "compare", desc := "(Ljava/lang/Object;Ljava/lang/Object;)I" } : Jvm.MethodName) ({ cls := "GaugeBlocks$Order", name := "compare", desc := "(Ljava/lang/Object;Ljava/lang/Object;)I" } : Jvm.MethodName)) ∈ lw_all := lw_g (lw_at lw_m6 142 rfl) rfl
theorem q1418 : (Jvm.Cond.unhidden "GaugeBlocks$Order" "compare" "(Ljava/lang/Object;Ljava/lang/Object;)I") ∈ lw_tbl := lw_at lw_m6 143 rfl
theorem q1419 : (Jvm.Cond.instanceMethod ({ cls := "GaugeBlocks$Order", name := "compare", desc := "(Ljava/lang/Object;Ljava/lang/Object;)I" } : Jvm.MethodName)) ∈ lw_all := lw_g (lw_at lw_m6 144 rfl) rfl
theorem q1420 : (Jvm.Cond.publicMethod ({ cls := "GaugeBlocks$Order", name := "compare", desc := "(Ljava/lang/Object;Ljava/lang/Object;)I" } : Jvm.MethodName)) ∈ lw_tbl := lw_at lw_m6 145 rfl
theorem q1421 : (Jvm.Cond.code ({ cls := "GaugeBlocks$Order", name := "compare", desc := "(Ljava/lang/Object;Ljava/lang/Object;)I" } : Jvm.MethodName) prog_6_method_4_code (3 : Nat) (Option.some Jvm.ClassFile.FieldType.int)) ∈ lw_all := lw_g (lw_at lw_m6 146 rfl) rfl
theorem q1422 : (Jvm.Cond.classLink "GaugeBlocks$Order" (32 : Nat) "GaugeBlocks$Numbered") ∈ lw_all := lw_g (lw_at lw_m6 147 rfl) rfl
theorem q1423 : (Jvm.Cond.methodLink "GaugeBlocks$Order" (50 : Nat) ({ cls := "GaugeBlocks$Order", name := "compare", desc := "(LGaugeBlocks$Numbered;LGaugeBlocks$Numbered;)I" } : Jvm.MethodName)) ∈ lw_all := lw_g (lw_at lw_m6 148 rfl) rfl
theorem q1424 : (Jvm.Cond.instanceMethod ({ cls := "GaugeBlocks$Order", name := "compare", desc := "(LGaugeBlocks$Numbered;LGaugeBlocks$Numbered;)I" } : Jvm.MethodName)) ∈ lw_all := lw_g (lw_at lw_m6 149 rfl) rfl
theorem q1425 : (Jvm.Cond.selects "GaugeBlocks$Order" ({ cls := "GaugeBlocks$Order", name := "compare", desc := "(LGaugeBlocks$Numbered;LGaugeBlocks$Numbered;)I" } : Jvm.MethodName) ({ cls := "GaugeBlocks$Order", name := "compare", desc := "(LGaugeBlocks$Numbered;LGaugeBlocks$Numbered;)I" } : Jvm.MethodName)) ∈ lw_all := lw_g (lw_at lw_m6 150 rfl) rfl
theorem q1426 : (Jvm.Cond.code ({ cls := "GaugeBlocks$Order", name := "compare", desc := "(LGaugeBlocks$Numbered;LGaugeBlocks$Numbered;)I" } : Jvm.MethodName) prog_6_method_3_code (5 : Nat) (Option.some Jvm.ClassFile.FieldType.int)) ∈ lw_all := lw_g (lw_at lw_m6 151 rfl) rfl
theorem q1427 : (Jvm.Cond.methodLink "GaugeBlocks$Order" (37 : Nat) ({ cls := "GaugeBlocks$Order", name := "key", desc := "(LGaugeBlocks$Block;)I" } : Jvm.MethodName)) ∈ lw_all := lw_g (lw_at lw_m6 152 rfl) rfl
theorem q1428 : (Jvm.Cond.privateMethod ({ cls := "GaugeBlocks$Order", name := "key", desc := "(LGaugeBlocks$Block;)I" } : Jvm.MethodName)) ∈ lw_tbl := lw_at lw_m6 153 rfl
theorem q1429 : (Jvm.Cond.instanceMethod ({ cls := "GaugeBlocks$Order", name := "key", desc := "(LGaugeBlocks$Block;)I" } : Jvm.MethodName)) ∈ lw_all := lw_g (lw_at lw_m6 154 rfl) rfl
theorem q1430 : (Jvm.Cond.code ({ cls := "GaugeBlocks$Order", name := "key", desc := "(LGaugeBlocks$Block;)I" } : Jvm.MethodName) prog_6_method_2_code (2 : Nat) (Option.some Jvm.ClassFile.FieldType.int)) ∈ lw_all := lw_g (lw_at lw_m6 155 rfl) rfl
theorem q1431 : (Jvm.Cond.methodLink "GaugeBlocks$Order" (21 : Nat) ({ cls := "GaugeBlocks$Block", name := "error", desc := "()I" } : Jvm.MethodName)) ∈ lw_all := lw_g (lw_at lw_m6 156 rfl) rfl
theorem q1432 : (Jvm.Cond.methodLink "GaugeBlocks$Order" (25 : Nat) ({ cls := "java/lang/Math", name := "abs", desc := "(I)I" } : Jvm.MethodName)) ∈ lw_all := lw_g (lw_at lw_m6 157 rfl) rfl
theorem q1433 : (Jvm.Cond.methodLink "GaugeBlocks$Order" (41 : Nat) ({ cls := "java/lang/Integer", name := "compare", desc := "(II)I" } : Jvm.MethodName)) ∈ lw_all := lw_g (lw_at lw_m6 158 rfl) rfl
theorem q2429 : (Jvm.Cond.castable "GaugeBlocks$Order" "java/lang/Object") ∈ lw_tbl := lw_at lw_m10 194 rfl
theorem in_X9 : ∀ w ∈ wsX90, w ∈ lw_all := lw_in wsX90 [1346] (by decide +kernel) (by decide +kernel)

/-! GaugeBlocks$Numbered -/
set_option maxRecDepth 100000
def RX10 : String := "GaugeBlocks$Numbered"
def TX10 : u_T := fun k => match k with
  | 0 => ("GaugeBlocks$Numbered", "number", "I", true)
  | _ => ("GaugeBlocks$Numbered", "block", "LGaugeBlocks$Block;", true)
def tyX10 : Nat → FieldType := fun k => match k with
  | 0 => .int
  | _ => .object "GaugeBlocks$Block"
abbrev wsX100 : List Cond := u_ws RX10 TX10 2
theorem nmX10 : ∀ a, a < 2 → ∀ b, b < 2 → a ≠ b → (TX10 a).2.1 ≠ (TX10 b).2.1 := by decide +kernel
theorem tyX10_ok : ∀ k, k < 2 → parseFieldDescriptor (TX10 k).2.2.1 = some (tyX10 k) := by decide +kernel
abbrev cX10_init : ByteArray := prog_5_method_1_code
def yX10_init : MethodName := ⟨RX10, "<init>", "(ILGaugeBlocks$Block;)V"⟩
def dkwX10_init_0 : List UInt8 := [42, 183, 0, 1, 42, 27, 181, 0, 7, 42, 44, 181, 0, 13, 177]
abbrev dktX10_init_0 : List UInt8 := dkwX10_init_0 ++ []
theorem dksX10_init_0 : cX10_init.data.toList.drop 0 = dktX10_init_0 := by decide +kernel
theorem dX10_init_0 : decode cX10_init 0 = .ok (.aload_n 0, 1) := dk_42 (dk_at dksX10_init_0 0 rfl rfl)
theorem dX10_init_1 : decode cX10_init 1 = .ok (.invokespecial 1, 3) := dk_183 0 1 (dk_at dksX10_init_0 1 rfl rfl)
theorem dX10_init_4 : decode cX10_init 4 = .ok (.aload_n 0, 1) := dk_42 (dk_at dksX10_init_0 4 rfl rfl)
theorem dX10_init_5 : decode cX10_init 5 = .ok (.iload_n 1, 1) := dk_27 (dk_at dksX10_init_0 5 rfl rfl)
theorem dX10_init_6 : decode cX10_init 6 = .ok (.putfield 7, 3) := dk_181 0 7 (dk_at dksX10_init_0 6 rfl rfl)
theorem dX10_init_9 : decode cX10_init 9 = .ok (.aload_n 0, 1) := dk_42 (dk_at dksX10_init_0 9 rfl rfl)
theorem dX10_init_10 : decode cX10_init 10 = .ok (.aload_n 2, 1) := dk_44 (dk_at dksX10_init_0 10 rfl rfl)
theorem dX10_init_11 : decode cX10_init 11 = .ok (.putfield 13, 3) := dk_181 0 13 (dk_at dksX10_init_0 11 rfl rfl)
theorem dX10_init_14 : decode cX10_init 14 = .ok (.return_, 1) := dk_177 (dk_at dksX10_init_0 14 rfl rfl)
theorem q112 : (Jvm.Cond.initialized "GaugeBlocks$Numbered") ∈ lw_all := lw_g (lw_at lw_m1 37 rfl) rfl
theorem q204 : (Jvm.Cond.selects "GaugeBlocks$Numbered" ({ cls := "java/lang/Object", name := "getClass", desc := "()Ljava/lang/Class;" } : Jvm.MethodName) ({ cls := "java/lang/Object", name := "getClass", desc := "()Ljava/lang/Class;" } : Jvm.MethodName)) ∈ lw_all := lw_g (lw_at lw_m1 129 rfl) rfl
theorem q1376 : (Jvm.Cond.instantiable "GaugeBlocks$Numbered" (2 : Nat)) ∈ lw_all := lw_g (lw_at lw_m6 101 rfl) rfl
theorem q1378 : (Jvm.Cond.instanceMethod ({ cls := "GaugeBlocks$Numbered", name := "<init>", desc := "(ILGaugeBlocks$Block;)V" } : Jvm.MethodName)) ∈ lw_all := lw_g (lw_at lw_m6 103 rfl) rfl
theorem q1379 : (Jvm.Cond.code ({ cls := "GaugeBlocks$Numbered", name := "<init>", desc := "(ILGaugeBlocks$Block;)V" } : Jvm.MethodName) prog_5_method_1_code (3 : Nat) (Option.none : Option Jvm.ClassFile.FieldType)) ∈ lw_all := lw_g (lw_at lw_m6 104 rfl) rfl
theorem q1380 : (Jvm.Cond.methodLink "GaugeBlocks$Numbered" (1 : Nat) ({ cls := "java/lang/Object", name := "<init>", desc := "()V" } : Jvm.MethodName)) ∈ lw_all := lw_g (lw_at lw_m6 105 rfl) rfl
theorem q1381 : (Jvm.Cond.fieldLink "GaugeBlocks$Numbered" (7 : Nat) "GaugeBlocks$Numbered" "number" "I") ∈ lw_all := lw_g (lw_at lw_m6 106 rfl) rfl
theorem q1384 : (Jvm.Cond.fieldLink "GaugeBlocks$Numbered" (13 : Nat) "GaugeBlocks$Numbered" "block" "LGaugeBlocks$Block;") ∈ lw_all := lw_g (lw_at lw_m6 109 rfl) rfl
theorem q1386 : (Jvm.Cond.laysFinal "GaugeBlocks$Numbered" "GaugeBlocks$Numbered" "number" "I") ∈ lw_all := lw_g (lw_at lw_m6 111 rfl) rfl
theorem q1387 : (Jvm.Cond.soleField "GaugeBlocks$Numbered" "number") ∈ lw_all := lw_g (lw_at lw_m6 112 rfl) rfl
theorem q1388 : (Jvm.Cond.laysFinal "GaugeBlocks$Numbered" "GaugeBlocks$Numbered" "block" "LGaugeBlocks$Block;") ∈ lw_all := lw_g (lw_at lw_m6 113 rfl) rfl
theorem q1389 : (Jvm.Cond.soleField "GaugeBlocks$Numbered" "block") ∈ lw_all := lw_g (lw_at lw_m6 114 rfl) rfl
theorem q1390 : (Jvm.Cond.superclass "GaugeBlocks$Numbered" "java/lang/Object") ∈ lw_all := lw_g (lw_at lw_m6 115 rfl) rfl
theorem q2430 : (Jvm.Cond.castable "GaugeBlocks$Numbered" "java/lang/Object") ∈ lw_tbl := lw_at lw_m10 195 rfl
theorem in_X10 : ∀ w ∈ wsX100, w ∈ lw_all := lw_in wsX100 [1386, 1388] (by decide +kernel) (by decide +kernel)

/-! GaugeBlocksLaw -/
set_option maxRecDepth 100000
def RX0 : String := "GaugeBlocksLaw"
abbrev cX0_block : ByteArray := method_3_code
def yX0_block : MethodName := ⟨RX0, "block", "(LGaugeBlocks;II[J)I"⟩
def dkwX0_block_0 : List UInt8 := [45, 3, 42, 27, 28, 182, 0, 7, 133, 80, 167, 0, 11, 58, 4, 4, 172, 58, 4, 5, 172, 3, 172]
abbrev dktX0_block_0 : List UInt8 := dkwX0_block_0 ++ []
theorem dksX0_block_0 : cX0_block.data.toList.drop 0 = dktX0_block_0 := by decide +kernel
theorem dX0_block_0 : decode cX0_block 0 = .ok (.aload_n 3, 1) := dk_45 (dk_at dksX0_block_0 0 rfl rfl)
theorem dX0_block_1 : decode cX0_block 1 = .ok (.iconst 0, 1) := dk_3 (dk_at dksX0_block_0 1 rfl rfl)
theorem dX0_block_2 : decode cX0_block 2 = .ok (.aload_n 0, 1) := dk_42 (dk_at dksX0_block_0 2 rfl rfl)
theorem dX0_block_3 : decode cX0_block 3 = .ok (.iload_n 1, 1) := dk_27 (dk_at dksX0_block_0 3 rfl rfl)
theorem dX0_block_4 : decode cX0_block 4 = .ok (.iload_n 2, 1) := dk_28 (dk_at dksX0_block_0 4 rfl rfl)
theorem dX0_block_5 : decode cX0_block 5 = .ok (.invokevirtual 7, 3) := dk_182 0 7 (dk_at dksX0_block_0 5 rfl rfl)
theorem dX0_block_8 : decode cX0_block 8 = .ok (.i2l, 1) := dk_133 (dk_at dksX0_block_0 8 rfl rfl)
theorem dX0_block_9 : decode cX0_block 9 = .ok (.lastore, 1) := dk_80 (dk_at dksX0_block_0 9 rfl rfl)
theorem dX0_block_10 : decode cX0_block 10 = .ok (.goto 11, 3) := dk_167 0 11 (dk_at dksX0_block_0 10 rfl rfl)
theorem dX0_block_13 : decode cX0_block 13 = .ok (.astore 4, 2) := dk_58 4 (dk_at dksX0_block_0 13 rfl rfl)
theorem dX0_block_15 : decode cX0_block 15 = .ok (.iconst 1, 1) := dk_4 (dk_at dksX0_block_0 15 rfl rfl)
theorem dX0_block_16 : decode cX0_block 16 = .ok (.ireturn, 1) := dk_172 (dk_at dksX0_block_0 16 rfl rfl)
theorem dX0_block_17 : decode cX0_block 17 = .ok (.astore 4, 2) := dk_58 4 (dk_at dksX0_block_0 17 rfl rfl)
theorem dX0_block_19 : decode cX0_block 19 = .ok (.iconst 2, 1) := dk_5 (dk_at dksX0_block_0 19 rfl rfl)
theorem dX0_block_20 : decode cX0_block 20 = .ok (.ireturn, 1) := dk_172 (dk_at dksX0_block_0 20 rfl rfl)
theorem dX0_block_21 : decode cX0_block 21 = .ok (.iconst 0, 1) := dk_3 (dk_at dksX0_block_0 21 rfl rfl)
theorem dX0_block_22 : decode cX0_block 22 = .ok (.ireturn, 1) := dk_172 (dk_at dksX0_block_0 22 rfl rfl)
abbrev cX0_discard : ByteArray := method_4_code
def yX0_discard : MethodName := ⟨RX0, "discard", "(LGaugeBlocks;I[J)I"⟩
def dkwX0_discard_0 : List UInt8 := [44, 3, 42, 27, 182, 0, 17, 133, 80, 167, 0, 9, 78, 4, 172, 78, 5, 172, 3, 172]
abbrev dktX0_discard_0 : List UInt8 := dkwX0_discard_0 ++ []
theorem dksX0_discard_0 : cX0_discard.data.toList.drop 0 = dktX0_discard_0 := by decide +kernel
theorem dX0_discard_0 : decode cX0_discard 0 = .ok (.aload_n 2, 1) := dk_44 (dk_at dksX0_discard_0 0 rfl rfl)
theorem dX0_discard_1 : decode cX0_discard 1 = .ok (.iconst 0, 1) := dk_3 (dk_at dksX0_discard_0 1 rfl rfl)
theorem dX0_discard_2 : decode cX0_discard 2 = .ok (.aload_n 0, 1) := dk_42 (dk_at dksX0_discard_0 2 rfl rfl)
theorem dX0_discard_3 : decode cX0_discard 3 = .ok (.iload_n 1, 1) := dk_27 (dk_at dksX0_discard_0 3 rfl rfl)
theorem dX0_discard_4 : decode cX0_discard 4 = .ok (.invokevirtual 17, 3) := dk_182 0 17 (dk_at dksX0_discard_0 4 rfl rfl)
theorem dX0_discard_7 : decode cX0_discard 7 = .ok (.i2l, 1) := dk_133 (dk_at dksX0_discard_0 7 rfl rfl)
theorem dX0_discard_8 : decode cX0_discard 8 = .ok (.lastore, 1) := dk_80 (dk_at dksX0_discard_0 8 rfl rfl)
theorem dX0_discard_9 : decode cX0_discard 9 = .ok (.goto 9, 3) := dk_167 0 9 (dk_at dksX0_discard_0 9 rfl rfl)
theorem dX0_discard_12 : decode cX0_discard 12 = .ok (.astore_n 3, 1) := dk_78 (dk_at dksX0_discard_0 12 rfl rfl)
theorem dX0_discard_13 : decode cX0_discard 13 = .ok (.iconst 1, 1) := dk_4 (dk_at dksX0_discard_0 13 rfl rfl)
theorem dX0_discard_14 : decode cX0_discard 14 = .ok (.ireturn, 1) := dk_172 (dk_at dksX0_discard_0 14 rfl rfl)
theorem dX0_discard_15 : decode cX0_discard 15 = .ok (.astore_n 3, 1) := dk_78 (dk_at dksX0_discard_0 15 rfl rfl)
theorem dX0_discard_16 : decode cX0_discard 16 = .ok (.iconst 2, 1) := dk_5 (dk_at dksX0_discard_0 16 rfl rfl)
theorem dX0_discard_17 : decode cX0_discard 17 = .ok (.ireturn, 1) := dk_172 (dk_at dksX0_discard_0 17 rfl rfl)
theorem dX0_discard_18 : decode cX0_discard 18 = .ok (.iconst 0, 1) := dk_3 (dk_at dksX0_discard_0 18 rfl rfl)
theorem dX0_discard_19 : decode cX0_discard 19 = .ok (.ireturn, 1) := dk_172 (dk_at dksX0_discard_0 19 rfl rfl)
abbrev cX0_calibrate : ByteArray := method_5_code
def yX0_calibrate : MethodName := ⟨RX0, "calibrate", "(LGaugeBlocks;I[J)I"⟩
def dkwX0_calibrate_0 : List UInt8 := [44, 3, 42, 27, 182, 0, 23, 133, 80, 167, 0, 9, 78, 4, 172, 78, 5, 172, 3, 172]
abbrev dktX0_calibrate_0 : List UInt8 := dkwX0_calibrate_0 ++ []
theorem dksX0_calibrate_0 : cX0_calibrate.data.toList.drop 0 = dktX0_calibrate_0 := by decide +kernel
theorem dX0_calibrate_0 : decode cX0_calibrate 0 = .ok (.aload_n 2, 1) := dk_44 (dk_at dksX0_calibrate_0 0 rfl rfl)
theorem dX0_calibrate_1 : decode cX0_calibrate 1 = .ok (.iconst 0, 1) := dk_3 (dk_at dksX0_calibrate_0 1 rfl rfl)
theorem dX0_calibrate_2 : decode cX0_calibrate 2 = .ok (.aload_n 0, 1) := dk_42 (dk_at dksX0_calibrate_0 2 rfl rfl)
theorem dX0_calibrate_3 : decode cX0_calibrate 3 = .ok (.iload_n 1, 1) := dk_27 (dk_at dksX0_calibrate_0 3 rfl rfl)
theorem dX0_calibrate_4 : decode cX0_calibrate 4 = .ok (.invokevirtual 23, 3) := dk_182 0 23 (dk_at dksX0_calibrate_0 4 rfl rfl)
theorem dX0_calibrate_7 : decode cX0_calibrate 7 = .ok (.i2l, 1) := dk_133 (dk_at dksX0_calibrate_0 7 rfl rfl)
theorem dX0_calibrate_8 : decode cX0_calibrate 8 = .ok (.lastore, 1) := dk_80 (dk_at dksX0_calibrate_0 8 rfl rfl)
theorem dX0_calibrate_9 : decode cX0_calibrate 9 = .ok (.goto 9, 3) := dk_167 0 9 (dk_at dksX0_calibrate_0 9 rfl rfl)
theorem dX0_calibrate_12 : decode cX0_calibrate 12 = .ok (.astore_n 3, 1) := dk_78 (dk_at dksX0_calibrate_0 12 rfl rfl)
theorem dX0_calibrate_13 : decode cX0_calibrate 13 = .ok (.iconst 1, 1) := dk_4 (dk_at dksX0_calibrate_0 13 rfl rfl)
theorem dX0_calibrate_14 : decode cX0_calibrate 14 = .ok (.ireturn, 1) := dk_172 (dk_at dksX0_calibrate_0 14 rfl rfl)
theorem dX0_calibrate_15 : decode cX0_calibrate 15 = .ok (.astore_n 3, 1) := dk_78 (dk_at dksX0_calibrate_0 15 rfl rfl)
theorem dX0_calibrate_16 : decode cX0_calibrate 16 = .ok (.iconst 2, 1) := dk_5 (dk_at dksX0_calibrate_0 16 rfl rfl)
theorem dX0_calibrate_17 : decode cX0_calibrate 17 = .ok (.ireturn, 1) := dk_172 (dk_at dksX0_calibrate_0 17 rfl rfl)
theorem dX0_calibrate_18 : decode cX0_calibrate 18 = .ok (.iconst 0, 1) := dk_3 (dk_at dksX0_calibrate_0 18 rfl rfl)
theorem dX0_calibrate_19 : decode cX0_calibrate 19 = .ok (.ireturn, 1) := dk_172 (dk_at dksX0_calibrate_0 19 rfl rfl)
abbrev cX0_hold : ByteArray := method_6_code
def yX0_hold : MethodName := ⟨RX0, "hold", "(LGaugeBlocks;II[J)I"⟩
def dkwX0_hold_0 : List UInt8 := [45, 3, 42, 27, 28, 182, 0, 26, 133, 80, 167, 0, 11, 58, 4, 4, 172, 58, 4, 5, 172, 3, 172]
abbrev dktX0_hold_0 : List UInt8 := dkwX0_hold_0 ++ []
theorem dksX0_hold_0 : cX0_hold.data.toList.drop 0 = dktX0_hold_0 := by decide +kernel
theorem dX0_hold_0 : decode cX0_hold 0 = .ok (.aload_n 3, 1) := dk_45 (dk_at dksX0_hold_0 0 rfl rfl)
theorem dX0_hold_1 : decode cX0_hold 1 = .ok (.iconst 0, 1) := dk_3 (dk_at dksX0_hold_0 1 rfl rfl)
theorem dX0_hold_2 : decode cX0_hold 2 = .ok (.aload_n 0, 1) := dk_42 (dk_at dksX0_hold_0 2 rfl rfl)
theorem dX0_hold_3 : decode cX0_hold 3 = .ok (.iload_n 1, 1) := dk_27 (dk_at dksX0_hold_0 3 rfl rfl)
theorem dX0_hold_4 : decode cX0_hold 4 = .ok (.iload_n 2, 1) := dk_28 (dk_at dksX0_hold_0 4 rfl rfl)
theorem dX0_hold_5 : decode cX0_hold 5 = .ok (.invokevirtual 26, 3) := dk_182 0 26 (dk_at dksX0_hold_0 5 rfl rfl)
theorem dX0_hold_8 : decode cX0_hold 8 = .ok (.i2l, 1) := dk_133 (dk_at dksX0_hold_0 8 rfl rfl)
theorem dX0_hold_9 : decode cX0_hold 9 = .ok (.lastore, 1) := dk_80 (dk_at dksX0_hold_0 9 rfl rfl)
theorem dX0_hold_10 : decode cX0_hold 10 = .ok (.goto 11, 3) := dk_167 0 11 (dk_at dksX0_hold_0 10 rfl rfl)
theorem dX0_hold_13 : decode cX0_hold 13 = .ok (.astore 4, 2) := dk_58 4 (dk_at dksX0_hold_0 13 rfl rfl)
theorem dX0_hold_15 : decode cX0_hold 15 = .ok (.iconst 1, 1) := dk_4 (dk_at dksX0_hold_0 15 rfl rfl)
theorem dX0_hold_16 : decode cX0_hold 16 = .ok (.ireturn, 1) := dk_172 (dk_at dksX0_hold_0 16 rfl rfl)
theorem dX0_hold_17 : decode cX0_hold 17 = .ok (.astore 4, 2) := dk_58 4 (dk_at dksX0_hold_0 17 rfl rfl)
theorem dX0_hold_19 : decode cX0_hold 19 = .ok (.iconst 2, 1) := dk_5 (dk_at dksX0_hold_0 19 rfl rfl)
theorem dX0_hold_20 : decode cX0_hold 20 = .ok (.ireturn, 1) := dk_172 (dk_at dksX0_hold_0 20 rfl rfl)
theorem dX0_hold_21 : decode cX0_hold 21 = .ok (.iconst 0, 1) := dk_3 (dk_at dksX0_hold_0 21 rfl rfl)
theorem dX0_hold_22 : decode cX0_hold 22 = .ok (.ireturn, 1) := dk_172 (dk_at dksX0_hold_0 22 rfl rfl)
abbrev cX0_rest : ByteArray := method_7_code
def yX0_rest : MethodName := ⟨RX0, "rest", "(LGaugeBlocks;I[J)I"⟩
def dkwX0_rest_0 : List UInt8 := [44, 3, 42, 27, 182, 0, 29, 133, 80, 167, 0, 6, 78, 4, 172, 3, 172]
abbrev dktX0_rest_0 : List UInt8 := dkwX0_rest_0 ++ []
theorem dksX0_rest_0 : cX0_rest.data.toList.drop 0 = dktX0_rest_0 := by decide +kernel
theorem dX0_rest_0 : decode cX0_rest 0 = .ok (.aload_n 2, 1) := dk_44 (dk_at dksX0_rest_0 0 rfl rfl)
theorem dX0_rest_1 : decode cX0_rest 1 = .ok (.iconst 0, 1) := dk_3 (dk_at dksX0_rest_0 1 rfl rfl)
theorem dX0_rest_2 : decode cX0_rest 2 = .ok (.aload_n 0, 1) := dk_42 (dk_at dksX0_rest_0 2 rfl rfl)
theorem dX0_rest_3 : decode cX0_rest 3 = .ok (.iload_n 1, 1) := dk_27 (dk_at dksX0_rest_0 3 rfl rfl)
theorem dX0_rest_4 : decode cX0_rest 4 = .ok (.invokevirtual 29, 3) := dk_182 0 29 (dk_at dksX0_rest_0 4 rfl rfl)
theorem dX0_rest_7 : decode cX0_rest 7 = .ok (.i2l, 1) := dk_133 (dk_at dksX0_rest_0 7 rfl rfl)
theorem dX0_rest_8 : decode cX0_rest 8 = .ok (.lastore, 1) := dk_80 (dk_at dksX0_rest_0 8 rfl rfl)
theorem dX0_rest_9 : decode cX0_rest 9 = .ok (.goto 6, 3) := dk_167 0 6 (dk_at dksX0_rest_0 9 rfl rfl)
theorem dX0_rest_12 : decode cX0_rest 12 = .ok (.astore_n 3, 1) := dk_78 (dk_at dksX0_rest_0 12 rfl rfl)
theorem dX0_rest_13 : decode cX0_rest 13 = .ok (.iconst 1, 1) := dk_4 (dk_at dksX0_rest_0 13 rfl rfl)
theorem dX0_rest_14 : decode cX0_rest 14 = .ok (.ireturn, 1) := dk_172 (dk_at dksX0_rest_0 14 rfl rfl)
theorem dX0_rest_15 : decode cX0_rest 15 = .ok (.iconst 0, 1) := dk_3 (dk_at dksX0_rest_0 15 rfl rfl)
theorem dX0_rest_16 : decode cX0_rest 16 = .ok (.ireturn, 1) := dk_172 (dk_at dksX0_rest_0 16 rfl rfl)
abbrev cX0_set : ByteArray := method_8_code
def yX0_set : MethodName := ⟨RX0, "set", "(LGaugeBlocks;II[J)I"⟩
def dkwX0_set_0 : List UInt8 := [45, 3, 42, 27, 28, 182, 0, 32, 133, 80, 167, 0, 11, 58, 4, 4, 172, 58, 4, 5, 172, 3, 172]
abbrev dktX0_set_0 : List UInt8 := dkwX0_set_0 ++ []
theorem dksX0_set_0 : cX0_set.data.toList.drop 0 = dktX0_set_0 := by decide +kernel
theorem dX0_set_0 : decode cX0_set 0 = .ok (.aload_n 3, 1) := dk_45 (dk_at dksX0_set_0 0 rfl rfl)
theorem dX0_set_1 : decode cX0_set 1 = .ok (.iconst 0, 1) := dk_3 (dk_at dksX0_set_0 1 rfl rfl)
theorem dX0_set_2 : decode cX0_set 2 = .ok (.aload_n 0, 1) := dk_42 (dk_at dksX0_set_0 2 rfl rfl)
theorem dX0_set_3 : decode cX0_set 3 = .ok (.iload_n 1, 1) := dk_27 (dk_at dksX0_set_0 3 rfl rfl)
theorem dX0_set_4 : decode cX0_set 4 = .ok (.iload_n 2, 1) := dk_28 (dk_at dksX0_set_0 4 rfl rfl)
theorem dX0_set_5 : decode cX0_set 5 = .ok (.invokevirtual 32, 3) := dk_182 0 32 (dk_at dksX0_set_0 5 rfl rfl)
theorem dX0_set_8 : decode cX0_set 8 = .ok (.i2l, 1) := dk_133 (dk_at dksX0_set_0 8 rfl rfl)
theorem dX0_set_9 : decode cX0_set 9 = .ok (.lastore, 1) := dk_80 (dk_at dksX0_set_0 9 rfl rfl)
theorem dX0_set_10 : decode cX0_set 10 = .ok (.goto 11, 3) := dk_167 0 11 (dk_at dksX0_set_0 10 rfl rfl)
theorem dX0_set_13 : decode cX0_set 13 = .ok (.astore 4, 2) := dk_58 4 (dk_at dksX0_set_0 13 rfl rfl)
theorem dX0_set_15 : decode cX0_set 15 = .ok (.iconst 1, 1) := dk_4 (dk_at dksX0_set_0 15 rfl rfl)
theorem dX0_set_16 : decode cX0_set 16 = .ok (.ireturn, 1) := dk_172 (dk_at dksX0_set_0 16 rfl rfl)
theorem dX0_set_17 : decode cX0_set 17 = .ok (.astore 4, 2) := dk_58 4 (dk_at dksX0_set_0 17 rfl rfl)
theorem dX0_set_19 : decode cX0_set 19 = .ok (.iconst 2, 1) := dk_5 (dk_at dksX0_set_0 19 rfl rfl)
theorem dX0_set_20 : decode cX0_set 20 = .ok (.ireturn, 1) := dk_172 (dk_at dksX0_set_0 20 rfl rfl)
theorem dX0_set_21 : decode cX0_set 21 = .ok (.iconst 0, 1) := dk_3 (dk_at dksX0_set_0 21 rfl rfl)
theorem dX0_set_22 : decode cX0_set 22 = .ok (.ireturn, 1) := dk_172 (dk_at dksX0_set_0 22 rfl rfl)
abbrev cX0_wring : ByteArray := method_9_code
def yX0_wring : MethodName := ⟨RX0, "wring", "(LGaugeBlocks;II[J)I"⟩
def dkwX0_wring_0 : List UInt8 := [45, 3, 42, 27, 28, 182, 0, 35, 133, 80, 167, 0, 7, 58, 4, 4, 172, 3, 172]
abbrev dktX0_wring_0 : List UInt8 := dkwX0_wring_0 ++ []
theorem dksX0_wring_0 : cX0_wring.data.toList.drop 0 = dktX0_wring_0 := by decide +kernel
theorem dX0_wring_0 : decode cX0_wring 0 = .ok (.aload_n 3, 1) := dk_45 (dk_at dksX0_wring_0 0 rfl rfl)
theorem dX0_wring_1 : decode cX0_wring 1 = .ok (.iconst 0, 1) := dk_3 (dk_at dksX0_wring_0 1 rfl rfl)
theorem dX0_wring_2 : decode cX0_wring 2 = .ok (.aload_n 0, 1) := dk_42 (dk_at dksX0_wring_0 2 rfl rfl)
theorem dX0_wring_3 : decode cX0_wring 3 = .ok (.iload_n 1, 1) := dk_27 (dk_at dksX0_wring_0 3 rfl rfl)
theorem dX0_wring_4 : decode cX0_wring 4 = .ok (.iload_n 2, 1) := dk_28 (dk_at dksX0_wring_0 4 rfl rfl)
theorem dX0_wring_5 : decode cX0_wring 5 = .ok (.invokevirtual 35, 3) := dk_182 0 35 (dk_at dksX0_wring_0 5 rfl rfl)
theorem dX0_wring_8 : decode cX0_wring 8 = .ok (.i2l, 1) := dk_133 (dk_at dksX0_wring_0 8 rfl rfl)
theorem dX0_wring_9 : decode cX0_wring 9 = .ok (.lastore, 1) := dk_80 (dk_at dksX0_wring_0 9 rfl rfl)
theorem dX0_wring_10 : decode cX0_wring 10 = .ok (.goto 7, 3) := dk_167 0 7 (dk_at dksX0_wring_0 10 rfl rfl)
theorem dX0_wring_13 : decode cX0_wring 13 = .ok (.astore 4, 2) := dk_58 4 (dk_at dksX0_wring_0 13 rfl rfl)
theorem dX0_wring_15 : decode cX0_wring 15 = .ok (.iconst 1, 1) := dk_4 (dk_at dksX0_wring_0 15 rfl rfl)
theorem dX0_wring_16 : decode cX0_wring 16 = .ok (.ireturn, 1) := dk_172 (dk_at dksX0_wring_0 16 rfl rfl)
theorem dX0_wring_17 : decode cX0_wring 17 = .ok (.iconst 0, 1) := dk_3 (dk_at dksX0_wring_0 17 rfl rfl)
theorem dX0_wring_18 : decode cX0_wring 18 = .ok (.ireturn, 1) := dk_172 (dk_at dksX0_wring_0 18 rfl rfl)
abbrev cX0_takeOff : ByteArray := method_10_code
def yX0_takeOff : MethodName := ⟨RX0, "takeOff", "(LGaugeBlocks;I[J)I"⟩
def dkwX0_takeOff_0 : List UInt8 := [44, 3, 42, 27, 182, 0, 38, 133, 80, 167, 0, 9, 78, 4, 172, 78, 5, 172, 3, 172]
abbrev dktX0_takeOff_0 : List UInt8 := dkwX0_takeOff_0 ++ []
theorem dksX0_takeOff_0 : cX0_takeOff.data.toList.drop 0 = dktX0_takeOff_0 := by decide +kernel
theorem dX0_takeOff_0 : decode cX0_takeOff 0 = .ok (.aload_n 2, 1) := dk_44 (dk_at dksX0_takeOff_0 0 rfl rfl)
theorem dX0_takeOff_1 : decode cX0_takeOff 1 = .ok (.iconst 0, 1) := dk_3 (dk_at dksX0_takeOff_0 1 rfl rfl)
theorem dX0_takeOff_2 : decode cX0_takeOff 2 = .ok (.aload_n 0, 1) := dk_42 (dk_at dksX0_takeOff_0 2 rfl rfl)
theorem dX0_takeOff_3 : decode cX0_takeOff 3 = .ok (.iload_n 1, 1) := dk_27 (dk_at dksX0_takeOff_0 3 rfl rfl)
theorem dX0_takeOff_4 : decode cX0_takeOff 4 = .ok (.invokevirtual 38, 3) := dk_182 0 38 (dk_at dksX0_takeOff_0 4 rfl rfl)
theorem dX0_takeOff_7 : decode cX0_takeOff 7 = .ok (.i2l, 1) := dk_133 (dk_at dksX0_takeOff_0 7 rfl rfl)
theorem dX0_takeOff_8 : decode cX0_takeOff 8 = .ok (.lastore, 1) := dk_80 (dk_at dksX0_takeOff_0 8 rfl rfl)
theorem dX0_takeOff_9 : decode cX0_takeOff 9 = .ok (.goto 9, 3) := dk_167 0 9 (dk_at dksX0_takeOff_0 9 rfl rfl)
theorem dX0_takeOff_12 : decode cX0_takeOff 12 = .ok (.astore_n 3, 1) := dk_78 (dk_at dksX0_takeOff_0 12 rfl rfl)
theorem dX0_takeOff_13 : decode cX0_takeOff 13 = .ok (.iconst 1, 1) := dk_4 (dk_at dksX0_takeOff_0 13 rfl rfl)
theorem dX0_takeOff_14 : decode cX0_takeOff 14 = .ok (.ireturn, 1) := dk_172 (dk_at dksX0_takeOff_0 14 rfl rfl)
theorem dX0_takeOff_15 : decode cX0_takeOff 15 = .ok (.astore_n 3, 1) := dk_78 (dk_at dksX0_takeOff_0 15 rfl rfl)
theorem dX0_takeOff_16 : decode cX0_takeOff 16 = .ok (.iconst 2, 1) := dk_5 (dk_at dksX0_takeOff_0 16 rfl rfl)
theorem dX0_takeOff_17 : decode cX0_takeOff 17 = .ok (.ireturn, 1) := dk_172 (dk_at dksX0_takeOff_0 17 rfl rfl)
theorem dX0_takeOff_18 : decode cX0_takeOff 18 = .ok (.iconst 0, 1) := dk_3 (dk_at dksX0_takeOff_0 18 rfl rfl)
theorem dX0_takeOff_19 : decode cX0_takeOff 19 = .ok (.ireturn, 1) := dk_172 (dk_at dksX0_takeOff_0 19 rfl rfl)
abbrev cX0_make : ByteArray := method_11_code
def yX0_make : MethodName := ⟨RX0, "make", "(LGaugeBlocks;II[J)I"⟩
def dkwX0_make_1 : List UInt8 := [172, 3, 172]
abbrev dktX0_make_1 : List UInt8 := dkwX0_make_1 ++ []
def dkwX0_make_0 : List UInt8 := [45, 3, 42, 27, 28, 182, 0, 41, 133, 80, 167, 0, 15, 58, 4, 4, 172, 58, 4, 5, 172, 58, 4, 6]
abbrev dktX0_make_0 : List UInt8 := dkwX0_make_0 ++ dktX0_make_1
theorem dksX0_make_0 : cX0_make.data.toList.drop 0 = dktX0_make_0 := by decide +kernel
theorem dksX0_make_1 : cX0_make.data.toList.drop 24 = dktX0_make_1 := dk_seg dksX0_make_0 24 rfl rfl
theorem dX0_make_0 : decode cX0_make 0 = .ok (.aload_n 3, 1) := dk_45 (dk_at dksX0_make_0 0 rfl rfl)
theorem dX0_make_1 : decode cX0_make 1 = .ok (.iconst 0, 1) := dk_3 (dk_at dksX0_make_0 1 rfl rfl)
theorem dX0_make_2 : decode cX0_make 2 = .ok (.aload_n 0, 1) := dk_42 (dk_at dksX0_make_0 2 rfl rfl)
theorem dX0_make_3 : decode cX0_make 3 = .ok (.iload_n 1, 1) := dk_27 (dk_at dksX0_make_0 3 rfl rfl)
theorem dX0_make_4 : decode cX0_make 4 = .ok (.iload_n 2, 1) := dk_28 (dk_at dksX0_make_0 4 rfl rfl)
theorem dX0_make_5 : decode cX0_make 5 = .ok (.invokevirtual 41, 3) := dk_182 0 41 (dk_at dksX0_make_0 5 rfl rfl)
theorem dX0_make_8 : decode cX0_make 8 = .ok (.i2l, 1) := dk_133 (dk_at dksX0_make_0 8 rfl rfl)
theorem dX0_make_9 : decode cX0_make 9 = .ok (.lastore, 1) := dk_80 (dk_at dksX0_make_0 9 rfl rfl)
theorem dX0_make_10 : decode cX0_make 10 = .ok (.goto 15, 3) := dk_167 0 15 (dk_at dksX0_make_0 10 rfl rfl)
theorem dX0_make_13 : decode cX0_make 13 = .ok (.astore 4, 2) := dk_58 4 (dk_at dksX0_make_0 13 rfl rfl)
theorem dX0_make_15 : decode cX0_make 15 = .ok (.iconst 1, 1) := dk_4 (dk_at dksX0_make_0 15 rfl rfl)
theorem dX0_make_16 : decode cX0_make 16 = .ok (.ireturn, 1) := dk_172 (dk_at dksX0_make_0 16 rfl rfl)
theorem dX0_make_17 : decode cX0_make 17 = .ok (.astore 4, 2) := dk_58 4 (dk_at dksX0_make_0 17 rfl rfl)
theorem dX0_make_19 : decode cX0_make 19 = .ok (.iconst 2, 1) := dk_5 (dk_at dksX0_make_0 19 rfl rfl)
theorem dX0_make_20 : decode cX0_make 20 = .ok (.ireturn, 1) := dk_172 (dk_at dksX0_make_0 20 rfl rfl)
theorem dX0_make_21 : decode cX0_make 21 = .ok (.astore 4, 2) := dk_58 4 (dk_at dksX0_make_0 21 rfl rfl)
theorem dX0_make_23 : decode cX0_make 23 = .ok (.iconst 3, 1) := dk_6 (dk_at dksX0_make_0 23 rfl rfl)
theorem dX0_make_24 : decode cX0_make 24 = .ok (.ireturn, 1) := dk_172 (dk_at dksX0_make_1 0 rfl rfl)
theorem dX0_make_25 : decode cX0_make 25 = .ok (.iconst 0, 1) := dk_3 (dk_at dksX0_make_1 1 rfl rfl)
theorem dX0_make_26 : decode cX0_make 26 = .ok (.ireturn, 1) := dk_172 (dk_at dksX0_make_1 2 rfl rfl)
abbrev cX0_append : ByteArray := method_12_code
def yX0_append : MethodName := ⟨RX0, "append", "(LGaugeBlocks;I[J)I"⟩
def dkwX0_append_0 : List UInt8 := [44, 3, 42, 27, 182, 0, 44, 133, 80, 167, 0, 9, 78, 4, 172, 78, 5, 172, 3, 172]
abbrev dktX0_append_0 : List UInt8 := dkwX0_append_0 ++ []
theorem dksX0_append_0 : cX0_append.data.toList.drop 0 = dktX0_append_0 := by decide +kernel
theorem dX0_append_0 : decode cX0_append 0 = .ok (.aload_n 2, 1) := dk_44 (dk_at dksX0_append_0 0 rfl rfl)
theorem dX0_append_1 : decode cX0_append 1 = .ok (.iconst 0, 1) := dk_3 (dk_at dksX0_append_0 1 rfl rfl)
theorem dX0_append_2 : decode cX0_append 2 = .ok (.aload_n 0, 1) := dk_42 (dk_at dksX0_append_0 2 rfl rfl)
theorem dX0_append_3 : decode cX0_append 3 = .ok (.iload_n 1, 1) := dk_27 (dk_at dksX0_append_0 3 rfl rfl)
theorem dX0_append_4 : decode cX0_append 4 = .ok (.invokevirtual 44, 3) := dk_182 0 44 (dk_at dksX0_append_0 4 rfl rfl)
theorem dX0_append_7 : decode cX0_append 7 = .ok (.i2l, 1) := dk_133 (dk_at dksX0_append_0 7 rfl rfl)
theorem dX0_append_8 : decode cX0_append 8 = .ok (.lastore, 1) := dk_80 (dk_at dksX0_append_0 8 rfl rfl)
theorem dX0_append_9 : decode cX0_append 9 = .ok (.goto 9, 3) := dk_167 0 9 (dk_at dksX0_append_0 9 rfl rfl)
theorem dX0_append_12 : decode cX0_append 12 = .ok (.astore_n 3, 1) := dk_78 (dk_at dksX0_append_0 12 rfl rfl)
theorem dX0_append_13 : decode cX0_append 13 = .ok (.iconst 1, 1) := dk_4 (dk_at dksX0_append_0 13 rfl rfl)
theorem dX0_append_14 : decode cX0_append 14 = .ok (.ireturn, 1) := dk_172 (dk_at dksX0_append_0 14 rfl rfl)
theorem dX0_append_15 : decode cX0_append 15 = .ok (.astore_n 3, 1) := dk_78 (dk_at dksX0_append_0 15 rfl rfl)
theorem dX0_append_16 : decode cX0_append 16 = .ok (.iconst 2, 1) := dk_5 (dk_at dksX0_append_0 16 rfl rfl)
theorem dX0_append_17 : decode cX0_append 17 = .ok (.ireturn, 1) := dk_172 (dk_at dksX0_append_0 17 rfl rfl)
theorem dX0_append_18 : decode cX0_append 18 = .ok (.iconst 0, 1) := dk_3 (dk_at dksX0_append_0 18 rfl rfl)
theorem dX0_append_19 : decode cX0_append 19 = .ok (.ireturn, 1) := dk_172 (dk_at dksX0_append_0 19 rfl rfl)
abbrev cX0_execute : ByteArray := method_13_code
def yX0_execute : MethodName := ⟨RX0, "execute", "(LGaugeBlocks;[J)I"⟩
def dkwX0_execute_0 : List UInt8 := [43, 3, 42, 182, 0, 47, 133, 80, 167, 0, 6, 77, 4, 172, 3, 172]
abbrev dktX0_execute_0 : List UInt8 := dkwX0_execute_0 ++ []
theorem dksX0_execute_0 : cX0_execute.data.toList.drop 0 = dktX0_execute_0 := by decide +kernel
theorem dX0_execute_0 : decode cX0_execute 0 = .ok (.aload_n 1, 1) := dk_43 (dk_at dksX0_execute_0 0 rfl rfl)
theorem dX0_execute_1 : decode cX0_execute 1 = .ok (.iconst 0, 1) := dk_3 (dk_at dksX0_execute_0 1 rfl rfl)
theorem dX0_execute_2 : decode cX0_execute 2 = .ok (.aload_n 0, 1) := dk_42 (dk_at dksX0_execute_0 2 rfl rfl)
theorem dX0_execute_3 : decode cX0_execute 3 = .ok (.invokevirtual 47, 3) := dk_182 0 47 (dk_at dksX0_execute_0 3 rfl rfl)
theorem dX0_execute_6 : decode cX0_execute 6 = .ok (.i2l, 1) := dk_133 (dk_at dksX0_execute_0 6 rfl rfl)
theorem dX0_execute_7 : decode cX0_execute 7 = .ok (.lastore, 1) := dk_80 (dk_at dksX0_execute_0 7 rfl rfl)
theorem dX0_execute_8 : decode cX0_execute 8 = .ok (.goto 6, 3) := dk_167 0 6 (dk_at dksX0_execute_0 8 rfl rfl)
theorem dX0_execute_11 : decode cX0_execute 11 = .ok (.astore_n 2, 1) := dk_77 (dk_at dksX0_execute_0 11 rfl rfl)
theorem dX0_execute_12 : decode cX0_execute 12 = .ok (.iconst 1, 1) := dk_4 (dk_at dksX0_execute_0 12 rfl rfl)
theorem dX0_execute_13 : decode cX0_execute 13 = .ok (.ireturn, 1) := dk_172 (dk_at dksX0_execute_0 13 rfl rfl)
theorem dX0_execute_14 : decode cX0_execute 14 = .ok (.iconst 0, 1) := dk_3 (dk_at dksX0_execute_0 14 rfl rfl)
theorem dX0_execute_15 : decode cX0_execute 15 = .ok (.ireturn, 1) := dk_172 (dk_at dksX0_execute_0 15 rfl rfl)
abbrev cX0_undo : ByteArray := method_14_code
def yX0_undo : MethodName := ⟨RX0, "undo", "(LGaugeBlocks;[J)I"⟩
def dkwX0_undo_0 : List UInt8 := [43, 3, 42, 182, 0, 51, 133, 80, 167, 0, 6, 77, 4, 172, 3, 172]
abbrev dktX0_undo_0 : List UInt8 := dkwX0_undo_0 ++ []
theorem dksX0_undo_0 : cX0_undo.data.toList.drop 0 = dktX0_undo_0 := by decide +kernel
theorem dX0_undo_0 : decode cX0_undo 0 = .ok (.aload_n 1, 1) := dk_43 (dk_at dksX0_undo_0 0 rfl rfl)
theorem dX0_undo_1 : decode cX0_undo 1 = .ok (.iconst 0, 1) := dk_3 (dk_at dksX0_undo_0 1 rfl rfl)
theorem dX0_undo_2 : decode cX0_undo 2 = .ok (.aload_n 0, 1) := dk_42 (dk_at dksX0_undo_0 2 rfl rfl)
theorem dX0_undo_3 : decode cX0_undo 3 = .ok (.invokevirtual 51, 3) := dk_182 0 51 (dk_at dksX0_undo_0 3 rfl rfl)
theorem dX0_undo_6 : decode cX0_undo 6 = .ok (.i2l, 1) := dk_133 (dk_at dksX0_undo_0 6 rfl rfl)
theorem dX0_undo_7 : decode cX0_undo 7 = .ok (.lastore, 1) := dk_80 (dk_at dksX0_undo_0 7 rfl rfl)
theorem dX0_undo_8 : decode cX0_undo 8 = .ok (.goto 6, 3) := dk_167 0 6 (dk_at dksX0_undo_0 8 rfl rfl)
theorem dX0_undo_11 : decode cX0_undo 11 = .ok (.astore_n 2, 1) := dk_77 (dk_at dksX0_undo_0 11 rfl rfl)
theorem dX0_undo_12 : decode cX0_undo 12 = .ok (.iconst 1, 1) := dk_4 (dk_at dksX0_undo_0 12 rfl rfl)
theorem dX0_undo_13 : decode cX0_undo 13 = .ok (.ireturn, 1) := dk_172 (dk_at dksX0_undo_0 13 rfl rfl)
theorem dX0_undo_14 : decode cX0_undo 14 = .ok (.iconst 0, 1) := dk_3 (dk_at dksX0_undo_0 14 rfl rfl)
theorem dX0_undo_15 : decode cX0_undo 15 = .ok (.ireturn, 1) := dk_172 (dk_at dksX0_undo_0 15 rfl rfl)
abbrev cX0_keep : ByteArray := method_15_code
def yX0_keep : MethodName := ⟨RX0, "keep", "(LGaugeBlocks;I[J)I"⟩
def dkwX0_keep_0 : List UInt8 := [44, 3, 42, 27, 182, 0, 54, 133, 80, 167, 0, 6, 78, 4, 172, 3, 172]
abbrev dktX0_keep_0 : List UInt8 := dkwX0_keep_0 ++ []
theorem dksX0_keep_0 : cX0_keep.data.toList.drop 0 = dktX0_keep_0 := by decide +kernel
theorem dX0_keep_0 : decode cX0_keep 0 = .ok (.aload_n 2, 1) := dk_44 (dk_at dksX0_keep_0 0 rfl rfl)
theorem dX0_keep_1 : decode cX0_keep 1 = .ok (.iconst 0, 1) := dk_3 (dk_at dksX0_keep_0 1 rfl rfl)
theorem dX0_keep_2 : decode cX0_keep 2 = .ok (.aload_n 0, 1) := dk_42 (dk_at dksX0_keep_0 2 rfl rfl)
theorem dX0_keep_3 : decode cX0_keep 3 = .ok (.iload_n 1, 1) := dk_27 (dk_at dksX0_keep_0 3 rfl rfl)
theorem dX0_keep_4 : decode cX0_keep 4 = .ok (.invokevirtual 54, 3) := dk_182 0 54 (dk_at dksX0_keep_0 4 rfl rfl)
theorem dX0_keep_7 : decode cX0_keep 7 = .ok (.i2l, 1) := dk_133 (dk_at dksX0_keep_0 7 rfl rfl)
theorem dX0_keep_8 : decode cX0_keep 8 = .ok (.lastore, 1) := dk_80 (dk_at dksX0_keep_0 8 rfl rfl)
theorem dX0_keep_9 : decode cX0_keep 9 = .ok (.goto 6, 3) := dk_167 0 6 (dk_at dksX0_keep_0 9 rfl rfl)
theorem dX0_keep_12 : decode cX0_keep 12 = .ok (.astore_n 3, 1) := dk_78 (dk_at dksX0_keep_0 12 rfl rfl)
theorem dX0_keep_13 : decode cX0_keep 13 = .ok (.iconst 1, 1) := dk_4 (dk_at dksX0_keep_0 13 rfl rfl)
theorem dX0_keep_14 : decode cX0_keep 14 = .ok (.ireturn, 1) := dk_172 (dk_at dksX0_keep_0 14 rfl rfl)
theorem dX0_keep_15 : decode cX0_keep 15 = .ok (.iconst 0, 1) := dk_3 (dk_at dksX0_keep_0 15 rfl rfl)
theorem dX0_keep_16 : decode cX0_keep 16 = .ok (.ireturn, 1) := dk_172 (dk_at dksX0_keep_0 16 rfl rfl)
abbrev cX0_goBack : ByteArray := method_16_code
def yX0_goBack : MethodName := ⟨RX0, "goBack", "(LGaugeBlocks;I[J)I"⟩
def dkwX0_goBack_0 : List UInt8 := [44, 3, 42, 27, 182, 0, 57, 133, 80, 167, 0, 9, 78, 4, 172, 78, 5, 172, 3, 172]
abbrev dktX0_goBack_0 : List UInt8 := dkwX0_goBack_0 ++ []
theorem dksX0_goBack_0 : cX0_goBack.data.toList.drop 0 = dktX0_goBack_0 := by decide +kernel
theorem dX0_goBack_0 : decode cX0_goBack 0 = .ok (.aload_n 2, 1) := dk_44 (dk_at dksX0_goBack_0 0 rfl rfl)
theorem dX0_goBack_1 : decode cX0_goBack 1 = .ok (.iconst 0, 1) := dk_3 (dk_at dksX0_goBack_0 1 rfl rfl)
theorem dX0_goBack_2 : decode cX0_goBack 2 = .ok (.aload_n 0, 1) := dk_42 (dk_at dksX0_goBack_0 2 rfl rfl)
theorem dX0_goBack_3 : decode cX0_goBack 3 = .ok (.iload_n 1, 1) := dk_27 (dk_at dksX0_goBack_0 3 rfl rfl)
theorem dX0_goBack_4 : decode cX0_goBack 4 = .ok (.invokevirtual 57, 3) := dk_182 0 57 (dk_at dksX0_goBack_0 4 rfl rfl)
theorem dX0_goBack_7 : decode cX0_goBack 7 = .ok (.i2l, 1) := dk_133 (dk_at dksX0_goBack_0 7 rfl rfl)
theorem dX0_goBack_8 : decode cX0_goBack 8 = .ok (.lastore, 1) := dk_80 (dk_at dksX0_goBack_0 8 rfl rfl)
theorem dX0_goBack_9 : decode cX0_goBack 9 = .ok (.goto 9, 3) := dk_167 0 9 (dk_at dksX0_goBack_0 9 rfl rfl)
theorem dX0_goBack_12 : decode cX0_goBack 12 = .ok (.astore_n 3, 1) := dk_78 (dk_at dksX0_goBack_0 12 rfl rfl)
theorem dX0_goBack_13 : decode cX0_goBack 13 = .ok (.iconst 1, 1) := dk_4 (dk_at dksX0_goBack_0 13 rfl rfl)
theorem dX0_goBack_14 : decode cX0_goBack 14 = .ok (.ireturn, 1) := dk_172 (dk_at dksX0_goBack_0 14 rfl rfl)
theorem dX0_goBack_15 : decode cX0_goBack 15 = .ok (.astore_n 3, 1) := dk_78 (dk_at dksX0_goBack_0 15 rfl rfl)
theorem dX0_goBack_16 : decode cX0_goBack 16 = .ok (.iconst 2, 1) := dk_5 (dk_at dksX0_goBack_0 16 rfl rfl)
theorem dX0_goBack_17 : decode cX0_goBack 17 = .ok (.ireturn, 1) := dk_172 (dk_at dksX0_goBack_0 17 rfl rfl)
theorem dX0_goBack_18 : decode cX0_goBack 18 = .ok (.iconst 0, 1) := dk_3 (dk_at dksX0_goBack_0 18 rfl rfl)
theorem dX0_goBack_19 : decode cX0_goBack 19 = .ok (.ireturn, 1) := dk_172 (dk_at dksX0_goBack_0 19 rfl rfl)
abbrev cX0_blockOf : ByteArray := method_17_code
def yX0_blockOf : MethodName := ⟨RX0, "blockOf", "(LGaugeBlocks;II[J)I"⟩
def dkwX0_blockOf_0 : List UInt8 := [45, 3, 42, 27, 28, 182, 0, 60, 133, 80, 167, 0, 11, 58, 4, 4, 172, 58, 4, 5, 172, 3, 172]
abbrev dktX0_blockOf_0 : List UInt8 := dkwX0_blockOf_0 ++ []
theorem dksX0_blockOf_0 : cX0_blockOf.data.toList.drop 0 = dktX0_blockOf_0 := by decide +kernel
theorem dX0_blockOf_0 : decode cX0_blockOf 0 = .ok (.aload_n 3, 1) := dk_45 (dk_at dksX0_blockOf_0 0 rfl rfl)
theorem dX0_blockOf_1 : decode cX0_blockOf 1 = .ok (.iconst 0, 1) := dk_3 (dk_at dksX0_blockOf_0 1 rfl rfl)
theorem dX0_blockOf_2 : decode cX0_blockOf 2 = .ok (.aload_n 0, 1) := dk_42 (dk_at dksX0_blockOf_0 2 rfl rfl)
theorem dX0_blockOf_3 : decode cX0_blockOf 3 = .ok (.iload_n 1, 1) := dk_27 (dk_at dksX0_blockOf_0 3 rfl rfl)
theorem dX0_blockOf_4 : decode cX0_blockOf 4 = .ok (.iload_n 2, 1) := dk_28 (dk_at dksX0_blockOf_0 4 rfl rfl)
theorem dX0_blockOf_5 : decode cX0_blockOf 5 = .ok (.invokevirtual 60, 3) := dk_182 0 60 (dk_at dksX0_blockOf_0 5 rfl rfl)
theorem dX0_blockOf_8 : decode cX0_blockOf 8 = .ok (.i2l, 1) := dk_133 (dk_at dksX0_blockOf_0 8 rfl rfl)
theorem dX0_blockOf_9 : decode cX0_blockOf 9 = .ok (.lastore, 1) := dk_80 (dk_at dksX0_blockOf_0 9 rfl rfl)
theorem dX0_blockOf_10 : decode cX0_blockOf 10 = .ok (.goto 11, 3) := dk_167 0 11 (dk_at dksX0_blockOf_0 10 rfl rfl)
theorem dX0_blockOf_13 : decode cX0_blockOf 13 = .ok (.astore 4, 2) := dk_58 4 (dk_at dksX0_blockOf_0 13 rfl rfl)
theorem dX0_blockOf_15 : decode cX0_blockOf 15 = .ok (.iconst 1, 1) := dk_4 (dk_at dksX0_blockOf_0 15 rfl rfl)
theorem dX0_blockOf_16 : decode cX0_blockOf 16 = .ok (.ireturn, 1) := dk_172 (dk_at dksX0_blockOf_0 16 rfl rfl)
theorem dX0_blockOf_17 : decode cX0_blockOf 17 = .ok (.astore 4, 2) := dk_58 4 (dk_at dksX0_blockOf_0 17 rfl rfl)
theorem dX0_blockOf_19 : decode cX0_blockOf 19 = .ok (.iconst 2, 1) := dk_5 (dk_at dksX0_blockOf_0 19 rfl rfl)
theorem dX0_blockOf_20 : decode cX0_blockOf 20 = .ok (.ireturn, 1) := dk_172 (dk_at dksX0_blockOf_0 20 rfl rfl)
theorem dX0_blockOf_21 : decode cX0_blockOf 21 = .ok (.iconst 0, 1) := dk_3 (dk_at dksX0_blockOf_0 21 rfl rfl)
theorem dX0_blockOf_22 : decode cX0_blockOf 22 = .ok (.ireturn, 1) := dk_172 (dk_at dksX0_blockOf_0 22 rfl rfl)
abbrev cX0_stackOf : ByteArray := method_18_code
def yX0_stackOf : MethodName := ⟨RX0, "stackOf", "(LGaugeBlocks;II[J)I"⟩
def dkwX0_stackOf_0 : List UInt8 := [45, 3, 42, 27, 28, 182, 0, 63, 133, 80, 167, 0, 11, 58, 4, 4, 172, 58, 4, 5, 172, 3, 172]
abbrev dktX0_stackOf_0 : List UInt8 := dkwX0_stackOf_0 ++ []
theorem dksX0_stackOf_0 : cX0_stackOf.data.toList.drop 0 = dktX0_stackOf_0 := by decide +kernel
theorem dX0_stackOf_0 : decode cX0_stackOf 0 = .ok (.aload_n 3, 1) := dk_45 (dk_at dksX0_stackOf_0 0 rfl rfl)
theorem dX0_stackOf_1 : decode cX0_stackOf 1 = .ok (.iconst 0, 1) := dk_3 (dk_at dksX0_stackOf_0 1 rfl rfl)
theorem dX0_stackOf_2 : decode cX0_stackOf 2 = .ok (.aload_n 0, 1) := dk_42 (dk_at dksX0_stackOf_0 2 rfl rfl)
theorem dX0_stackOf_3 : decode cX0_stackOf 3 = .ok (.iload_n 1, 1) := dk_27 (dk_at dksX0_stackOf_0 3 rfl rfl)
theorem dX0_stackOf_4 : decode cX0_stackOf 4 = .ok (.iload_n 2, 1) := dk_28 (dk_at dksX0_stackOf_0 4 rfl rfl)
theorem dX0_stackOf_5 : decode cX0_stackOf 5 = .ok (.invokevirtual 63, 3) := dk_182 0 63 (dk_at dksX0_stackOf_0 5 rfl rfl)
theorem dX0_stackOf_8 : decode cX0_stackOf 8 = .ok (.i2l, 1) := dk_133 (dk_at dksX0_stackOf_0 8 rfl rfl)
theorem dX0_stackOf_9 : decode cX0_stackOf 9 = .ok (.lastore, 1) := dk_80 (dk_at dksX0_stackOf_0 9 rfl rfl)
theorem dX0_stackOf_10 : decode cX0_stackOf 10 = .ok (.goto 11, 3) := dk_167 0 11 (dk_at dksX0_stackOf_0 10 rfl rfl)
theorem dX0_stackOf_13 : decode cX0_stackOf 13 = .ok (.astore 4, 2) := dk_58 4 (dk_at dksX0_stackOf_0 13 rfl rfl)
theorem dX0_stackOf_15 : decode cX0_stackOf 15 = .ok (.iconst 1, 1) := dk_4 (dk_at dksX0_stackOf_0 15 rfl rfl)
theorem dX0_stackOf_16 : decode cX0_stackOf 16 = .ok (.ireturn, 1) := dk_172 (dk_at dksX0_stackOf_0 16 rfl rfl)
theorem dX0_stackOf_17 : decode cX0_stackOf 17 = .ok (.astore 4, 2) := dk_58 4 (dk_at dksX0_stackOf_0 17 rfl rfl)
theorem dX0_stackOf_19 : decode cX0_stackOf 19 = .ok (.iconst 2, 1) := dk_5 (dk_at dksX0_stackOf_0 19 rfl rfl)
theorem dX0_stackOf_20 : decode cX0_stackOf 20 = .ok (.ireturn, 1) := dk_172 (dk_at dksX0_stackOf_0 20 rfl rfl)
theorem dX0_stackOf_21 : decode cX0_stackOf 21 = .ok (.iconst 0, 1) := dk_3 (dk_at dksX0_stackOf_0 21 rfl rfl)
theorem dX0_stackOf_22 : decode cX0_stackOf 22 = .ok (.ireturn, 1) := dk_172 (dk_at dksX0_stackOf_0 22 rfl rfl)
abbrev cX0_ranked : ByteArray := method_19_code
def yX0_ranked : MethodName := ⟨RX0, "ranked", "(LGaugeBlocks;II[J)I"⟩
def dkwX0_ranked_0 : List UInt8 := [45, 3, 42, 27, 28, 182, 0, 66, 133, 80, 167, 0, 7, 58, 4, 4, 172, 3, 172]
abbrev dktX0_ranked_0 : List UInt8 := dkwX0_ranked_0 ++ []
theorem dksX0_ranked_0 : cX0_ranked.data.toList.drop 0 = dktX0_ranked_0 := by decide +kernel
theorem dX0_ranked_0 : decode cX0_ranked 0 = .ok (.aload_n 3, 1) := dk_45 (dk_at dksX0_ranked_0 0 rfl rfl)
theorem dX0_ranked_1 : decode cX0_ranked 1 = .ok (.iconst 0, 1) := dk_3 (dk_at dksX0_ranked_0 1 rfl rfl)
theorem dX0_ranked_2 : decode cX0_ranked 2 = .ok (.aload_n 0, 1) := dk_42 (dk_at dksX0_ranked_0 2 rfl rfl)
theorem dX0_ranked_3 : decode cX0_ranked 3 = .ok (.iload_n 1, 1) := dk_27 (dk_at dksX0_ranked_0 3 rfl rfl)
theorem dX0_ranked_4 : decode cX0_ranked 4 = .ok (.iload_n 2, 1) := dk_28 (dk_at dksX0_ranked_0 4 rfl rfl)
theorem dX0_ranked_5 : decode cX0_ranked 5 = .ok (.invokevirtual 66, 3) := dk_182 0 66 (dk_at dksX0_ranked_0 5 rfl rfl)
theorem dX0_ranked_8 : decode cX0_ranked 8 = .ok (.i2l, 1) := dk_133 (dk_at dksX0_ranked_0 8 rfl rfl)
theorem dX0_ranked_9 : decode cX0_ranked 9 = .ok (.lastore, 1) := dk_80 (dk_at dksX0_ranked_0 9 rfl rfl)
theorem dX0_ranked_10 : decode cX0_ranked 10 = .ok (.goto 7, 3) := dk_167 0 7 (dk_at dksX0_ranked_0 10 rfl rfl)
theorem dX0_ranked_13 : decode cX0_ranked 13 = .ok (.astore 4, 2) := dk_58 4 (dk_at dksX0_ranked_0 13 rfl rfl)
theorem dX0_ranked_15 : decode cX0_ranked 15 = .ok (.iconst 1, 1) := dk_4 (dk_at dksX0_ranked_0 15 rfl rfl)
theorem dX0_ranked_16 : decode cX0_ranked 16 = .ok (.ireturn, 1) := dk_172 (dk_at dksX0_ranked_0 16 rfl rfl)
theorem dX0_ranked_17 : decode cX0_ranked 17 = .ok (.iconst 0, 1) := dk_3 (dk_at dksX0_ranked_0 17 rfl rfl)
theorem dX0_ranked_18 : decode cX0_ranked 18 = .ok (.ireturn, 1) := dk_172 (dk_at dksX0_ranked_0 18 rfl rfl)
abbrev cX0_lengths : ByteArray := method_20_code
def yX0_lengths : MethodName := ⟨RX0, "lengths", "(LGaugeBlocks;I[J)I"⟩
def dkwX0_lengths_0 : List UInt8 := [44, 3, 42, 27, 182, 0, 69, 133, 80, 167, 0, 6, 78, 4, 172, 3, 172]
abbrev dktX0_lengths_0 : List UInt8 := dkwX0_lengths_0 ++ []
theorem dksX0_lengths_0 : cX0_lengths.data.toList.drop 0 = dktX0_lengths_0 := by decide +kernel
theorem dX0_lengths_0 : decode cX0_lengths 0 = .ok (.aload_n 2, 1) := dk_44 (dk_at dksX0_lengths_0 0 rfl rfl)
theorem dX0_lengths_1 : decode cX0_lengths 1 = .ok (.iconst 0, 1) := dk_3 (dk_at dksX0_lengths_0 1 rfl rfl)
theorem dX0_lengths_2 : decode cX0_lengths 2 = .ok (.aload_n 0, 1) := dk_42 (dk_at dksX0_lengths_0 2 rfl rfl)
theorem dX0_lengths_3 : decode cX0_lengths 3 = .ok (.iload_n 1, 1) := dk_27 (dk_at dksX0_lengths_0 3 rfl rfl)
theorem dX0_lengths_4 : decode cX0_lengths 4 = .ok (.invokevirtual 69, 3) := dk_182 0 69 (dk_at dksX0_lengths_0 4 rfl rfl)
theorem dX0_lengths_7 : decode cX0_lengths 7 = .ok (.i2l, 1) := dk_133 (dk_at dksX0_lengths_0 7 rfl rfl)
theorem dX0_lengths_8 : decode cX0_lengths 8 = .ok (.lastore, 1) := dk_80 (dk_at dksX0_lengths_0 8 rfl rfl)
theorem dX0_lengths_9 : decode cX0_lengths 9 = .ok (.goto 6, 3) := dk_167 0 6 (dk_at dksX0_lengths_0 9 rfl rfl)
theorem dX0_lengths_12 : decode cX0_lengths 12 = .ok (.astore_n 3, 1) := dk_78 (dk_at dksX0_lengths_0 12 rfl rfl)
theorem dX0_lengths_13 : decode cX0_lengths 13 = .ok (.iconst 1, 1) := dk_4 (dk_at dksX0_lengths_0 13 rfl rfl)
theorem dX0_lengths_14 : decode cX0_lengths 14 = .ok (.ireturn, 1) := dk_172 (dk_at dksX0_lengths_0 14 rfl rfl)
theorem dX0_lengths_15 : decode cX0_lengths 15 = .ok (.iconst 0, 1) := dk_3 (dk_at dksX0_lengths_0 15 rfl rfl)
theorem dX0_lengths_16 : decode cX0_lengths 16 = .ok (.ireturn, 1) := dk_172 (dk_at dksX0_lengths_0 16 rfl rfl)
abbrev cX0_count : ByteArray := method_21_code
def yX0_count : MethodName := ⟨RX0, "count", "(LGaugeBlocks;I[J)I"⟩
def dkwX0_count_0 : List UInt8 := [44, 3, 42, 27, 182, 0, 72, 133, 80, 167, 0, 6, 78, 4, 172, 3, 172]
abbrev dktX0_count_0 : List UInt8 := dkwX0_count_0 ++ []
theorem dksX0_count_0 : cX0_count.data.toList.drop 0 = dktX0_count_0 := by decide +kernel
theorem dX0_count_0 : decode cX0_count 0 = .ok (.aload_n 2, 1) := dk_44 (dk_at dksX0_count_0 0 rfl rfl)
theorem dX0_count_1 : decode cX0_count 1 = .ok (.iconst 0, 1) := dk_3 (dk_at dksX0_count_0 1 rfl rfl)
theorem dX0_count_2 : decode cX0_count 2 = .ok (.aload_n 0, 1) := dk_42 (dk_at dksX0_count_0 2 rfl rfl)
theorem dX0_count_3 : decode cX0_count 3 = .ok (.iload_n 1, 1) := dk_27 (dk_at dksX0_count_0 3 rfl rfl)
theorem dX0_count_4 : decode cX0_count 4 = .ok (.invokevirtual 72, 3) := dk_182 0 72 (dk_at dksX0_count_0 4 rfl rfl)
theorem dX0_count_7 : decode cX0_count 7 = .ok (.i2l, 1) := dk_133 (dk_at dksX0_count_0 7 rfl rfl)
theorem dX0_count_8 : decode cX0_count 8 = .ok (.lastore, 1) := dk_80 (dk_at dksX0_count_0 8 rfl rfl)
theorem dX0_count_9 : decode cX0_count 9 = .ok (.goto 6, 3) := dk_167 0 6 (dk_at dksX0_count_0 9 rfl rfl)
theorem dX0_count_12 : decode cX0_count 12 = .ok (.astore_n 3, 1) := dk_78 (dk_at dksX0_count_0 12 rfl rfl)
theorem dX0_count_13 : decode cX0_count 13 = .ok (.iconst 1, 1) := dk_4 (dk_at dksX0_count_0 13 rfl rfl)
theorem dX0_count_14 : decode cX0_count 14 = .ok (.ireturn, 1) := dk_172 (dk_at dksX0_count_0 14 rfl rfl)
theorem dX0_count_15 : decode cX0_count 15 = .ok (.iconst 0, 1) := dk_3 (dk_at dksX0_count_0 15 rfl rfl)
theorem dX0_count_16 : decode cX0_count 16 = .ok (.ireturn, 1) := dk_172 (dk_at dksX0_count_0 16 rfl rfl)
abbrev cX0_setting : ByteArray := method_22_code
def yX0_setting : MethodName := ⟨RX0, "setting", "(LGaugeBlocks;I[J)I"⟩
def dkwX0_setting_0 : List UInt8 := [44, 3, 42, 27, 182, 0, 75, 133, 80, 167, 0, 6, 78, 4, 172, 3, 172]
abbrev dktX0_setting_0 : List UInt8 := dkwX0_setting_0 ++ []
theorem dksX0_setting_0 : cX0_setting.data.toList.drop 0 = dktX0_setting_0 := by decide +kernel
theorem dX0_setting_0 : decode cX0_setting 0 = .ok (.aload_n 2, 1) := dk_44 (dk_at dksX0_setting_0 0 rfl rfl)
theorem dX0_setting_1 : decode cX0_setting 1 = .ok (.iconst 0, 1) := dk_3 (dk_at dksX0_setting_0 1 rfl rfl)
theorem dX0_setting_2 : decode cX0_setting 2 = .ok (.aload_n 0, 1) := dk_42 (dk_at dksX0_setting_0 2 rfl rfl)
theorem dX0_setting_3 : decode cX0_setting 3 = .ok (.iload_n 1, 1) := dk_27 (dk_at dksX0_setting_0 3 rfl rfl)
theorem dX0_setting_4 : decode cX0_setting 4 = .ok (.invokevirtual 75, 3) := dk_182 0 75 (dk_at dksX0_setting_0 4 rfl rfl)
theorem dX0_setting_7 : decode cX0_setting 7 = .ok (.i2l, 1) := dk_133 (dk_at dksX0_setting_0 7 rfl rfl)
theorem dX0_setting_8 : decode cX0_setting 8 = .ok (.lastore, 1) := dk_80 (dk_at dksX0_setting_0 8 rfl rfl)
theorem dX0_setting_9 : decode cX0_setting 9 = .ok (.goto 6, 3) := dk_167 0 6 (dk_at dksX0_setting_0 9 rfl rfl)
theorem dX0_setting_12 : decode cX0_setting 12 = .ok (.astore_n 3, 1) := dk_78 (dk_at dksX0_setting_0 12 rfl rfl)
theorem dX0_setting_13 : decode cX0_setting 13 = .ok (.iconst 1, 1) := dk_4 (dk_at dksX0_setting_0 13 rfl rfl)
theorem dX0_setting_14 : decode cX0_setting 14 = .ok (.ireturn, 1) := dk_172 (dk_at dksX0_setting_0 14 rfl rfl)
theorem dX0_setting_15 : decode cX0_setting 15 = .ok (.iconst 0, 1) := dk_3 (dk_at dksX0_setting_0 15 rfl rfl)
theorem dX0_setting_16 : decode cX0_setting 16 = .ok (.ireturn, 1) := dk_172 (dk_at dksX0_setting_0 16 rfl rfl)
abbrev cX0_refusal : ByteArray := method_23_code
def yX0_refusal : MethodName := ⟨RX0, "refusal", "(LGaugeBlocks;II[J)I"⟩
def dkwX0_refusal_0 : List UInt8 := [45, 3, 42, 27, 28, 182, 0, 78, 133, 80, 167, 0, 7, 58, 4, 4, 172, 3, 172]
abbrev dktX0_refusal_0 : List UInt8 := dkwX0_refusal_0 ++ []
theorem dksX0_refusal_0 : cX0_refusal.data.toList.drop 0 = dktX0_refusal_0 := by decide +kernel
theorem dX0_refusal_0 : decode cX0_refusal 0 = .ok (.aload_n 3, 1) := dk_45 (dk_at dksX0_refusal_0 0 rfl rfl)
theorem dX0_refusal_1 : decode cX0_refusal 1 = .ok (.iconst 0, 1) := dk_3 (dk_at dksX0_refusal_0 1 rfl rfl)
theorem dX0_refusal_2 : decode cX0_refusal 2 = .ok (.aload_n 0, 1) := dk_42 (dk_at dksX0_refusal_0 2 rfl rfl)
theorem dX0_refusal_3 : decode cX0_refusal 3 = .ok (.iload_n 1, 1) := dk_27 (dk_at dksX0_refusal_0 3 rfl rfl)
theorem dX0_refusal_4 : decode cX0_refusal 4 = .ok (.iload_n 2, 1) := dk_28 (dk_at dksX0_refusal_0 4 rfl rfl)
theorem dX0_refusal_5 : decode cX0_refusal 5 = .ok (.invokevirtual 78, 3) := dk_182 0 78 (dk_at dksX0_refusal_0 5 rfl rfl)
theorem dX0_refusal_8 : decode cX0_refusal 8 = .ok (.i2l, 1) := dk_133 (dk_at dksX0_refusal_0 8 rfl rfl)
theorem dX0_refusal_9 : decode cX0_refusal 9 = .ok (.lastore, 1) := dk_80 (dk_at dksX0_refusal_0 9 rfl rfl)
theorem dX0_refusal_10 : decode cX0_refusal 10 = .ok (.goto 7, 3) := dk_167 0 7 (dk_at dksX0_refusal_0 10 rfl rfl)
theorem dX0_refusal_13 : decode cX0_refusal 13 = .ok (.astore 4, 2) := dk_58 4 (dk_at dksX0_refusal_0 13 rfl rfl)
theorem dX0_refusal_15 : decode cX0_refusal 15 = .ok (.iconst 1, 1) := dk_4 (dk_at dksX0_refusal_0 15 rfl rfl)
theorem dX0_refusal_16 : decode cX0_refusal 16 = .ok (.ireturn, 1) := dk_172 (dk_at dksX0_refusal_0 16 rfl rfl)
theorem dX0_refusal_17 : decode cX0_refusal 17 = .ok (.iconst 0, 1) := dk_3 (dk_at dksX0_refusal_0 17 rfl rfl)
theorem dX0_refusal_18 : decode cX0_refusal 18 = .ok (.ireturn, 1) := dk_172 (dk_at dksX0_refusal_0 18 rfl rfl)
abbrev cX0_fewest : ByteArray := method_24_code
def yX0_fewest : MethodName := ⟨RX0, "fewest", "(LGaugeBlocks;II[J)I"⟩
def dkwX0_fewest_0 : List UInt8 := [45, 3, 42, 27, 28, 182, 0, 81, 133, 80, 167, 0, 7, 58, 4, 4, 172, 3, 172]
abbrev dktX0_fewest_0 : List UInt8 := dkwX0_fewest_0 ++ []
theorem dksX0_fewest_0 : cX0_fewest.data.toList.drop 0 = dktX0_fewest_0 := by decide +kernel
theorem dX0_fewest_0 : decode cX0_fewest 0 = .ok (.aload_n 3, 1) := dk_45 (dk_at dksX0_fewest_0 0 rfl rfl)
theorem dX0_fewest_1 : decode cX0_fewest 1 = .ok (.iconst 0, 1) := dk_3 (dk_at dksX0_fewest_0 1 rfl rfl)
theorem dX0_fewest_2 : decode cX0_fewest 2 = .ok (.aload_n 0, 1) := dk_42 (dk_at dksX0_fewest_0 2 rfl rfl)
theorem dX0_fewest_3 : decode cX0_fewest 3 = .ok (.iload_n 1, 1) := dk_27 (dk_at dksX0_fewest_0 3 rfl rfl)
theorem dX0_fewest_4 : decode cX0_fewest 4 = .ok (.iload_n 2, 1) := dk_28 (dk_at dksX0_fewest_0 4 rfl rfl)
theorem dX0_fewest_5 : decode cX0_fewest 5 = .ok (.invokevirtual 81, 3) := dk_182 0 81 (dk_at dksX0_fewest_0 5 rfl rfl)
theorem dX0_fewest_8 : decode cX0_fewest 8 = .ok (.i2l, 1) := dk_133 (dk_at dksX0_fewest_0 8 rfl rfl)
theorem dX0_fewest_9 : decode cX0_fewest 9 = .ok (.lastore, 1) := dk_80 (dk_at dksX0_fewest_0 9 rfl rfl)
theorem dX0_fewest_10 : decode cX0_fewest 10 = .ok (.goto 7, 3) := dk_167 0 7 (dk_at dksX0_fewest_0 10 rfl rfl)
theorem dX0_fewest_13 : decode cX0_fewest 13 = .ok (.astore 4, 2) := dk_58 4 (dk_at dksX0_fewest_0 13 rfl rfl)
theorem dX0_fewest_15 : decode cX0_fewest 15 = .ok (.iconst 1, 1) := dk_4 (dk_at dksX0_fewest_0 15 rfl rfl)
theorem dX0_fewest_16 : decode cX0_fewest 16 = .ok (.ireturn, 1) := dk_172 (dk_at dksX0_fewest_0 16 rfl rfl)
theorem dX0_fewest_17 : decode cX0_fewest 17 = .ok (.iconst 0, 1) := dk_3 (dk_at dksX0_fewest_0 17 rfl rfl)
theorem dX0_fewest_18 : decode cX0_fewest 18 = .ok (.ireturn, 1) := dk_172 (dk_at dksX0_fewest_0 18 rfl rfl)
abbrev cX0_oldWay : ByteArray := method_25_code
def yX0_oldWay : MethodName := ⟨RX0, "oldWay", "(LGaugeBlocks;II[J)I"⟩
def dkwX0_oldWay_0 : List UInt8 := [45, 3, 42, 27, 28, 182, 0, 84, 133, 80, 167, 0, 7, 58, 4, 4, 172, 3, 172]
abbrev dktX0_oldWay_0 : List UInt8 := dkwX0_oldWay_0 ++ []
theorem dksX0_oldWay_0 : cX0_oldWay.data.toList.drop 0 = dktX0_oldWay_0 := by decide +kernel
theorem dX0_oldWay_0 : decode cX0_oldWay 0 = .ok (.aload_n 3, 1) := dk_45 (dk_at dksX0_oldWay_0 0 rfl rfl)
theorem dX0_oldWay_1 : decode cX0_oldWay 1 = .ok (.iconst 0, 1) := dk_3 (dk_at dksX0_oldWay_0 1 rfl rfl)
theorem dX0_oldWay_2 : decode cX0_oldWay 2 = .ok (.aload_n 0, 1) := dk_42 (dk_at dksX0_oldWay_0 2 rfl rfl)
theorem dX0_oldWay_3 : decode cX0_oldWay 3 = .ok (.iload_n 1, 1) := dk_27 (dk_at dksX0_oldWay_0 3 rfl rfl)
theorem dX0_oldWay_4 : decode cX0_oldWay 4 = .ok (.iload_n 2, 1) := dk_28 (dk_at dksX0_oldWay_0 4 rfl rfl)
theorem dX0_oldWay_5 : decode cX0_oldWay 5 = .ok (.invokevirtual 84, 3) := dk_182 0 84 (dk_at dksX0_oldWay_0 5 rfl rfl)
theorem dX0_oldWay_8 : decode cX0_oldWay 8 = .ok (.i2l, 1) := dk_133 (dk_at dksX0_oldWay_0 8 rfl rfl)
theorem dX0_oldWay_9 : decode cX0_oldWay 9 = .ok (.lastore, 1) := dk_80 (dk_at dksX0_oldWay_0 9 rfl rfl)
theorem dX0_oldWay_10 : decode cX0_oldWay 10 = .ok (.goto 7, 3) := dk_167 0 7 (dk_at dksX0_oldWay_0 10 rfl rfl)
theorem dX0_oldWay_13 : decode cX0_oldWay 13 = .ok (.astore 4, 2) := dk_58 4 (dk_at dksX0_oldWay_0 13 rfl rfl)
theorem dX0_oldWay_15 : decode cX0_oldWay 15 = .ok (.iconst 1, 1) := dk_4 (dk_at dksX0_oldWay_0 15 rfl rfl)
theorem dX0_oldWay_16 : decode cX0_oldWay 16 = .ok (.ireturn, 1) := dk_172 (dk_at dksX0_oldWay_0 16 rfl rfl)
theorem dX0_oldWay_17 : decode cX0_oldWay 17 = .ok (.iconst 0, 1) := dk_3 (dk_at dksX0_oldWay_0 17 rfl rfl)
theorem dX0_oldWay_18 : decode cX0_oldWay 18 = .ok (.ireturn, 1) := dk_172 (dk_at dksX0_oldWay_0 18 rfl rfl)
abbrev cX0_nearest : ByteArray := method_26_code
def yX0_nearest : MethodName := ⟨RX0, "nearest", "(LGaugeBlocks;I[J)I"⟩
def dkwX0_nearest_0 : List UInt8 := [44, 3, 42, 27, 182, 0, 87, 133, 80, 167, 0, 6, 78, 4, 172, 3, 172]
abbrev dktX0_nearest_0 : List UInt8 := dkwX0_nearest_0 ++ []
theorem dksX0_nearest_0 : cX0_nearest.data.toList.drop 0 = dktX0_nearest_0 := by decide +kernel
theorem dX0_nearest_0 : decode cX0_nearest 0 = .ok (.aload_n 2, 1) := dk_44 (dk_at dksX0_nearest_0 0 rfl rfl)
theorem dX0_nearest_1 : decode cX0_nearest 1 = .ok (.iconst 0, 1) := dk_3 (dk_at dksX0_nearest_0 1 rfl rfl)
theorem dX0_nearest_2 : decode cX0_nearest 2 = .ok (.aload_n 0, 1) := dk_42 (dk_at dksX0_nearest_0 2 rfl rfl)
theorem dX0_nearest_3 : decode cX0_nearest 3 = .ok (.iload_n 1, 1) := dk_27 (dk_at dksX0_nearest_0 3 rfl rfl)
theorem dX0_nearest_4 : decode cX0_nearest 4 = .ok (.invokevirtual 87, 3) := dk_182 0 87 (dk_at dksX0_nearest_0 4 rfl rfl)
theorem dX0_nearest_7 : decode cX0_nearest 7 = .ok (.i2l, 1) := dk_133 (dk_at dksX0_nearest_0 7 rfl rfl)
theorem dX0_nearest_8 : decode cX0_nearest 8 = .ok (.lastore, 1) := dk_80 (dk_at dksX0_nearest_0 8 rfl rfl)
theorem dX0_nearest_9 : decode cX0_nearest 9 = .ok (.goto 6, 3) := dk_167 0 6 (dk_at dksX0_nearest_0 9 rfl rfl)
theorem dX0_nearest_12 : decode cX0_nearest 12 = .ok (.astore_n 3, 1) := dk_78 (dk_at dksX0_nearest_0 12 rfl rfl)
theorem dX0_nearest_13 : decode cX0_nearest 13 = .ok (.iconst 1, 1) := dk_4 (dk_at dksX0_nearest_0 13 rfl rfl)
theorem dX0_nearest_14 : decode cX0_nearest 14 = .ok (.ireturn, 1) := dk_172 (dk_at dksX0_nearest_0 14 rfl rfl)
theorem dX0_nearest_15 : decode cX0_nearest 15 = .ok (.iconst 0, 1) := dk_3 (dk_at dksX0_nearest_0 15 rfl rfl)
theorem dX0_nearest_16 : decode cX0_nearest 16 = .ok (.ireturn, 1) := dk_172 (dk_at dksX0_nearest_0 16 rfl rfl)
abbrev cX0_coolIn : ByteArray := method_27_code
def yX0_coolIn : MethodName := ⟨RX0, "coolIn", "(LGaugeBlocks;I[J)I"⟩
def dkwX0_coolIn_0 : List UInt8 := [44, 3, 42, 27, 182, 0, 90, 133, 80, 167, 0, 6, 78, 4, 172, 3, 172]
abbrev dktX0_coolIn_0 : List UInt8 := dkwX0_coolIn_0 ++ []
theorem dksX0_coolIn_0 : cX0_coolIn.data.toList.drop 0 = dktX0_coolIn_0 := by decide +kernel
theorem dX0_coolIn_0 : decode cX0_coolIn 0 = .ok (.aload_n 2, 1) := dk_44 (dk_at dksX0_coolIn_0 0 rfl rfl)
theorem dX0_coolIn_1 : decode cX0_coolIn 1 = .ok (.iconst 0, 1) := dk_3 (dk_at dksX0_coolIn_0 1 rfl rfl)
theorem dX0_coolIn_2 : decode cX0_coolIn 2 = .ok (.aload_n 0, 1) := dk_42 (dk_at dksX0_coolIn_0 2 rfl rfl)
theorem dX0_coolIn_3 : decode cX0_coolIn 3 = .ok (.iload_n 1, 1) := dk_27 (dk_at dksX0_coolIn_0 3 rfl rfl)
theorem dX0_coolIn_4 : decode cX0_coolIn 4 = .ok (.invokevirtual 90, 3) := dk_182 0 90 (dk_at dksX0_coolIn_0 4 rfl rfl)
theorem dX0_coolIn_7 : decode cX0_coolIn 7 = .ok (.i2l, 1) := dk_133 (dk_at dksX0_coolIn_0 7 rfl rfl)
theorem dX0_coolIn_8 : decode cX0_coolIn 8 = .ok (.lastore, 1) := dk_80 (dk_at dksX0_coolIn_0 8 rfl rfl)
theorem dX0_coolIn_9 : decode cX0_coolIn 9 = .ok (.goto 6, 3) := dk_167 0 6 (dk_at dksX0_coolIn_0 9 rfl rfl)
theorem dX0_coolIn_12 : decode cX0_coolIn 12 = .ok (.astore_n 3, 1) := dk_78 (dk_at dksX0_coolIn_0 12 rfl rfl)
theorem dX0_coolIn_13 : decode cX0_coolIn 13 = .ok (.iconst 1, 1) := dk_4 (dk_at dksX0_coolIn_0 13 rfl rfl)
theorem dX0_coolIn_14 : decode cX0_coolIn 14 = .ok (.ireturn, 1) := dk_172 (dk_at dksX0_coolIn_0 14 rfl rfl)
theorem dX0_coolIn_15 : decode cX0_coolIn 15 = .ok (.iconst 0, 1) := dk_3 (dk_at dksX0_coolIn_0 15 rfl rfl)
theorem dX0_coolIn_16 : decode cX0_coolIn 16 = .ok (.ireturn, 1) := dk_172 (dk_at dksX0_coolIn_0 16 rfl rfl)
abbrev cX0_lengthIn : ByteArray := method_28_code
def yX0_lengthIn : MethodName := ⟨RX0, "lengthIn", "(LGaugeBlocks;II[J)I"⟩
def dkwX0_lengthIn_0 : List UInt8 := [45, 3, 42, 27, 28, 182, 0, 93, 133, 80, 167, 0, 11, 58, 4, 4, 172, 58, 4, 5, 172, 3, 172]
abbrev dktX0_lengthIn_0 : List UInt8 := dkwX0_lengthIn_0 ++ []
theorem dksX0_lengthIn_0 : cX0_lengthIn.data.toList.drop 0 = dktX0_lengthIn_0 := by decide +kernel
theorem dX0_lengthIn_0 : decode cX0_lengthIn 0 = .ok (.aload_n 3, 1) := dk_45 (dk_at dksX0_lengthIn_0 0 rfl rfl)
theorem dX0_lengthIn_1 : decode cX0_lengthIn 1 = .ok (.iconst 0, 1) := dk_3 (dk_at dksX0_lengthIn_0 1 rfl rfl)
theorem dX0_lengthIn_2 : decode cX0_lengthIn 2 = .ok (.aload_n 0, 1) := dk_42 (dk_at dksX0_lengthIn_0 2 rfl rfl)
theorem dX0_lengthIn_3 : decode cX0_lengthIn 3 = .ok (.iload_n 1, 1) := dk_27 (dk_at dksX0_lengthIn_0 3 rfl rfl)
theorem dX0_lengthIn_4 : decode cX0_lengthIn 4 = .ok (.iload_n 2, 1) := dk_28 (dk_at dksX0_lengthIn_0 4 rfl rfl)
theorem dX0_lengthIn_5 : decode cX0_lengthIn 5 = .ok (.invokevirtual 93, 3) := dk_182 0 93 (dk_at dksX0_lengthIn_0 5 rfl rfl)
theorem dX0_lengthIn_8 : decode cX0_lengthIn 8 = .ok (.i2l, 1) := dk_133 (dk_at dksX0_lengthIn_0 8 rfl rfl)
theorem dX0_lengthIn_9 : decode cX0_lengthIn 9 = .ok (.lastore, 1) := dk_80 (dk_at dksX0_lengthIn_0 9 rfl rfl)
theorem dX0_lengthIn_10 : decode cX0_lengthIn 10 = .ok (.goto 11, 3) := dk_167 0 11 (dk_at dksX0_lengthIn_0 10 rfl rfl)
theorem dX0_lengthIn_13 : decode cX0_lengthIn 13 = .ok (.astore 4, 2) := dk_58 4 (dk_at dksX0_lengthIn_0 13 rfl rfl)
theorem dX0_lengthIn_15 : decode cX0_lengthIn 15 = .ok (.iconst 1, 1) := dk_4 (dk_at dksX0_lengthIn_0 15 rfl rfl)
theorem dX0_lengthIn_16 : decode cX0_lengthIn 16 = .ok (.ireturn, 1) := dk_172 (dk_at dksX0_lengthIn_0 16 rfl rfl)
theorem dX0_lengthIn_17 : decode cX0_lengthIn 17 = .ok (.astore 4, 2) := dk_58 4 (dk_at dksX0_lengthIn_0 17 rfl rfl)
theorem dX0_lengthIn_19 : decode cX0_lengthIn 19 = .ok (.iconst 2, 1) := dk_5 (dk_at dksX0_lengthIn_0 19 rfl rfl)
theorem dX0_lengthIn_20 : decode cX0_lengthIn 20 = .ok (.ireturn, 1) := dk_172 (dk_at dksX0_lengthIn_0 20 rfl rfl)
theorem dX0_lengthIn_21 : decode cX0_lengthIn 21 = .ok (.iconst 0, 1) := dk_3 (dk_at dksX0_lengthIn_0 21 rfl rfl)
theorem dX0_lengthIn_22 : decode cX0_lengthIn 22 = .ok (.ireturn, 1) := dk_172 (dk_at dksX0_lengthIn_0 22 rfl rfl)
theorem q75 : (Jvm.Cond.initialized "GaugeBlocksLaw") ∈ lw_all := lw_g (lw_at lw_m1 0 rfl) rfl
theorem q125 : (Jvm.Cond.classLink "GaugeBlocksLaw" (8 : Nat) "GaugeBlocks") ∈ lw_all := lw_g (lw_at lw_m1 50 rfl) rfl
theorem q127 : (Jvm.Cond.methodLink "GaugeBlocksLaw" (96 : Nat) ({ cls := "GaugeBlocks", name := "<init>", desc := "()V" } : Jvm.MethodName)) ∈ lw_all := lw_g (lw_at lw_m1 52 rfl) rfl
theorem q338 : (Jvm.Cond.methodLink "GaugeBlocksLaw" (137 : Nat) ({ cls := "GaugeBlocks", name := "clearBuffer", desc := "()I" } : Jvm.MethodName)) ∈ lw_all := lw_g (lw_at lw_m2 23 rfl) rfl
theorem q672 : (Jvm.Cond.methodLink "GaugeBlocksLaw" (141 : Nat) ({ cls := "GaugeBlocks", name := "firstError", desc := "()I" } : Jvm.MethodName)) ∈ lw_all := lw_g (lw_at lw_m3 117 rfl) rfl
theorem q778 : (Jvm.Cond.methodLink "GaugeBlocksLaw" (194 : Nat) ({ cls := "GaugeBlocks", name := "meanError", desc := "()D" } : Jvm.MethodName)) ∈ lw_all := lw_g (lw_at lw_m3 223 rfl) rfl
theorem q864 : (Jvm.Cond.methodLink "GaugeBlocksLaw" (100 : Nat) ({ cls := "GaugeBlocksLaw", name := "block", desc := "(LGaugeBlocks;II[J)I" } : Jvm.MethodName)) ∈ lw_all := lw_g (lw_at lw_m4 69 rfl) rfl
theorem q865 : (Jvm.Cond.static ({ cls := "GaugeBlocksLaw", name := "block", desc := "(LGaugeBlocks;II[J)I" } : Jvm.MethodName)) ∈ lw_all := lw_g (lw_at lw_m4 70 rfl) rfl
theorem q866 : (Jvm.Cond.codeWith ({ cls := "GaugeBlocksLaw", name := "block", desc := "(LGaugeBlocks;II[J)I" } : Jvm.MethodName) method_3_code (5 : Nat) (Option.some Jvm.ClassFile.FieldType.int) [((0 : Nat), (10 : Nat), (13 : Nat), (13 : Nat)), ((0 : Nat), (10 : Nat), (17 : Nat), (15 : Nat))]) ∈ lw_all := lw_g (lw_at lw_m4 71 rfl) rfl
theorem q867 : (Jvm.Cond.classLink "GaugeBlocksLaw" (13 : Nat) "java/lang/IllegalArgumentException") ∈ lw_all := lw_g (lw_at lw_m4 72 rfl) rfl
theorem q868 : (Jvm.Cond.classLink "GaugeBlocksLaw" (15 : Nat) "java/lang/IllegalStateException") ∈ lw_all := lw_g (lw_at lw_m4 73 rfl) rfl
theorem q869 : (Jvm.Cond.methodLink "GaugeBlocksLaw" (7 : Nat) ({ cls := "GaugeBlocks", name := "block", desc := "(II)I" } : Jvm.MethodName)) ∈ lw_all := lw_g (lw_at lw_m4 74 rfl) rfl
theorem q1022 : (Jvm.Cond.methodLink "GaugeBlocksLaw" (109 : Nat) ({ cls := "GaugeBlocksLaw", name := "discard", desc := "(LGaugeBlocks;I[J)I" } : Jvm.MethodName)) ∈ lw_all := lw_g (lw_at lw_m4 227 rfl) rfl
theorem q1023 : (Jvm.Cond.static ({ cls := "GaugeBlocksLaw", name := "discard", desc := "(LGaugeBlocks;I[J)I" } : Jvm.MethodName)) ∈ lw_all := lw_g (lw_at lw_m4 228 rfl) rfl
theorem q1024 : (Jvm.Cond.codeWith ({ cls := "GaugeBlocksLaw", name := "discard", desc := "(LGaugeBlocks;I[J)I" } : Jvm.MethodName) method_4_code (4 : Nat) (Option.some Jvm.ClassFile.FieldType.int) [((0 : Nat), (9 : Nat), (12 : Nat), (21 : Nat)), ((0 : Nat), (9 : Nat), (15 : Nat), (15 : Nat))]) ∈ lw_all := lw_g (lw_at lw_m4 229 rfl) rfl
theorem q1025 : (Jvm.Cond.classLink "GaugeBlocksLaw" (21 : Nat) "java/lang/IndexOutOfBoundsException") ∈ lw_all := lw_g (lw_at lw_m4 230 rfl) rfl
theorem q1028 : (Jvm.Cond.methodLink "GaugeBlocksLaw" (17 : Nat) ({ cls := "GaugeBlocks", name := "discard", desc := "(I)I" } : Jvm.MethodName)) ∈ lw_all := lw_g (lw_at lw_m4 233 rfl) rfl
theorem q1068 : (Jvm.Cond.methodLink "GaugeBlocksLaw" (113 : Nat) ({ cls := "GaugeBlocksLaw", name := "calibrate", desc := "(LGaugeBlocks;I[J)I" } : Jvm.MethodName)) ∈ lw_all := lw_g (lw_at lw_m5 33 rfl) rfl
theorem q1069 : (Jvm.Cond.static ({ cls := "GaugeBlocksLaw", name := "calibrate", desc := "(LGaugeBlocks;I[J)I" } : Jvm.MethodName)) ∈ lw_all := lw_g (lw_at lw_m5 34 rfl) rfl
theorem q1070 : (Jvm.Cond.codeWith ({ cls := "GaugeBlocksLaw", name := "calibrate", desc := "(LGaugeBlocks;I[J)I" } : Jvm.MethodName) method_5_code (4 : Nat) (Option.some Jvm.ClassFile.FieldType.int) [((0 : Nat), (9 : Nat), (12 : Nat), (21 : Nat)), ((0 : Nat), (9 : Nat), (15 : Nat), (15 : Nat))]) ∈ lw_all := lw_g (lw_at lw_m5 35 rfl) rfl
theorem q1071 : (Jvm.Cond.methodLink "GaugeBlocksLaw" (23 : Nat) ({ cls := "GaugeBlocks", name := "calibrate", desc := "(I)I" } : Jvm.MethodName)) ∈ lw_all := lw_g (lw_at lw_m5 36 rfl) rfl
theorem q1086 : (Jvm.Cond.methodLink "GaugeBlocksLaw" (116 : Nat) ({ cls := "GaugeBlocksLaw", name := "hold", desc := "(LGaugeBlocks;II[J)I" } : Jvm.MethodName)) ∈ lw_all := lw_g (lw_at lw_m5 51 rfl) rfl
theorem q1087 : (Jvm.Cond.static ({ cls := "GaugeBlocksLaw", name := "hold", desc := "(LGaugeBlocks;II[J)I" } : Jvm.MethodName)) ∈ lw_all := lw_g (lw_at lw_m5 52 rfl) rfl
theorem q1088 : (Jvm.Cond.codeWith ({ cls := "GaugeBlocksLaw", name := "hold", desc := "(LGaugeBlocks;II[J)I" } : Jvm.MethodName) method_6_code (5 : Nat) (Option.some Jvm.ClassFile.FieldType.int) [((0 : Nat), (10 : Nat), (13 : Nat), (21 : Nat)), ((0 : Nat), (10 : Nat), (17 : Nat), (13 : Nat))]) ∈ lw_all := lw_g (lw_at lw_m5 53 rfl) rfl
theorem q1089 : (Jvm.Cond.methodLink "GaugeBlocksLaw" (26 : Nat) ({ cls := "GaugeBlocks", name := "hold", desc := "(II)I" } : Jvm.MethodName)) ∈ lw_all := lw_g (lw_at lw_m5 54 rfl) rfl
theorem q1098 : (Jvm.Cond.methodLink "GaugeBlocksLaw" (119 : Nat) ({ cls := "GaugeBlocksLaw", name := "rest", desc := "(LGaugeBlocks;I[J)I" } : Jvm.MethodName)) ∈ lw_all := lw_g (lw_at lw_m5 63 rfl) rfl
theorem q1099 : (Jvm.Cond.static ({ cls := "GaugeBlocksLaw", name := "rest", desc := "(LGaugeBlocks;I[J)I" } : Jvm.MethodName)) ∈ lw_all := lw_g (lw_at lw_m5 64 rfl) rfl
theorem q1100 : (Jvm.Cond.codeWith ({ cls := "GaugeBlocksLaw", name := "rest", desc := "(LGaugeBlocks;I[J)I" } : Jvm.MethodName) method_7_code (4 : Nat) (Option.some Jvm.ClassFile.FieldType.int) [((0 : Nat), (9 : Nat), (12 : Nat), (13 : Nat))]) ∈ lw_all := lw_g (lw_at lw_m5 65 rfl) rfl
theorem q1101 : (Jvm.Cond.methodLink "GaugeBlocksLaw" (29 : Nat) ({ cls := "GaugeBlocks", name := "rest", desc := "(I)I" } : Jvm.MethodName)) ∈ lw_all := lw_g (lw_at lw_m5 66 rfl) rfl
theorem q1117 : (Jvm.Cond.methodLink "GaugeBlocksLaw" (122 : Nat) ({ cls := "GaugeBlocksLaw", name := "set", desc := "(LGaugeBlocks;II[J)I" } : Jvm.MethodName)) ∈ lw_all := lw_g (lw_at lw_m5 82 rfl) rfl
theorem q1118 : (Jvm.Cond.static ({ cls := "GaugeBlocksLaw", name := "set", desc := "(LGaugeBlocks;II[J)I" } : Jvm.MethodName)) ∈ lw_all := lw_g (lw_at lw_m5 83 rfl) rfl
theorem q1119 : (Jvm.Cond.codeWith ({ cls := "GaugeBlocksLaw", name := "set", desc := "(LGaugeBlocks;II[J)I" } : Jvm.MethodName) method_8_code (5 : Nat) (Option.some Jvm.ClassFile.FieldType.int) [((0 : Nat), (10 : Nat), (13 : Nat), (21 : Nat)), ((0 : Nat), (10 : Nat), (17 : Nat), (13 : Nat))]) ∈ lw_all := lw_g (lw_at lw_m5 84 rfl) rfl
theorem q1120 : (Jvm.Cond.methodLink "GaugeBlocksLaw" (32 : Nat) ({ cls := "GaugeBlocks", name := "set", desc := "(II)I" } : Jvm.MethodName)) ∈ lw_all := lw_g (lw_at lw_m5 85 rfl) rfl
theorem q1124 : (Jvm.Cond.methodLink "GaugeBlocksLaw" (125 : Nat) ({ cls := "GaugeBlocksLaw", name := "wring", desc := "(LGaugeBlocks;II[J)I" } : Jvm.MethodName)) ∈ lw_all := lw_g (lw_at lw_m5 89 rfl) rfl
theorem q1125 : (Jvm.Cond.static ({ cls := "GaugeBlocksLaw", name := "wring", desc := "(LGaugeBlocks;II[J)I" } : Jvm.MethodName)) ∈ lw_all := lw_g (lw_at lw_m5 90 rfl) rfl
theorem q1126 : (Jvm.Cond.codeWith ({ cls := "GaugeBlocksLaw", name := "wring", desc := "(LGaugeBlocks;II[J)I" } : Jvm.MethodName) method_9_code (5 : Nat) (Option.some Jvm.ClassFile.FieldType.int) [((0 : Nat), (10 : Nat), (13 : Nat), (21 : Nat))]) ∈ lw_all := lw_g (lw_at lw_m5 91 rfl) rfl
theorem q1127 : (Jvm.Cond.methodLink "GaugeBlocksLaw" (35 : Nat) ({ cls := "GaugeBlocks", name := "wring", desc := "(II)I" } : Jvm.MethodName)) ∈ lw_all := lw_g (lw_at lw_m5 92 rfl) rfl
theorem q1154 : (Jvm.Cond.methodLink "GaugeBlocksLaw" (128 : Nat) ({ cls := "GaugeBlocksLaw", name := "takeOff", desc := "(LGaugeBlocks;I[J)I" } : Jvm.MethodName)) ∈ lw_all := lw_g (lw_at lw_m5 119 rfl) rfl
theorem q1155 : (Jvm.Cond.static ({ cls := "GaugeBlocksLaw", name := "takeOff", desc := "(LGaugeBlocks;I[J)I" } : Jvm.MethodName)) ∈ lw_all := lw_g (lw_at lw_m5 120 rfl) rfl
theorem q1156 : (Jvm.Cond.codeWith ({ cls := "GaugeBlocksLaw", name := "takeOff", desc := "(LGaugeBlocks;I[J)I" } : Jvm.MethodName) method_10_code (4 : Nat) (Option.some Jvm.ClassFile.FieldType.int) [((0 : Nat), (9 : Nat), (12 : Nat), (21 : Nat)), ((0 : Nat), (9 : Nat), (15 : Nat), (15 : Nat))]) ∈ lw_all := lw_g (lw_at lw_m5 121 rfl) rfl
theorem q1157 : (Jvm.Cond.methodLink "GaugeBlocksLaw" (38 : Nat) ({ cls := "GaugeBlocks", name := "takeOff", desc := "(I)I" } : Jvm.MethodName)) ∈ lw_all := lw_g (lw_at lw_m5 122 rfl) rfl
theorem q1167 : (Jvm.Cond.methodLink "GaugeBlocksLaw" (131 : Nat) ({ cls := "GaugeBlocksLaw", name := "make", desc := "(LGaugeBlocks;II[J)I" } : Jvm.MethodName)) ∈ lw_all := lw_g (lw_at lw_m5 132 rfl) rfl
theorem q1168 : (Jvm.Cond.static ({ cls := "GaugeBlocksLaw", name := "make", desc := "(LGaugeBlocks;II[J)I" } : Jvm.MethodName)) ∈ lw_all := lw_g (lw_at lw_m5 133 rfl) rfl
theorem q1169 : (Jvm.Cond.codeWith ({ cls := "GaugeBlocksLaw", name := "make", desc := "(LGaugeBlocks;II[J)I" } : Jvm.MethodName) method_11_code (5 : Nat) (Option.some Jvm.ClassFile.FieldType.int) [((0 : Nat), (10 : Nat), (13 : Nat), (21 : Nat)), ((0 : Nat), (10 : Nat), (17 : Nat), (13 : Nat)), ((0 : Nat), (10 : Nat), (21 : Nat), (15 : Nat))]) ∈ lw_all := lw_g (lw_at lw_m5 134 rfl) rfl
theorem q1170 : (Jvm.Cond.methodLink "GaugeBlocksLaw" (41 : Nat) ({ cls := "GaugeBlocks", name := "make", desc := "(II)I" } : Jvm.MethodName)) ∈ lw_all := lw_g (lw_at lw_m5 135 rfl) rfl
theorem q1217 : (Jvm.Cond.methodLink "GaugeBlocksLaw" (134 : Nat) ({ cls := "GaugeBlocksLaw", name := "append", desc := "(LGaugeBlocks;I[J)I" } : Jvm.MethodName)) ∈ lw_all := lw_g (lw_at lw_m5 182 rfl) rfl
theorem q1218 : (Jvm.Cond.static ({ cls := "GaugeBlocksLaw", name := "append", desc := "(LGaugeBlocks;I[J)I" } : Jvm.MethodName)) ∈ lw_all := lw_g (lw_at lw_m5 183 rfl) rfl
theorem q1219 : (Jvm.Cond.codeWith ({ cls := "GaugeBlocksLaw", name := "append", desc := "(LGaugeBlocks;I[J)I" } : Jvm.MethodName) method_12_code (4 : Nat) (Option.some Jvm.ClassFile.FieldType.int) [((0 : Nat), (9 : Nat), (12 : Nat), (13 : Nat)), ((0 : Nat), (9 : Nat), (15 : Nat), (15 : Nat))]) ∈ lw_all := lw_g (lw_at lw_m5 184 rfl) rfl
theorem q1220 : (Jvm.Cond.methodLink "GaugeBlocksLaw" (44 : Nat) ({ cls := "GaugeBlocks", name := "append", desc := "(I)I" } : Jvm.MethodName)) ∈ lw_all := lw_g (lw_at lw_m5 185 rfl) rfl
theorem q1241 : (Jvm.Cond.methodLink "GaugeBlocksLaw" (145 : Nat) ({ cls := "GaugeBlocksLaw", name := "execute", desc := "(LGaugeBlocks;[J)I" } : Jvm.MethodName)) ∈ lw_all := lw_g (lw_at lw_m5 206 rfl) rfl
theorem q1242 : (Jvm.Cond.static ({ cls := "GaugeBlocksLaw", name := "execute", desc := "(LGaugeBlocks;[J)I" } : Jvm.MethodName)) ∈ lw_all := lw_g (lw_at lw_m5 207 rfl) rfl
theorem q1243 : (Jvm.Cond.codeWith ({ cls := "GaugeBlocksLaw", name := "execute", desc := "(LGaugeBlocks;[J)I" } : Jvm.MethodName) method_13_code (3 : Nat) (Option.some Jvm.ClassFile.FieldType.int) [((0 : Nat), (8 : Nat), (11 : Nat), (13 : Nat))]) ∈ lw_all := lw_g (lw_at lw_m5 208 rfl) rfl
theorem q1244 : (Jvm.Cond.methodLink "GaugeBlocksLaw" (47 : Nat) ({ cls := "GaugeBlocks", name := "execute", desc := "()I" } : Jvm.MethodName)) ∈ lw_all := lw_g (lw_at lw_m5 209 rfl) rfl
theorem q1253 : (Jvm.Cond.methodLink "GaugeBlocksLaw" (149 : Nat) ({ cls := "GaugeBlocksLaw", name := "undo", desc := "(LGaugeBlocks;[J)I" } : Jvm.MethodName)) ∈ lw_all := lw_g (lw_at lw_m5 218 rfl) rfl
theorem q1254 : (Jvm.Cond.static ({ cls := "GaugeBlocksLaw", name := "undo", desc := "(LGaugeBlocks;[J)I" } : Jvm.MethodName)) ∈ lw_all := lw_g (lw_at lw_m5 219 rfl) rfl
theorem q1255 : (Jvm.Cond.codeWith ({ cls := "GaugeBlocksLaw", name := "undo", desc := "(LGaugeBlocks;[J)I" } : Jvm.MethodName) method_14_code (3 : Nat) (Option.some Jvm.ClassFile.FieldType.int) [((0 : Nat), (8 : Nat), (11 : Nat), (15 : Nat))]) ∈ lw_all := lw_g (lw_at lw_m5 220 rfl) rfl
theorem q1256 : (Jvm.Cond.methodLink "GaugeBlocksLaw" (51 : Nat) ({ cls := "GaugeBlocks", name := "undo", desc := "()I" } : Jvm.MethodName)) ∈ lw_all := lw_g (lw_at lw_m5 221 rfl) rfl
theorem q1275 : (Jvm.Cond.methodLink "GaugeBlocksLaw" (152 : Nat) ({ cls := "GaugeBlocksLaw", name := "keep", desc := "(LGaugeBlocks;I[J)I" } : Jvm.MethodName)) ∈ lw_all := lw_g (lw_at lw_m6 0 rfl) rfl
theorem q1276 : (Jvm.Cond.static ({ cls := "GaugeBlocksLaw", name := "keep", desc := "(LGaugeBlocks;I[J)I" } : Jvm.MethodName)) ∈ lw_all := lw_g (lw_at lw_m6 1 rfl) rfl
theorem q1277 : (Jvm.Cond.codeWith ({ cls := "GaugeBlocksLaw", name := "keep", desc := "(LGaugeBlocks;I[J)I" } : Jvm.MethodName) method_15_code (4 : Nat) (Option.some Jvm.ClassFile.FieldType.int) [((0 : Nat), (9 : Nat), (12 : Nat), (13 : Nat))]) ∈ lw_all := lw_g (lw_at lw_m6 2 rfl) rfl
theorem q1278 : (Jvm.Cond.methodLink "GaugeBlocksLaw" (54 : Nat) ({ cls := "GaugeBlocks", name := "keep", desc := "(I)I" } : Jvm.MethodName)) ∈ lw_all := lw_g (lw_at lw_m6 3 rfl) rfl
theorem q1282 : (Jvm.Cond.methodLink "GaugeBlocksLaw" (155 : Nat) ({ cls := "GaugeBlocksLaw", name := "goBack", desc := "(LGaugeBlocks;I[J)I" } : Jvm.MethodName)) ∈ lw_all := lw_g (lw_at lw_m6 7 rfl) rfl
theorem q1283 : (Jvm.Cond.static ({ cls := "GaugeBlocksLaw", name := "goBack", desc := "(LGaugeBlocks;I[J)I" } : Jvm.MethodName)) ∈ lw_all := lw_g (lw_at lw_m6 8 rfl) rfl
theorem q1284 : (Jvm.Cond.codeWith ({ cls := "GaugeBlocksLaw", name := "goBack", desc := "(LGaugeBlocks;I[J)I" } : Jvm.MethodName) method_16_code (4 : Nat) (Option.some Jvm.ClassFile.FieldType.int) [((0 : Nat), (9 : Nat), (12 : Nat), (13 : Nat)), ((0 : Nat), (9 : Nat), (15 : Nat), (15 : Nat))]) ∈ lw_all := lw_g (lw_at lw_m6 9 rfl) rfl
theorem q1285 : (Jvm.Cond.methodLink "GaugeBlocksLaw" (57 : Nat) ({ cls := "GaugeBlocks", name := "goBack", desc := "(I)I" } : Jvm.MethodName)) ∈ lw_all := lw_g (lw_at lw_m6 10 rfl) rfl
theorem q1289 : (Jvm.Cond.methodLink "GaugeBlocksLaw" (158 : Nat) ({ cls := "GaugeBlocksLaw", name := "blockOf", desc := "(LGaugeBlocks;II[J)I" } : Jvm.MethodName)) ∈ lw_all := lw_g (lw_at lw_m6 14 rfl) rfl
theorem q1290 : (Jvm.Cond.static ({ cls := "GaugeBlocksLaw", name := "blockOf", desc := "(LGaugeBlocks;II[J)I" } : Jvm.MethodName)) ∈ lw_all := lw_g (lw_at lw_m6 15 rfl) rfl
theorem q1291 : (Jvm.Cond.codeWith ({ cls := "GaugeBlocksLaw", name := "blockOf", desc := "(LGaugeBlocks;II[J)I" } : Jvm.MethodName) method_17_code (5 : Nat) (Option.some Jvm.ClassFile.FieldType.int) [((0 : Nat), (10 : Nat), (13 : Nat), (21 : Nat)), ((0 : Nat), (10 : Nat), (17 : Nat), (13 : Nat))]) ∈ lw_all := lw_g (lw_at lw_m6 16 rfl) rfl
theorem q1292 : (Jvm.Cond.methodLink "GaugeBlocksLaw" (60 : Nat) ({ cls := "GaugeBlocks", name := "blockOf", desc := "(II)I" } : Jvm.MethodName)) ∈ lw_all := lw_g (lw_at lw_m6 17 rfl) rfl
theorem q1300 : (Jvm.Cond.methodLink "GaugeBlocksLaw" (161 : Nat) ({ cls := "GaugeBlocksLaw", name := "stackOf", desc := "(LGaugeBlocks;II[J)I" } : Jvm.MethodName)) ∈ lw_all := lw_g (lw_at lw_m6 25 rfl) rfl
theorem q1301 : (Jvm.Cond.static ({ cls := "GaugeBlocksLaw", name := "stackOf", desc := "(LGaugeBlocks;II[J)I" } : Jvm.MethodName)) ∈ lw_all := lw_g (lw_at lw_m6 26 rfl) rfl
theorem q1302 : (Jvm.Cond.codeWith ({ cls := "GaugeBlocksLaw", name := "stackOf", desc := "(LGaugeBlocks;II[J)I" } : Jvm.MethodName) method_18_code (5 : Nat) (Option.some Jvm.ClassFile.FieldType.int) [((0 : Nat), (10 : Nat), (13 : Nat), (21 : Nat)), ((0 : Nat), (10 : Nat), (17 : Nat), (13 : Nat))]) ∈ lw_all := lw_g (lw_at lw_m6 27 rfl) rfl
theorem q1303 : (Jvm.Cond.methodLink "GaugeBlocksLaw" (63 : Nat) ({ cls := "GaugeBlocks", name := "stackOf", desc := "(II)I" } : Jvm.MethodName)) ∈ lw_all := lw_g (lw_at lw_m6 28 rfl) rfl
theorem q1326 : (Jvm.Cond.methodLink "GaugeBlocksLaw" (164 : Nat) ({ cls := "GaugeBlocksLaw", name := "ranked", desc := "(LGaugeBlocks;II[J)I" } : Jvm.MethodName)) ∈ lw_all := lw_g (lw_at lw_m6 51 rfl) rfl
theorem q1327 : (Jvm.Cond.static ({ cls := "GaugeBlocksLaw", name := "ranked", desc := "(LGaugeBlocks;II[J)I" } : Jvm.MethodName)) ∈ lw_all := lw_g (lw_at lw_m6 52 rfl) rfl
theorem q1328 : (Jvm.Cond.codeWith ({ cls := "GaugeBlocksLaw", name := "ranked", desc := "(LGaugeBlocks;II[J)I" } : Jvm.MethodName) method_19_code (5 : Nat) (Option.some Jvm.ClassFile.FieldType.int) [((0 : Nat), (10 : Nat), (13 : Nat), (13 : Nat))]) ∈ lw_all := lw_g (lw_at lw_m6 53 rfl) rfl
theorem q1329 : (Jvm.Cond.methodLink "GaugeBlocksLaw" (66 : Nat) ({ cls := "GaugeBlocks", name := "ranked", desc := "(II)I" } : Jvm.MethodName)) ∈ lw_all := lw_g (lw_at lw_m6 54 rfl) rfl
theorem q1671 : (Jvm.Cond.methodLink "GaugeBlocksLaw" (167 : Nat) ({ cls := "GaugeBlocksLaw", name := "lengths", desc := "(LGaugeBlocks;I[J)I" } : Jvm.MethodName)) ∈ lw_all := lw_g (lw_at lw_m7 156 rfl) rfl
theorem q1672 : (Jvm.Cond.static ({ cls := "GaugeBlocksLaw", name := "lengths", desc := "(LGaugeBlocks;I[J)I" } : Jvm.MethodName)) ∈ lw_all := lw_g (lw_at lw_m7 157 rfl) rfl
theorem q1673 : (Jvm.Cond.codeWith ({ cls := "GaugeBlocksLaw", name := "lengths", desc := "(LGaugeBlocks;I[J)I" } : Jvm.MethodName) method_20_code (4 : Nat) (Option.some Jvm.ClassFile.FieldType.int) [((0 : Nat), (9 : Nat), (12 : Nat), (13 : Nat))]) ∈ lw_all := lw_g (lw_at lw_m7 158 rfl) rfl
theorem q1674 : (Jvm.Cond.methodLink "GaugeBlocksLaw" (69 : Nat) ({ cls := "GaugeBlocks", name := "lengths", desc := "(I)I" } : Jvm.MethodName)) ∈ lw_all := lw_g (lw_at lw_m7 159 rfl) rfl
theorem q1910 : (Jvm.Cond.methodLink "GaugeBlocksLaw" (170 : Nat) ({ cls := "GaugeBlocksLaw", name := "count", desc := "(LGaugeBlocks;I[J)I" } : Jvm.MethodName)) ∈ lw_all := lw_g (lw_at lw_m8 155 rfl) rfl
theorem q1911 : (Jvm.Cond.static ({ cls := "GaugeBlocksLaw", name := "count", desc := "(LGaugeBlocks;I[J)I" } : Jvm.MethodName)) ∈ lw_all := lw_g (lw_at lw_m8 156 rfl) rfl
theorem q1912 : (Jvm.Cond.codeWith ({ cls := "GaugeBlocksLaw", name := "count", desc := "(LGaugeBlocks;I[J)I" } : Jvm.MethodName) method_21_code (4 : Nat) (Option.some Jvm.ClassFile.FieldType.int) [((0 : Nat), (9 : Nat), (12 : Nat), (13 : Nat))]) ∈ lw_all := lw_g (lw_at lw_m8 157 rfl) rfl
theorem q1913 : (Jvm.Cond.methodLink "GaugeBlocksLaw" (72 : Nat) ({ cls := "GaugeBlocks", name := "count", desc := "(I)I" } : Jvm.MethodName)) ∈ lw_all := lw_g (lw_at lw_m8 158 rfl) rfl
theorem q1918 : (Jvm.Cond.methodLink "GaugeBlocksLaw" (173 : Nat) ({ cls := "GaugeBlocksLaw", name := "setting", desc := "(LGaugeBlocks;I[J)I" } : Jvm.MethodName)) ∈ lw_all := lw_g (lw_at lw_m8 163 rfl) rfl
theorem q1919 : (Jvm.Cond.static ({ cls := "GaugeBlocksLaw", name := "setting", desc := "(LGaugeBlocks;I[J)I" } : Jvm.MethodName)) ∈ lw_all := lw_g (lw_at lw_m8 164 rfl) rfl
theorem q1920 : (Jvm.Cond.codeWith ({ cls := "GaugeBlocksLaw", name := "setting", desc := "(LGaugeBlocks;I[J)I" } : Jvm.MethodName) method_22_code (4 : Nat) (Option.some Jvm.ClassFile.FieldType.int) [((0 : Nat), (9 : Nat), (12 : Nat), (21 : Nat))]) ∈ lw_all := lw_g (lw_at lw_m8 165 rfl) rfl
theorem q1921 : (Jvm.Cond.methodLink "GaugeBlocksLaw" (75 : Nat) ({ cls := "GaugeBlocks", name := "setting", desc := "(I)I" } : Jvm.MethodName)) ∈ lw_all := lw_g (lw_at lw_m8 166 rfl) rfl
theorem q1925 : (Jvm.Cond.methodLink "GaugeBlocksLaw" (176 : Nat) ({ cls := "GaugeBlocksLaw", name := "refusal", desc := "(LGaugeBlocks;II[J)I" } : Jvm.MethodName)) ∈ lw_all := lw_g (lw_at lw_m8 170 rfl) rfl
theorem q1926 : (Jvm.Cond.static ({ cls := "GaugeBlocksLaw", name := "refusal", desc := "(LGaugeBlocks;II[J)I" } : Jvm.MethodName)) ∈ lw_all := lw_g (lw_at lw_m8 171 rfl) rfl
theorem q1927 : (Jvm.Cond.codeWith ({ cls := "GaugeBlocksLaw", name := "refusal", desc := "(LGaugeBlocks;II[J)I" } : Jvm.MethodName) method_23_code (5 : Nat) (Option.some Jvm.ClassFile.FieldType.int) [((0 : Nat), (10 : Nat), (13 : Nat), (21 : Nat))]) ∈ lw_all := lw_g (lw_at lw_m8 172 rfl) rfl
theorem q1928 : (Jvm.Cond.methodLink "GaugeBlocksLaw" (78 : Nat) ({ cls := "GaugeBlocks", name := "refusal", desc := "(II)I" } : Jvm.MethodName)) ∈ lw_all := lw_g (lw_at lw_m8 173 rfl) rfl
theorem q1933 : (Jvm.Cond.methodLink "GaugeBlocksLaw" (179 : Nat) ({ cls := "GaugeBlocksLaw", name := "fewest", desc := "(LGaugeBlocks;II[J)I" } : Jvm.MethodName)) ∈ lw_all := lw_g (lw_at lw_m8 178 rfl) rfl
theorem q1934 : (Jvm.Cond.static ({ cls := "GaugeBlocksLaw", name := "fewest", desc := "(LGaugeBlocks;II[J)I" } : Jvm.MethodName)) ∈ lw_all := lw_g (lw_at lw_m8 179 rfl) rfl
theorem q1935 : (Jvm.Cond.codeWith ({ cls := "GaugeBlocksLaw", name := "fewest", desc := "(LGaugeBlocks;II[J)I" } : Jvm.MethodName) method_24_code (5 : Nat) (Option.some Jvm.ClassFile.FieldType.int) [((0 : Nat), (10 : Nat), (13 : Nat), (13 : Nat))]) ∈ lw_all := lw_g (lw_at lw_m8 180 rfl) rfl
theorem q1936 : (Jvm.Cond.methodLink "GaugeBlocksLaw" (81 : Nat) ({ cls := "GaugeBlocks", name := "fewest", desc := "(II)I" } : Jvm.MethodName)) ∈ lw_all := lw_g (lw_at lw_m8 181 rfl) rfl
theorem q1949 : (Jvm.Cond.methodLink "GaugeBlocksLaw" (182 : Nat) ({ cls := "GaugeBlocksLaw", name := "oldWay", desc := "(LGaugeBlocks;II[J)I" } : Jvm.MethodName)) ∈ lw_all := lw_g (lw_at lw_m8 194 rfl) rfl
theorem q1950 : (Jvm.Cond.static ({ cls := "GaugeBlocksLaw", name := "oldWay", desc := "(LGaugeBlocks;II[J)I" } : Jvm.MethodName)) ∈ lw_all := lw_g (lw_at lw_m8 195 rfl) rfl
theorem q1951 : (Jvm.Cond.codeWith ({ cls := "GaugeBlocksLaw", name := "oldWay", desc := "(LGaugeBlocks;II[J)I" } : Jvm.MethodName) method_25_code (5 : Nat) (Option.some Jvm.ClassFile.FieldType.int) [((0 : Nat), (10 : Nat), (13 : Nat), (13 : Nat))]) ∈ lw_all := lw_g (lw_at lw_m8 196 rfl) rfl
theorem q1952 : (Jvm.Cond.methodLink "GaugeBlocksLaw" (84 : Nat) ({ cls := "GaugeBlocks", name := "oldWay", desc := "(II)I" } : Jvm.MethodName)) ∈ lw_all := lw_g (lw_at lw_m8 197 rfl) rfl
theorem q1965 : (Jvm.Cond.methodLink "GaugeBlocksLaw" (185 : Nat) ({ cls := "GaugeBlocksLaw", name := "nearest", desc := "(LGaugeBlocks;I[J)I" } : Jvm.MethodName)) ∈ lw_all := lw_g (lw_at lw_m8 210 rfl) rfl
theorem q1966 : (Jvm.Cond.static ({ cls := "GaugeBlocksLaw", name := "nearest", desc := "(LGaugeBlocks;I[J)I" } : Jvm.MethodName)) ∈ lw_all := lw_g (lw_at lw_m8 211 rfl) rfl
theorem q1967 : (Jvm.Cond.codeWith ({ cls := "GaugeBlocksLaw", name := "nearest", desc := "(LGaugeBlocks;I[J)I" } : Jvm.MethodName) method_26_code (4 : Nat) (Option.some Jvm.ClassFile.FieldType.int) [((0 : Nat), (9 : Nat), (12 : Nat), (13 : Nat))]) ∈ lw_all := lw_g (lw_at lw_m8 212 rfl) rfl
theorem q1968 : (Jvm.Cond.methodLink "GaugeBlocksLaw" (87 : Nat) ({ cls := "GaugeBlocks", name := "nearest", desc := "(I)I" } : Jvm.MethodName)) ∈ lw_all := lw_g (lw_at lw_m8 213 rfl) rfl
theorem q1977 : (Jvm.Cond.methodLink "GaugeBlocksLaw" (188 : Nat) ({ cls := "GaugeBlocksLaw", name := "coolIn", desc := "(LGaugeBlocks;I[J)I" } : Jvm.MethodName)) ∈ lw_all := lw_g (lw_at lw_m8 222 rfl) rfl
theorem q1978 : (Jvm.Cond.static ({ cls := "GaugeBlocksLaw", name := "coolIn", desc := "(LGaugeBlocks;I[J)I" } : Jvm.MethodName)) ∈ lw_all := lw_g (lw_at lw_m8 223 rfl) rfl
theorem q1979 : (Jvm.Cond.codeWith ({ cls := "GaugeBlocksLaw", name := "coolIn", desc := "(LGaugeBlocks;I[J)I" } : Jvm.MethodName) method_27_code (4 : Nat) (Option.some Jvm.ClassFile.FieldType.int) [((0 : Nat), (9 : Nat), (12 : Nat), (21 : Nat))]) ∈ lw_all := lw_g (lw_at lw_m8 224 rfl) rfl
theorem q1980 : (Jvm.Cond.methodLink "GaugeBlocksLaw" (90 : Nat) ({ cls := "GaugeBlocks", name := "coolIn", desc := "(I)I" } : Jvm.MethodName)) ∈ lw_all := lw_g (lw_at lw_m8 225 rfl) rfl
theorem q1985 : (Jvm.Cond.methodLink "GaugeBlocksLaw" (191 : Nat) ({ cls := "GaugeBlocksLaw", name := "lengthIn", desc := "(LGaugeBlocks;II[J)I" } : Jvm.MethodName)) ∈ lw_all := lw_g (lw_at lw_m8 230 rfl) rfl
theorem q1986 : (Jvm.Cond.static ({ cls := "GaugeBlocksLaw", name := "lengthIn", desc := "(LGaugeBlocks;II[J)I" } : Jvm.MethodName)) ∈ lw_all := lw_g (lw_at lw_m8 231 rfl) rfl
theorem q1987 : (Jvm.Cond.codeWith ({ cls := "GaugeBlocksLaw", name := "lengthIn", desc := "(LGaugeBlocks;II[J)I" } : Jvm.MethodName) method_28_code (5 : Nat) (Option.some Jvm.ClassFile.FieldType.int) [((0 : Nat), (10 : Nat), (13 : Nat), (21 : Nat)), ((0 : Nat), (10 : Nat), (17 : Nat), (13 : Nat))]) ∈ lw_all := lw_g (lw_at lw_m8 232 rfl) rfl
theorem q1988 : (Jvm.Cond.methodLink "GaugeBlocksLaw" (93 : Nat) ({ cls := "GaugeBlocks", name := "lengthIn", desc := "(II)I" } : Jvm.MethodName)) ∈ lw_all := lw_g (lw_at lw_m8 233 rfl) rfl
theorem q1992 : (Jvm.Cond.classLink "GaugeBlocksLaw" (97 : Nat) "GaugeBlocksModel") ∈ lw_all := lw_g (lw_at lw_m8 237 rfl) rfl
theorem q1994 : (Jvm.Cond.methodLink "GaugeBlocksLaw" (99 : Nat) ({ cls := "GaugeBlocksModel", name := "<init>", desc := "()V" } : Jvm.MethodName)) ∈ lw_all := lw_g (lw_at lw_m8 239 rfl) rfl
theorem q2054 : (Jvm.Cond.methodLink "GaugeBlocksLaw" (106 : Nat) ({ cls := "GaugeBlocksModel", name := "thrown", desc := "()I" } : Jvm.MethodName)) ∈ lw_all := lw_g (lw_at lw_m9 59 rfl) rfl
theorem q2058 : (Jvm.Cond.methodLink "GaugeBlocksLaw" (151 : Nat) ({ cls := "GaugeBlocksModel", name := "undo", desc := "()I" } : Jvm.MethodName)) ∈ lw_all := lw_g (lw_at lw_m9 63 rfl) rfl
theorem q2066 : (Jvm.Cond.methodLink "GaugeBlocksLaw" (154 : Nat) ({ cls := "GaugeBlocksModel", name := "keep", desc := "(I)I" } : Jvm.MethodName)) ∈ lw_all := lw_g (lw_at lw_m9 71 rfl) rfl
theorem q2073 : (Jvm.Cond.methodLink "GaugeBlocksLaw" (157 : Nat) ({ cls := "GaugeBlocksModel", name := "goBack", desc := "(I)I" } : Jvm.MethodName)) ∈ lw_all := lw_g (lw_at lw_m9 78 rfl) rfl
theorem q2081 : (Jvm.Cond.methodLink "GaugeBlocksLaw" (105 : Nat) ({ cls := "GaugeBlocksModel", name := "block", desc := "(II)I" } : Jvm.MethodName)) ∈ lw_all := lw_g (lw_at lw_m9 86 rfl) rfl
theorem q2094 : (Jvm.Cond.methodLink "GaugeBlocksLaw" (112 : Nat) ({ cls := "GaugeBlocksModel", name := "discard", desc := "(I)I" } : Jvm.MethodName)) ∈ lw_all := lw_g (lw_at lw_m9 99 rfl) rfl
theorem q2110 : (Jvm.Cond.methodLink "GaugeBlocksLaw" (115 : Nat) ({ cls := "GaugeBlocksModel", name := "calibrate", desc := "(I)I" } : Jvm.MethodName)) ∈ lw_all := lw_g (lw_at lw_m9 115 rfl) rfl
theorem q2125 : (Jvm.Cond.methodLink "GaugeBlocksLaw" (118 : Nat) ({ cls := "GaugeBlocksModel", name := "hold", desc := "(II)I" } : Jvm.MethodName)) ∈ lw_all := lw_g (lw_at lw_m9 130 rfl) rfl
theorem q2137 : (Jvm.Cond.methodLink "GaugeBlocksLaw" (121 : Nat) ({ cls := "GaugeBlocksModel", name := "rest", desc := "(I)I" } : Jvm.MethodName)) ∈ lw_all := lw_g (lw_at lw_m9 142 rfl) rfl
theorem q2148 : (Jvm.Cond.methodLink "GaugeBlocksLaw" (124 : Nat) ({ cls := "GaugeBlocksModel", name := "set", desc := "(II)I" } : Jvm.MethodName)) ∈ lw_all := lw_g (lw_at lw_m9 153 rfl) rfl
theorem q2155 : (Jvm.Cond.methodLink "GaugeBlocksLaw" (127 : Nat) ({ cls := "GaugeBlocksModel", name := "wring", desc := "(II)I" } : Jvm.MethodName)) ∈ lw_all := lw_g (lw_at lw_m9 160 rfl) rfl
theorem q2182 : (Jvm.Cond.methodLink "GaugeBlocksLaw" (130 : Nat) ({ cls := "GaugeBlocksModel", name := "takeOff", desc := "(I)I" } : Jvm.MethodName)) ∈ lw_all := lw_g (lw_at lw_m9 187 rfl) rfl
theorem q2190 : (Jvm.Cond.methodLink "GaugeBlocksLaw" (133 : Nat) ({ cls := "GaugeBlocksModel", name := "make", desc := "(II)I" } : Jvm.MethodName)) ∈ lw_all := lw_g (lw_at lw_m9 195 rfl) rfl
theorem q2221 : (Jvm.Cond.methodLink "GaugeBlocksLaw" (136 : Nat) ({ cls := "GaugeBlocksModel", name := "append", desc := "(I)I" } : Jvm.MethodName)) ∈ lw_all := lw_g (lw_at lw_m9 226 rfl) rfl
theorem q2225 : (Jvm.Cond.methodLink "GaugeBlocksLaw" (140 : Nat) ({ cls := "GaugeBlocksModel", name := "clearBuffer", desc := "()I" } : Jvm.MethodName)) ∈ lw_all := lw_g (lw_at lw_m9 230 rfl) rfl
theorem q2229 : (Jvm.Cond.methodLink "GaugeBlocksLaw" (144 : Nat) ({ cls := "GaugeBlocksModel", name := "firstError", desc := "()I" } : Jvm.MethodName)) ∈ lw_all := lw_g (lw_at lw_m9 234 rfl) rfl
theorem q2257 : (Jvm.Cond.methodLink "GaugeBlocksLaw" (148 : Nat) ({ cls := "GaugeBlocksModel", name := "execute", desc := "()I" } : Jvm.MethodName)) ∈ lw_all := lw_g (lw_at lw_m10 22 rfl) rfl
theorem q2265 : (Jvm.Cond.methodLink "GaugeBlocksLaw" (160 : Nat) ({ cls := "GaugeBlocksModel", name := "blockOf", desc := "(II)I" } : Jvm.MethodName)) ∈ lw_all := lw_g (lw_at lw_m10 30 rfl) rfl
theorem q2277 : (Jvm.Cond.methodLink "GaugeBlocksLaw" (163 : Nat) ({ cls := "GaugeBlocksModel", name := "stackOf", desc := "(II)I" } : Jvm.MethodName)) ∈ lw_all := lw_g (lw_at lw_m10 42 rfl) rfl
theorem q2293 : (Jvm.Cond.methodLink "GaugeBlocksLaw" (166 : Nat) ({ cls := "GaugeBlocksModel", name := "ranked", desc := "(II)I" } : Jvm.MethodName)) ∈ lw_all := lw_g (lw_at lw_m10 58 rfl) rfl
theorem q2305 : (Jvm.Cond.methodLink "GaugeBlocksLaw" (169 : Nat) ({ cls := "GaugeBlocksModel", name := "lengths", desc := "(I)I" } : Jvm.MethodName)) ∈ lw_all := lw_g (lw_at lw_m10 70 rfl) rfl
theorem q2317 : (Jvm.Cond.methodLink "GaugeBlocksLaw" (172 : Nat) ({ cls := "GaugeBlocksModel", name := "count", desc := "(I)I" } : Jvm.MethodName)) ∈ lw_all := lw_g (lw_at lw_m10 82 rfl) rfl
theorem q2337 : (Jvm.Cond.methodLink "GaugeBlocksLaw" (175 : Nat) ({ cls := "GaugeBlocksModel", name := "setting", desc := "(I)I" } : Jvm.MethodName)) ∈ lw_all := lw_g (lw_at lw_m10 102 rfl) rfl
theorem q2341 : (Jvm.Cond.methodLink "GaugeBlocksLaw" (178 : Nat) ({ cls := "GaugeBlocksModel", name := "refusal", desc := "(II)I" } : Jvm.MethodName)) ∈ lw_all := lw_g (lw_at lw_m10 106 rfl) rfl
theorem q2345 : (Jvm.Cond.methodLink "GaugeBlocksLaw" (181 : Nat) ({ cls := "GaugeBlocksModel", name := "fewest", desc := "(II)I" } : Jvm.MethodName)) ∈ lw_all := lw_g (lw_at lw_m10 110 rfl) rfl
theorem q2356 : (Jvm.Cond.methodLink "GaugeBlocksLaw" (184 : Nat) ({ cls := "GaugeBlocksModel", name := "oldWay", desc := "(II)I" } : Jvm.MethodName)) ∈ lw_all := lw_g (lw_at lw_m10 121 rfl) rfl
theorem q2368 : (Jvm.Cond.methodLink "GaugeBlocksLaw" (187 : Nat) ({ cls := "GaugeBlocksModel", name := "nearest", desc := "(I)I" } : Jvm.MethodName)) ∈ lw_all := lw_g (lw_at lw_m10 133 rfl) rfl
theorem q2379 : (Jvm.Cond.methodLink "GaugeBlocksLaw" (190 : Nat) ({ cls := "GaugeBlocksModel", name := "coolIn", desc := "(I)I" } : Jvm.MethodName)) ∈ lw_all := lw_g (lw_at lw_m10 144 rfl) rfl
theorem q2383 : (Jvm.Cond.methodLink "GaugeBlocksLaw" (193 : Nat) ({ cls := "GaugeBlocksModel", name := "lengthIn", desc := "(II)I" } : Jvm.MethodName)) ∈ lw_all := lw_g (lw_at lw_m10 148 rfl) rfl
theorem q2387 : (Jvm.Cond.methodLink "GaugeBlocksLaw" (198 : Nat) ({ cls := "GaugeBlocksModel", name := "meanError", desc := "()D" } : Jvm.MethodName)) ∈ lw_all := lw_g (lw_at lw_m10 152 rfl) rfl

