/-! java/lang/Number -/
set_option maxRecDepth 100000
def RJ22 : String := "java/lang/Number"
abbrev cJ22_init : ByteArray := prog_28_method_1_code
def yJ22_init : MethodName := ⟨RJ22, "<init>", "()V"⟩
theorem dJ22_init_0 : decode cJ22_init 0 = .ok (.aload_n 0, 1) := by decide +kernel
theorem dJ22_init_1 : decode cJ22_init 1 = .ok (.invokespecial 1, 3) := by decide +kernel
theorem dJ22_init_4 : decode cJ22_init 4 = .ok (.return_, 1) := by decide +kernel
theorem q104 : (Jvm.Cond.initialized "java/lang/Number") ∈ lw_all := lw_g (lw_at lw_m1 29 rfl) rfl
theorem q1728 : (Jvm.Cond.instanceMethod ({ cls := "java/lang/Number", name := "<init>", desc := "()V" } : Jvm.MethodName)) ∈ lw_all := lw_g (lw_at lw_m7 213 rfl) rfl
theorem q1729 : (Jvm.Cond.code ({ cls := "java/lang/Number", name := "<init>", desc := "()V" } : Jvm.MethodName) prog_28_method_1_code (1 : Nat) (Option.none : Option Jvm.ClassFile.FieldType)) ∈ lw_all := lw_g (lw_at lw_m7 214 rfl) rfl
theorem q1730 : (Jvm.Cond.methodLink "java/lang/Number" (1 : Nat) ({ cls := "java/lang/Object", name := "<init>", desc := "()V" } : Jvm.MethodName)) ∈ lw_all := lw_g (lw_at lw_m7 215 rfl) rfl

/-! java/lang/Integer -/
set_option maxRecDepth 100000
def RJ23 : String := "java/lang/Integer"
def TJ23 : u_T := fun k => match k with
  | _ => ("java/lang/Integer", "value", "I", true)
def tyJ23 : Nat → FieldType := fun k => match k with
  | _ => .int
abbrev wsJ230 : List Cond := u_ws RJ23 TJ23 1
theorem nmJ23 : ∀ a, a < 1 → ∀ b, b < 1 → a ≠ b → (TJ23 a).2.1 ≠ (TJ23 b).2.1 := by decide +kernel
theorem tyJ23_ok : ∀ k, k < 1 → parseFieldDescriptor (TJ23 k).2.2.1 = some (tyJ23 k) := by decide +kernel
abbrev cJ23_stringSize : ByteArray := prog_23_method_13_code
def yJ23_stringSize : MethodName := ⟨RJ23, "stringSize", "(I)I"⟩
def dkwJ23_stringSize_1 : List UInt8 := [164, 0, 7, 29, 27, 96, 172, 16, 10, 28, 104, 61, 132, 3, 1, 167, 255, 233, 16, 10, 27, 96, 172]
abbrev dktJ23_stringSize_1 : List UInt8 := dkwJ23_stringSize_1 ++ []
def dkwJ23_stringSize_0 : List UInt8 := [4, 60, 26, 155, 0, 8, 3, 60, 26, 116, 59, 16, 246, 61, 4, 62, 29, 16, 10, 162, 0, 23, 26, 28]
abbrev dktJ23_stringSize_0 : List UInt8 := dkwJ23_stringSize_0 ++ dktJ23_stringSize_1
theorem dksJ23_stringSize_0 : cJ23_stringSize.data.toList.drop 0 = dktJ23_stringSize_0 := by decide +kernel
theorem dksJ23_stringSize_1 : cJ23_stringSize.data.toList.drop 24 = dktJ23_stringSize_1 := dk_seg dksJ23_stringSize_0 24 rfl rfl
theorem dJ23_stringSize_0 : decode cJ23_stringSize 0 = .ok (.iconst 1, 1) := dk_4 (dk_at dksJ23_stringSize_0 0 rfl rfl)
theorem dJ23_stringSize_1 : decode cJ23_stringSize 1 = .ok (.istore_n 1, 1) := dk_60 (dk_at dksJ23_stringSize_0 1 rfl rfl)
theorem dJ23_stringSize_2 : decode cJ23_stringSize 2 = .ok (.iload_n 0, 1) := dk_26 (dk_at dksJ23_stringSize_0 2 rfl rfl)
theorem dJ23_stringSize_3 : decode cJ23_stringSize 3 = .ok (.ifCond .lt 8, 3) := dk_155 0 8 (dk_at dksJ23_stringSize_0 3 rfl rfl)
theorem dJ23_stringSize_6 : decode cJ23_stringSize 6 = .ok (.iconst 0, 1) := dk_3 (dk_at dksJ23_stringSize_0 6 rfl rfl)
theorem dJ23_stringSize_7 : decode cJ23_stringSize 7 = .ok (.istore_n 1, 1) := dk_60 (dk_at dksJ23_stringSize_0 7 rfl rfl)
theorem dJ23_stringSize_8 : decode cJ23_stringSize 8 = .ok (.iload_n 0, 1) := dk_26 (dk_at dksJ23_stringSize_0 8 rfl rfl)
theorem dJ23_stringSize_9 : decode cJ23_stringSize 9 = .ok (.ineg, 1) := dk_116 (dk_at dksJ23_stringSize_0 9 rfl rfl)
theorem dJ23_stringSize_10 : decode cJ23_stringSize 10 = .ok (.istore_n 0, 1) := dk_59 (dk_at dksJ23_stringSize_0 10 rfl rfl)
theorem dJ23_stringSize_11 : decode cJ23_stringSize 11 = .ok (.bipush (-10), 2) := dk_16 246 (dk_at dksJ23_stringSize_0 11 rfl rfl)
theorem dJ23_stringSize_13 : decode cJ23_stringSize 13 = .ok (.istore_n 2, 1) := dk_61 (dk_at dksJ23_stringSize_0 13 rfl rfl)
theorem dJ23_stringSize_14 : decode cJ23_stringSize 14 = .ok (.iconst 1, 1) := dk_4 (dk_at dksJ23_stringSize_0 14 rfl rfl)
theorem dJ23_stringSize_15 : decode cJ23_stringSize 15 = .ok (.istore_n 3, 1) := dk_62 (dk_at dksJ23_stringSize_0 15 rfl rfl)
theorem dJ23_stringSize_16 : decode cJ23_stringSize 16 = .ok (.iload_n 3, 1) := dk_29 (dk_at dksJ23_stringSize_0 16 rfl rfl)
theorem dJ23_stringSize_17 : decode cJ23_stringSize 17 = .ok (.bipush 10, 2) := dk_16 10 (dk_at dksJ23_stringSize_0 17 rfl rfl)
theorem dJ23_stringSize_19 : decode cJ23_stringSize 19 = .ok (.if_icmp .ge 23, 3) := dk_162 0 23 (dk_at dksJ23_stringSize_0 19 rfl rfl)
theorem dJ23_stringSize_22 : decode cJ23_stringSize 22 = .ok (.iload_n 0, 1) := dk_26 (dk_at dksJ23_stringSize_0 22 rfl rfl)
theorem dJ23_stringSize_23 : decode cJ23_stringSize 23 = .ok (.iload_n 2, 1) := dk_28 (dk_at dksJ23_stringSize_0 23 rfl rfl)
theorem dJ23_stringSize_24 : decode cJ23_stringSize 24 = .ok (.if_icmp .le 7, 3) := dk_164 0 7 (dk_at dksJ23_stringSize_1 0 rfl rfl)
theorem dJ23_stringSize_27 : decode cJ23_stringSize 27 = .ok (.iload_n 3, 1) := dk_29 (dk_at dksJ23_stringSize_1 3 rfl rfl)
theorem dJ23_stringSize_28 : decode cJ23_stringSize 28 = .ok (.iload_n 1, 1) := dk_27 (dk_at dksJ23_stringSize_1 4 rfl rfl)
theorem dJ23_stringSize_29 : decode cJ23_stringSize 29 = .ok (.iadd, 1) := dk_96 (dk_at dksJ23_stringSize_1 5 rfl rfl)
theorem dJ23_stringSize_30 : decode cJ23_stringSize 30 = .ok (.ireturn, 1) := dk_172 (dk_at dksJ23_stringSize_1 6 rfl rfl)
theorem dJ23_stringSize_31 : decode cJ23_stringSize 31 = .ok (.bipush 10, 2) := dk_16 10 (dk_at dksJ23_stringSize_1 7 rfl rfl)
theorem dJ23_stringSize_33 : decode cJ23_stringSize 33 = .ok (.iload_n 2, 1) := dk_28 (dk_at dksJ23_stringSize_1 9 rfl rfl)
theorem dJ23_stringSize_34 : decode cJ23_stringSize 34 = .ok (.imul, 1) := dk_104 (dk_at dksJ23_stringSize_1 10 rfl rfl)
theorem dJ23_stringSize_35 : decode cJ23_stringSize 35 = .ok (.istore_n 2, 1) := dk_61 (dk_at dksJ23_stringSize_1 11 rfl rfl)
theorem dJ23_stringSize_36 : decode cJ23_stringSize 36 = .ok (.iinc 3 1, 3) := dk_132 3 1 (dk_at dksJ23_stringSize_1 12 rfl rfl)
theorem dJ23_stringSize_39 : decode cJ23_stringSize 39 = .ok (.goto (-23), 3) := dk_167 255 233 (dk_at dksJ23_stringSize_1 15 rfl rfl)
theorem dJ23_stringSize_42 : decode cJ23_stringSize 42 = .ok (.bipush 10, 2) := dk_16 10 (dk_at dksJ23_stringSize_1 18 rfl rfl)
theorem dJ23_stringSize_44 : decode cJ23_stringSize 44 = .ok (.iload_n 1, 1) := dk_27 (dk_at dksJ23_stringSize_1 20 rfl rfl)
theorem dJ23_stringSize_45 : decode cJ23_stringSize 45 = .ok (.iadd, 1) := dk_96 (dk_at dksJ23_stringSize_1 21 rfl rfl)
theorem dJ23_stringSize_46 : decode cJ23_stringSize 46 = .ok (.ireturn, 1) := dk_172 (dk_at dksJ23_stringSize_1 22 rfl rfl)
abbrev cJ23_getChars : ByteArray := prog_23_method_12_code
def yJ23_getChars : MethodName := ⟨RJ23, "getChars", "(II[B)I"⟩
def dkwJ23_getChars_5 : List UInt8 := [16, 45, 84, 21, 5, 172]
abbrev dktJ23_getChars_5 : List UInt8 := dkwJ23_getChars_5 ++ []
def dkwJ23_getChars_4 : List UInt8 := [132, 5, 255, 21, 5, 178, 0, 87, 26, 116, 51, 84, 21, 6, 153, 0, 12, 44, 132, 5, 255, 21, 5]
abbrev dktJ23_getChars_4 : List UInt8 := dkwJ23_getChars_4 ++ dktJ23_getChars_5
def dkwJ23_getChars_3 : List UInt8 := [167, 255, 209, 44, 132, 5, 255, 21, 5, 178, 0, 83, 26, 116, 51, 84, 26, 16, 247, 162, 0, 16, 44]
abbrev dktJ23_getChars_3 : List UInt8 := dkwJ23_getChars_3 ++ dktJ23_getChars_4
def dkwJ23_getChars_2 : List UInt8 := [21, 5, 178, 0, 83, 21, 4, 51, 84, 44, 132, 5, 255, 21, 5, 178, 0, 87, 21, 4, 51, 84]
abbrev dktJ23_getChars_2 : List UInt8 := dkwJ23_getChars_2 ++ dktJ23_getChars_3
def dkwJ23_getChars_1 : List UInt8 := [16, 156, 163, 0, 47, 26, 16, 100, 108, 62, 29, 16, 100, 104, 26, 100, 54, 4, 29, 59, 44, 132, 5, 255]
abbrev dktJ23_getChars_1 : List UInt8 := dkwJ23_getChars_1 ++ dktJ23_getChars_2
def dkwJ23_getChars_0 : List UInt8 := [27, 54, 5, 26, 156, 0, 7, 4, 167, 0, 4, 3, 54, 6, 21, 6, 154, 0, 6, 26, 116, 59, 26]
abbrev dktJ23_getChars_0 : List UInt8 := dkwJ23_getChars_0 ++ dktJ23_getChars_1
theorem dksJ23_getChars_0 : cJ23_getChars.data.toList.drop 0 = dktJ23_getChars_0 := by decide +kernel
theorem dksJ23_getChars_1 : cJ23_getChars.data.toList.drop 23 = dktJ23_getChars_1 := dk_seg dksJ23_getChars_0 23 rfl rfl
theorem dksJ23_getChars_2 : cJ23_getChars.data.toList.drop 47 = dktJ23_getChars_2 := dk_seg dksJ23_getChars_1 24 rfl rfl
theorem dksJ23_getChars_3 : cJ23_getChars.data.toList.drop 69 = dktJ23_getChars_3 := dk_seg dksJ23_getChars_2 22 rfl rfl
theorem dksJ23_getChars_4 : cJ23_getChars.data.toList.drop 92 = dktJ23_getChars_4 := dk_seg dksJ23_getChars_3 23 rfl rfl
theorem dksJ23_getChars_5 : cJ23_getChars.data.toList.drop 115 = dktJ23_getChars_5 := dk_seg dksJ23_getChars_4 23 rfl rfl
theorem dJ23_getChars_0 : decode cJ23_getChars 0 = .ok (.iload_n 1, 1) := dk_27 (dk_at dksJ23_getChars_0 0 rfl rfl)
theorem dJ23_getChars_1 : decode cJ23_getChars 1 = .ok (.istore 5, 2) := dk_54 5 (dk_at dksJ23_getChars_0 1 rfl rfl)
theorem dJ23_getChars_3 : decode cJ23_getChars 3 = .ok (.iload_n 0, 1) := dk_26 (dk_at dksJ23_getChars_0 3 rfl rfl)
theorem dJ23_getChars_4 : decode cJ23_getChars 4 = .ok (.ifCond .ge 7, 3) := dk_156 0 7 (dk_at dksJ23_getChars_0 4 rfl rfl)
theorem dJ23_getChars_7 : decode cJ23_getChars 7 = .ok (.iconst 1, 1) := dk_4 (dk_at dksJ23_getChars_0 7 rfl rfl)
theorem dJ23_getChars_8 : decode cJ23_getChars 8 = .ok (.goto 4, 3) := dk_167 0 4 (dk_at dksJ23_getChars_0 8 rfl rfl)
theorem dJ23_getChars_11 : decode cJ23_getChars 11 = .ok (.iconst 0, 1) := dk_3 (dk_at dksJ23_getChars_0 11 rfl rfl)
theorem dJ23_getChars_12 : decode cJ23_getChars 12 = .ok (.istore 6, 2) := dk_54 6 (dk_at dksJ23_getChars_0 12 rfl rfl)
theorem dJ23_getChars_14 : decode cJ23_getChars 14 = .ok (.iload 6, 2) := dk_21 6 (dk_at dksJ23_getChars_0 14 rfl rfl)
theorem dJ23_getChars_16 : decode cJ23_getChars 16 = .ok (.ifCond .ne 6, 3) := dk_154 0 6 (dk_at dksJ23_getChars_0 16 rfl rfl)
theorem dJ23_getChars_19 : decode cJ23_getChars 19 = .ok (.iload_n 0, 1) := dk_26 (dk_at dksJ23_getChars_0 19 rfl rfl)
theorem dJ23_getChars_20 : decode cJ23_getChars 20 = .ok (.ineg, 1) := dk_116 (dk_at dksJ23_getChars_0 20 rfl rfl)
theorem dJ23_getChars_21 : decode cJ23_getChars 21 = .ok (.istore_n 0, 1) := dk_59 (dk_at dksJ23_getChars_0 21 rfl rfl)
theorem dJ23_getChars_22 : decode cJ23_getChars 22 = .ok (.iload_n 0, 1) := dk_26 (dk_at dksJ23_getChars_0 22 rfl rfl)
theorem dJ23_getChars_23 : decode cJ23_getChars 23 = .ok (.bipush (-100), 2) := dk_16 156 (dk_at dksJ23_getChars_1 0 rfl rfl)
theorem dJ23_getChars_25 : decode cJ23_getChars 25 = .ok (.if_icmp .gt 47, 3) := dk_163 0 47 (dk_at dksJ23_getChars_1 2 rfl rfl)
theorem dJ23_getChars_28 : decode cJ23_getChars 28 = .ok (.iload_n 0, 1) := dk_26 (dk_at dksJ23_getChars_1 5 rfl rfl)
theorem dJ23_getChars_29 : decode cJ23_getChars 29 = .ok (.bipush 100, 2) := dk_16 100 (dk_at dksJ23_getChars_1 6 rfl rfl)
theorem dJ23_getChars_31 : decode cJ23_getChars 31 = .ok (.idiv, 1) := dk_108 (dk_at dksJ23_getChars_1 8 rfl rfl)
theorem dJ23_getChars_32 : decode cJ23_getChars 32 = .ok (.istore_n 3, 1) := dk_62 (dk_at dksJ23_getChars_1 9 rfl rfl)
theorem dJ23_getChars_33 : decode cJ23_getChars 33 = .ok (.iload_n 3, 1) := dk_29 (dk_at dksJ23_getChars_1 10 rfl rfl)
theorem dJ23_getChars_34 : decode cJ23_getChars 34 = .ok (.bipush 100, 2) := dk_16 100 (dk_at dksJ23_getChars_1 11 rfl rfl)
theorem dJ23_getChars_36 : decode cJ23_getChars 36 = .ok (.imul, 1) := dk_104 (dk_at dksJ23_getChars_1 13 rfl rfl)
theorem dJ23_getChars_37 : decode cJ23_getChars 37 = .ok (.iload_n 0, 1) := dk_26 (dk_at dksJ23_getChars_1 14 rfl rfl)
theorem dJ23_getChars_38 : decode cJ23_getChars 38 = .ok (.isub, 1) := dk_100 (dk_at dksJ23_getChars_1 15 rfl rfl)
theorem dJ23_getChars_39 : decode cJ23_getChars 39 = .ok (.istore 4, 2) := dk_54 4 (dk_at dksJ23_getChars_1 16 rfl rfl)
theorem dJ23_getChars_41 : decode cJ23_getChars 41 = .ok (.iload_n 3, 1) := dk_29 (dk_at dksJ23_getChars_1 18 rfl rfl)
theorem dJ23_getChars_42 : decode cJ23_getChars 42 = .ok (.istore_n 0, 1) := dk_59 (dk_at dksJ23_getChars_1 19 rfl rfl)
theorem dJ23_getChars_43 : decode cJ23_getChars 43 = .ok (.aload_n 2, 1) := dk_44 (dk_at dksJ23_getChars_1 20 rfl rfl)
theorem dJ23_getChars_44 : decode cJ23_getChars 44 = .ok (.iinc 5 (-1), 3) := dk_132 5 255 (dk_at dksJ23_getChars_1 21 rfl rfl)
theorem dJ23_getChars_47 : decode cJ23_getChars 47 = .ok (.iload 5, 2) := dk_21 5 (dk_at dksJ23_getChars_2 0 rfl rfl)
theorem dJ23_getChars_49 : decode cJ23_getChars 49 = .ok (.getstatic 83, 3) := dk_178 0 83 (dk_at dksJ23_getChars_2 2 rfl rfl)
theorem dJ23_getChars_52 : decode cJ23_getChars 52 = .ok (.iload 4, 2) := dk_21 4 (dk_at dksJ23_getChars_2 5 rfl rfl)
theorem dJ23_getChars_54 : decode cJ23_getChars 54 = .ok (.baload, 1) := dk_51 (dk_at dksJ23_getChars_2 7 rfl rfl)
theorem dJ23_getChars_55 : decode cJ23_getChars 55 = .ok (.bastore, 1) := dk_84 (dk_at dksJ23_getChars_2 8 rfl rfl)
theorem dJ23_getChars_56 : decode cJ23_getChars 56 = .ok (.aload_n 2, 1) := dk_44 (dk_at dksJ23_getChars_2 9 rfl rfl)
theorem dJ23_getChars_57 : decode cJ23_getChars 57 = .ok (.iinc 5 (-1), 3) := dk_132 5 255 (dk_at dksJ23_getChars_2 10 rfl rfl)
theorem dJ23_getChars_60 : decode cJ23_getChars 60 = .ok (.iload 5, 2) := dk_21 5 (dk_at dksJ23_getChars_2 13 rfl rfl)
theorem dJ23_getChars_62 : decode cJ23_getChars 62 = .ok (.getstatic 87, 3) := dk_178 0 87 (dk_at dksJ23_getChars_2 15 rfl rfl)
theorem dJ23_getChars_65 : decode cJ23_getChars 65 = .ok (.iload 4, 2) := dk_21 4 (dk_at dksJ23_getChars_2 18 rfl rfl)
theorem dJ23_getChars_67 : decode cJ23_getChars 67 = .ok (.baload, 1) := dk_51 (dk_at dksJ23_getChars_2 20 rfl rfl)
theorem dJ23_getChars_68 : decode cJ23_getChars 68 = .ok (.bastore, 1) := dk_84 (dk_at dksJ23_getChars_2 21 rfl rfl)
theorem dJ23_getChars_69 : decode cJ23_getChars 69 = .ok (.goto (-47), 3) := dk_167 255 209 (dk_at dksJ23_getChars_3 0 rfl rfl)
theorem dJ23_getChars_72 : decode cJ23_getChars 72 = .ok (.aload_n 2, 1) := dk_44 (dk_at dksJ23_getChars_3 3 rfl rfl)
theorem dJ23_getChars_73 : decode cJ23_getChars 73 = .ok (.iinc 5 (-1), 3) := dk_132 5 255 (dk_at dksJ23_getChars_3 4 rfl rfl)
theorem dJ23_getChars_76 : decode cJ23_getChars 76 = .ok (.iload 5, 2) := dk_21 5 (dk_at dksJ23_getChars_3 7 rfl rfl)
theorem dJ23_getChars_78 : decode cJ23_getChars 78 = .ok (.getstatic 83, 3) := dk_178 0 83 (dk_at dksJ23_getChars_3 9 rfl rfl)
theorem dJ23_getChars_81 : decode cJ23_getChars 81 = .ok (.iload_n 0, 1) := dk_26 (dk_at dksJ23_getChars_3 12 rfl rfl)
theorem dJ23_getChars_82 : decode cJ23_getChars 82 = .ok (.ineg, 1) := dk_116 (dk_at dksJ23_getChars_3 13 rfl rfl)
theorem dJ23_getChars_83 : decode cJ23_getChars 83 = .ok (.baload, 1) := dk_51 (dk_at dksJ23_getChars_3 14 rfl rfl)
theorem dJ23_getChars_84 : decode cJ23_getChars 84 = .ok (.bastore, 1) := dk_84 (dk_at dksJ23_getChars_3 15 rfl rfl)
theorem dJ23_getChars_85 : decode cJ23_getChars 85 = .ok (.iload_n 0, 1) := dk_26 (dk_at dksJ23_getChars_3 16 rfl rfl)
theorem dJ23_getChars_86 : decode cJ23_getChars 86 = .ok (.bipush (-9), 2) := dk_16 247 (dk_at dksJ23_getChars_3 17 rfl rfl)
theorem dJ23_getChars_88 : decode cJ23_getChars 88 = .ok (.if_icmp .ge 16, 3) := dk_162 0 16 (dk_at dksJ23_getChars_3 19 rfl rfl)
theorem dJ23_getChars_91 : decode cJ23_getChars 91 = .ok (.aload_n 2, 1) := dk_44 (dk_at dksJ23_getChars_3 22 rfl rfl)
theorem dJ23_getChars_92 : decode cJ23_getChars 92 = .ok (.iinc 5 (-1), 3) := dk_132 5 255 (dk_at dksJ23_getChars_4 0 rfl rfl)
theorem dJ23_getChars_95 : decode cJ23_getChars 95 = .ok (.iload 5, 2) := dk_21 5 (dk_at dksJ23_getChars_4 3 rfl rfl)
theorem dJ23_getChars_97 : decode cJ23_getChars 97 = .ok (.getstatic 87, 3) := dk_178 0 87 (dk_at dksJ23_getChars_4 5 rfl rfl)
theorem dJ23_getChars_100 : decode cJ23_getChars 100 = .ok (.iload_n 0, 1) := dk_26 (dk_at dksJ23_getChars_4 8 rfl rfl)
theorem dJ23_getChars_101 : decode cJ23_getChars 101 = .ok (.ineg, 1) := dk_116 (dk_at dksJ23_getChars_4 9 rfl rfl)
theorem dJ23_getChars_102 : decode cJ23_getChars 102 = .ok (.baload, 1) := dk_51 (dk_at dksJ23_getChars_4 10 rfl rfl)
theorem dJ23_getChars_103 : decode cJ23_getChars 103 = .ok (.bastore, 1) := dk_84 (dk_at dksJ23_getChars_4 11 rfl rfl)
theorem dJ23_getChars_104 : decode cJ23_getChars 104 = .ok (.iload 6, 2) := dk_21 6 (dk_at dksJ23_getChars_4 12 rfl rfl)
theorem dJ23_getChars_106 : decode cJ23_getChars 106 = .ok (.ifCond .eq 12, 3) := dk_153 0 12 (dk_at dksJ23_getChars_4 14 rfl rfl)
theorem dJ23_getChars_109 : decode cJ23_getChars 109 = .ok (.aload_n 2, 1) := dk_44 (dk_at dksJ23_getChars_4 17 rfl rfl)
theorem dJ23_getChars_110 : decode cJ23_getChars 110 = .ok (.iinc 5 (-1), 3) := dk_132 5 255 (dk_at dksJ23_getChars_4 18 rfl rfl)
theorem dJ23_getChars_113 : decode cJ23_getChars 113 = .ok (.iload 5, 2) := dk_21 5 (dk_at dksJ23_getChars_4 21 rfl rfl)
theorem dJ23_getChars_115 : decode cJ23_getChars 115 = .ok (.bipush 45, 2) := dk_16 45 (dk_at dksJ23_getChars_5 0 rfl rfl)
theorem dJ23_getChars_117 : decode cJ23_getChars 117 = .ok (.bastore, 1) := dk_84 (dk_at dksJ23_getChars_5 2 rfl rfl)
theorem dJ23_getChars_118 : decode cJ23_getChars 118 = .ok (.iload 5, 2) := dk_21 5 (dk_at dksJ23_getChars_5 3 rfl rfl)
theorem dJ23_getChars_120 : decode cJ23_getChars 120 = .ok (.ireturn, 1) := dk_172 (dk_at dksJ23_getChars_5 5 rfl rfl)
abbrev cJ23_compare : ByteArray := prog_23_method_40_code
def yJ23_compare : MethodName := ⟨RJ23, "compare", "(II)I"⟩
def dkwJ23_compare_0 : List UInt8 := [26, 27, 162, 0, 7, 2, 167, 0, 13, 26, 27, 160, 0, 7, 3, 167, 0, 4, 4, 172]
abbrev dktJ23_compare_0 : List UInt8 := dkwJ23_compare_0 ++ []
theorem dksJ23_compare_0 : cJ23_compare.data.toList.drop 0 = dktJ23_compare_0 := by decide +kernel
theorem dJ23_compare_0 : decode cJ23_compare 0 = .ok (.iload_n 0, 1) := dk_26 (dk_at dksJ23_compare_0 0 rfl rfl)
theorem dJ23_compare_1 : decode cJ23_compare 1 = .ok (.iload_n 1, 1) := dk_27 (dk_at dksJ23_compare_0 1 rfl rfl)
theorem dJ23_compare_2 : decode cJ23_compare 2 = .ok (.if_icmp .ge 7, 3) := dk_162 0 7 (dk_at dksJ23_compare_0 2 rfl rfl)
theorem dJ23_compare_5 : decode cJ23_compare 5 = .ok (.iconst (-1), 1) := dk_2 (dk_at dksJ23_compare_0 5 rfl rfl)
theorem dJ23_compare_6 : decode cJ23_compare 6 = .ok (.goto 13, 3) := dk_167 0 13 (dk_at dksJ23_compare_0 6 rfl rfl)
theorem dJ23_compare_9 : decode cJ23_compare 9 = .ok (.iload_n 0, 1) := dk_26 (dk_at dksJ23_compare_0 9 rfl rfl)
theorem dJ23_compare_10 : decode cJ23_compare 10 = .ok (.iload_n 1, 1) := dk_27 (dk_at dksJ23_compare_0 10 rfl rfl)
theorem dJ23_compare_11 : decode cJ23_compare 11 = .ok (.if_icmp .ne 7, 3) := dk_160 0 7 (dk_at dksJ23_compare_0 11 rfl rfl)
theorem dJ23_compare_14 : decode cJ23_compare 14 = .ok (.iconst 0, 1) := dk_3 (dk_at dksJ23_compare_0 14 rfl rfl)
theorem dJ23_compare_15 : decode cJ23_compare 15 = .ok (.goto 4, 3) := dk_167 0 4 (dk_at dksJ23_compare_0 15 rfl rfl)
theorem dJ23_compare_18 : decode cJ23_compare 18 = .ok (.iconst 1, 1) := dk_4 (dk_at dksJ23_compare_0 18 rfl rfl)
theorem dJ23_compare_19 : decode cJ23_compare 19 = .ok (.ireturn, 1) := dk_172 (dk_at dksJ23_compare_0 19 rfl rfl)
abbrev cJ23_compareTo : ByteArray := prog_23_method_63_code
def yJ23_compareTo : MethodName := ⟨RJ23, "compareTo", "(Ljava/lang/Object;)I"⟩
def dkwJ23_compareTo_0 : List UInt8 := [42, 43, 192, 0, 1, 182, 1, 28, 172]
abbrev dktJ23_compareTo_0 : List UInt8 := dkwJ23_compareTo_0 ++ []
theorem dksJ23_compareTo_0 : cJ23_compareTo.data.toList.drop 0 = dktJ23_compareTo_0 := by decide +kernel
theorem dJ23_compareTo_0 : decode cJ23_compareTo 0 = .ok (.aload_n 0, 1) := dk_42 (dk_at dksJ23_compareTo_0 0 rfl rfl)
theorem dJ23_compareTo_1 : decode cJ23_compareTo 1 = .ok (.aload_n 1, 1) := dk_43 (dk_at dksJ23_compareTo_0 1 rfl rfl)
theorem dJ23_compareTo_2 : decode cJ23_compareTo 2 = .ok (.checkcast 1, 3) := dk_192 0 1 (dk_at dksJ23_compareTo_0 2 rfl rfl)
theorem dJ23_compareTo_5 : decode cJ23_compareTo 5 = .ok (.invokevirtual 284, 3) := dk_182 1 28 (dk_at dksJ23_compareTo_0 5 rfl rfl)
theorem dJ23_compareTo_8 : decode cJ23_compareTo 8 = .ok (.ireturn, 1) := dk_172 (dk_at dksJ23_compareTo_0 8 rfl rfl)
abbrev cJ23_compareTo_2 : ByteArray := prog_23_method_39_code
def yJ23_compareTo_2 : MethodName := ⟨RJ23, "compareTo", "(Ljava/lang/Integer;)I"⟩
def dkwJ23_compareTo_2_0 : List UInt8 := [42, 180, 0, 205, 43, 180, 0, 205, 184, 1, 3, 172]
abbrev dktJ23_compareTo_2_0 : List UInt8 := dkwJ23_compareTo_2_0 ++ []
theorem dksJ23_compareTo_2_0 : cJ23_compareTo_2.data.toList.drop 0 = dktJ23_compareTo_2_0 := by decide +kernel
theorem dJ23_compareTo_2_0 : decode cJ23_compareTo_2 0 = .ok (.aload_n 0, 1) := dk_42 (dk_at dksJ23_compareTo_2_0 0 rfl rfl)
theorem dJ23_compareTo_2_1 : decode cJ23_compareTo_2 1 = .ok (.getfield 205, 3) := dk_180 0 205 (dk_at dksJ23_compareTo_2_0 1 rfl rfl)
theorem dJ23_compareTo_2_4 : decode cJ23_compareTo_2 4 = .ok (.aload_n 1, 1) := dk_43 (dk_at dksJ23_compareTo_2_0 4 rfl rfl)
theorem dJ23_compareTo_2_5 : decode cJ23_compareTo_2 5 = .ok (.getfield 205, 3) := dk_180 0 205 (dk_at dksJ23_compareTo_2_0 5 rfl rfl)
theorem dJ23_compareTo_2_8 : decode cJ23_compareTo_2 8 = .ok (.invokestatic 259, 3) := dk_184 1 3 (dk_at dksJ23_compareTo_2_0 8 rfl rfl)
theorem dJ23_compareTo_2_11 : decode cJ23_compareTo_2 11 = .ok (.ireturn, 1) := dk_172 (dk_at dksJ23_compareTo_2_0 11 rfl rfl)
abbrev cJ23_numberOfLeadingZeros : ByteArray := prog_23_method_47_code
def yJ23_numberOfLeadingZeros : MethodName := ⟨RJ23, "numberOfLeadingZeros", "(I)I"⟩
def dkwJ23_numberOfLeadingZeros_3 : List UInt8 := [5, 124, 59, 27, 26, 4, 124, 100, 172]
abbrev dktJ23_numberOfLeadingZeros_3 : List UInt8 := dkwJ23_numberOfLeadingZeros_3 ++ []
def dkwJ23_numberOfLeadingZeros_2 : List UInt8 := [124, 59, 26, 16, 16, 161, 0, 10, 132, 1, 252, 26, 7, 124, 59, 26, 7, 161, 0, 10, 132, 1, 254, 26]
abbrev dktJ23_numberOfLeadingZeros_2 : List UInt8 := dkwJ23_numberOfLeadingZeros_2 ++ dktJ23_numberOfLeadingZeros_3
def dkwJ23_numberOfLeadingZeros_1 : List UInt8 := [161, 0, 11, 132, 1, 240, 26, 16, 16, 124, 59, 26, 17, 1, 0, 161, 0, 11, 132, 1, 248, 26, 16, 8]
abbrev dktJ23_numberOfLeadingZeros_1 : List UInt8 := dkwJ23_numberOfLeadingZeros_1 ++ dktJ23_numberOfLeadingZeros_2
def dkwJ23_numberOfLeadingZeros_0 : List UInt8 := [26, 157, 0, 14, 26, 154, 0, 8, 16, 32, 167, 0, 4, 3, 172, 16, 31, 60, 26, 19, 1, 8]
abbrev dktJ23_numberOfLeadingZeros_0 : List UInt8 := dkwJ23_numberOfLeadingZeros_0 ++ dktJ23_numberOfLeadingZeros_1
theorem dksJ23_numberOfLeadingZeros_0 : cJ23_numberOfLeadingZeros.data.toList.drop 0 = dktJ23_numberOfLeadingZeros_0 := by decide +kernel
theorem dksJ23_numberOfLeadingZeros_1 : cJ23_numberOfLeadingZeros.data.toList.drop 22 = dktJ23_numberOfLeadingZeros_1 := dk_seg dksJ23_numberOfLeadingZeros_0 22 rfl rfl
theorem dksJ23_numberOfLeadingZeros_2 : cJ23_numberOfLeadingZeros.data.toList.drop 46 = dktJ23_numberOfLeadingZeros_2 := dk_seg dksJ23_numberOfLeadingZeros_1 24 rfl rfl
theorem dksJ23_numberOfLeadingZeros_3 : cJ23_numberOfLeadingZeros.data.toList.drop 70 = dktJ23_numberOfLeadingZeros_3 := dk_seg dksJ23_numberOfLeadingZeros_2 24 rfl rfl
theorem dJ23_numberOfLeadingZeros_0 : decode cJ23_numberOfLeadingZeros 0 = .ok (.iload_n 0, 1) := dk_26 (dk_at dksJ23_numberOfLeadingZeros_0 0 rfl rfl)
theorem dJ23_numberOfLeadingZeros_1 : decode cJ23_numberOfLeadingZeros 1 = .ok (.ifCond .gt 14, 3) := dk_157 0 14 (dk_at dksJ23_numberOfLeadingZeros_0 1 rfl rfl)
theorem dJ23_numberOfLeadingZeros_4 : decode cJ23_numberOfLeadingZeros 4 = .ok (.iload_n 0, 1) := dk_26 (dk_at dksJ23_numberOfLeadingZeros_0 4 rfl rfl)
theorem dJ23_numberOfLeadingZeros_5 : decode cJ23_numberOfLeadingZeros 5 = .ok (.ifCond .ne 8, 3) := dk_154 0 8 (dk_at dksJ23_numberOfLeadingZeros_0 5 rfl rfl)
theorem dJ23_numberOfLeadingZeros_8 : decode cJ23_numberOfLeadingZeros 8 = .ok (.bipush 32, 2) := dk_16 32 (dk_at dksJ23_numberOfLeadingZeros_0 8 rfl rfl)
theorem dJ23_numberOfLeadingZeros_10 : decode cJ23_numberOfLeadingZeros 10 = .ok (.goto 4, 3) := dk_167 0 4 (dk_at dksJ23_numberOfLeadingZeros_0 10 rfl rfl)
theorem dJ23_numberOfLeadingZeros_13 : decode cJ23_numberOfLeadingZeros 13 = .ok (.iconst 0, 1) := dk_3 (dk_at dksJ23_numberOfLeadingZeros_0 13 rfl rfl)
theorem dJ23_numberOfLeadingZeros_14 : decode cJ23_numberOfLeadingZeros 14 = .ok (.ireturn, 1) := dk_172 (dk_at dksJ23_numberOfLeadingZeros_0 14 rfl rfl)
theorem dJ23_numberOfLeadingZeros_15 : decode cJ23_numberOfLeadingZeros 15 = .ok (.bipush 31, 2) := dk_16 31 (dk_at dksJ23_numberOfLeadingZeros_0 15 rfl rfl)
theorem dJ23_numberOfLeadingZeros_17 : decode cJ23_numberOfLeadingZeros 17 = .ok (.istore_n 1, 1) := dk_60 (dk_at dksJ23_numberOfLeadingZeros_0 17 rfl rfl)
theorem dJ23_numberOfLeadingZeros_18 : decode cJ23_numberOfLeadingZeros 18 = .ok (.iload_n 0, 1) := dk_26 (dk_at dksJ23_numberOfLeadingZeros_0 18 rfl rfl)
theorem dJ23_numberOfLeadingZeros_19 : decode cJ23_numberOfLeadingZeros 19 = .ok (.ldc_w 264, 3) := dk_19 1 8 (dk_at dksJ23_numberOfLeadingZeros_0 19 rfl rfl)
theorem dJ23_numberOfLeadingZeros_22 : decode cJ23_numberOfLeadingZeros 22 = .ok (.if_icmp .lt 11, 3) := dk_161 0 11 (dk_at dksJ23_numberOfLeadingZeros_1 0 rfl rfl)
theorem dJ23_numberOfLeadingZeros_25 : decode cJ23_numberOfLeadingZeros 25 = .ok (.iinc 1 (-16), 3) := dk_132 1 240 (dk_at dksJ23_numberOfLeadingZeros_1 3 rfl rfl)
theorem dJ23_numberOfLeadingZeros_28 : decode cJ23_numberOfLeadingZeros 28 = .ok (.iload_n 0, 1) := dk_26 (dk_at dksJ23_numberOfLeadingZeros_1 6 rfl rfl)
theorem dJ23_numberOfLeadingZeros_29 : decode cJ23_numberOfLeadingZeros 29 = .ok (.bipush 16, 2) := dk_16 16 (dk_at dksJ23_numberOfLeadingZeros_1 7 rfl rfl)
theorem dJ23_numberOfLeadingZeros_31 : decode cJ23_numberOfLeadingZeros 31 = .ok (.iushr, 1) := dk_124 (dk_at dksJ23_numberOfLeadingZeros_1 9 rfl rfl)
theorem dJ23_numberOfLeadingZeros_32 : decode cJ23_numberOfLeadingZeros 32 = .ok (.istore_n 0, 1) := dk_59 (dk_at dksJ23_numberOfLeadingZeros_1 10 rfl rfl)
theorem dJ23_numberOfLeadingZeros_33 : decode cJ23_numberOfLeadingZeros 33 = .ok (.iload_n 0, 1) := dk_26 (dk_at dksJ23_numberOfLeadingZeros_1 11 rfl rfl)
theorem dJ23_numberOfLeadingZeros_34 : decode cJ23_numberOfLeadingZeros 34 = .ok (.sipush 256, 3) := dk_17 1 0 (dk_at dksJ23_numberOfLeadingZeros_1 12 rfl rfl)
theorem dJ23_numberOfLeadingZeros_37 : decode cJ23_numberOfLeadingZeros 37 = .ok (.if_icmp .lt 11, 3) := dk_161 0 11 (dk_at dksJ23_numberOfLeadingZeros_1 15 rfl rfl)
theorem dJ23_numberOfLeadingZeros_40 : decode cJ23_numberOfLeadingZeros 40 = .ok (.iinc 1 (-8), 3) := dk_132 1 248 (dk_at dksJ23_numberOfLeadingZeros_1 18 rfl rfl)
theorem dJ23_numberOfLeadingZeros_43 : decode cJ23_numberOfLeadingZeros 43 = .ok (.iload_n 0, 1) := dk_26 (dk_at dksJ23_numberOfLeadingZeros_1 21 rfl rfl)
theorem dJ23_numberOfLeadingZeros_44 : decode cJ23_numberOfLeadingZeros 44 = .ok (.bipush 8, 2) := dk_16 8 (dk_at dksJ23_numberOfLeadingZeros_1 22 rfl rfl)
theorem dJ23_numberOfLeadingZeros_46 : decode cJ23_numberOfLeadingZeros 46 = .ok (.iushr, 1) := dk_124 (dk_at dksJ23_numberOfLeadingZeros_2 0 rfl rfl)
theorem dJ23_numberOfLeadingZeros_47 : decode cJ23_numberOfLeadingZeros 47 = .ok (.istore_n 0, 1) := dk_59 (dk_at dksJ23_numberOfLeadingZeros_2 1 rfl rfl)
theorem dJ23_numberOfLeadingZeros_48 : decode cJ23_numberOfLeadingZeros 48 = .ok (.iload_n 0, 1) := dk_26 (dk_at dksJ23_numberOfLeadingZeros_2 2 rfl rfl)
theorem dJ23_numberOfLeadingZeros_49 : decode cJ23_numberOfLeadingZeros 49 = .ok (.bipush 16, 2) := dk_16 16 (dk_at dksJ23_numberOfLeadingZeros_2 3 rfl rfl)
theorem dJ23_numberOfLeadingZeros_51 : decode cJ23_numberOfLeadingZeros 51 = .ok (.if_icmp .lt 10, 3) := dk_161 0 10 (dk_at dksJ23_numberOfLeadingZeros_2 5 rfl rfl)
theorem dJ23_numberOfLeadingZeros_54 : decode cJ23_numberOfLeadingZeros 54 = .ok (.iinc 1 (-4), 3) := dk_132 1 252 (dk_at dksJ23_numberOfLeadingZeros_2 8 rfl rfl)
theorem dJ23_numberOfLeadingZeros_57 : decode cJ23_numberOfLeadingZeros 57 = .ok (.iload_n 0, 1) := dk_26 (dk_at dksJ23_numberOfLeadingZeros_2 11 rfl rfl)
theorem dJ23_numberOfLeadingZeros_58 : decode cJ23_numberOfLeadingZeros 58 = .ok (.iconst 4, 1) := dk_7 (dk_at dksJ23_numberOfLeadingZeros_2 12 rfl rfl)
theorem dJ23_numberOfLeadingZeros_59 : decode cJ23_numberOfLeadingZeros 59 = .ok (.iushr, 1) := dk_124 (dk_at dksJ23_numberOfLeadingZeros_2 13 rfl rfl)
theorem dJ23_numberOfLeadingZeros_60 : decode cJ23_numberOfLeadingZeros 60 = .ok (.istore_n 0, 1) := dk_59 (dk_at dksJ23_numberOfLeadingZeros_2 14 rfl rfl)
theorem dJ23_numberOfLeadingZeros_61 : decode cJ23_numberOfLeadingZeros 61 = .ok (.iload_n 0, 1) := dk_26 (dk_at dksJ23_numberOfLeadingZeros_2 15 rfl rfl)
theorem dJ23_numberOfLeadingZeros_62 : decode cJ23_numberOfLeadingZeros 62 = .ok (.iconst 4, 1) := dk_7 (dk_at dksJ23_numberOfLeadingZeros_2 16 rfl rfl)
theorem dJ23_numberOfLeadingZeros_63 : decode cJ23_numberOfLeadingZeros 63 = .ok (.if_icmp .lt 10, 3) := dk_161 0 10 (dk_at dksJ23_numberOfLeadingZeros_2 17 rfl rfl)
theorem dJ23_numberOfLeadingZeros_66 : decode cJ23_numberOfLeadingZeros 66 = .ok (.iinc 1 (-2), 3) := dk_132 1 254 (dk_at dksJ23_numberOfLeadingZeros_2 20 rfl rfl)
theorem dJ23_numberOfLeadingZeros_69 : decode cJ23_numberOfLeadingZeros 69 = .ok (.iload_n 0, 1) := dk_26 (dk_at dksJ23_numberOfLeadingZeros_2 23 rfl rfl)
theorem dJ23_numberOfLeadingZeros_70 : decode cJ23_numberOfLeadingZeros 70 = .ok (.iconst 2, 1) := dk_5 (dk_at dksJ23_numberOfLeadingZeros_3 0 rfl rfl)
theorem dJ23_numberOfLeadingZeros_71 : decode cJ23_numberOfLeadingZeros 71 = .ok (.iushr, 1) := dk_124 (dk_at dksJ23_numberOfLeadingZeros_3 1 rfl rfl)
theorem dJ23_numberOfLeadingZeros_72 : decode cJ23_numberOfLeadingZeros 72 = .ok (.istore_n 0, 1) := dk_59 (dk_at dksJ23_numberOfLeadingZeros_3 2 rfl rfl)
theorem dJ23_numberOfLeadingZeros_73 : decode cJ23_numberOfLeadingZeros 73 = .ok (.iload_n 1, 1) := dk_27 (dk_at dksJ23_numberOfLeadingZeros_3 3 rfl rfl)
theorem dJ23_numberOfLeadingZeros_74 : decode cJ23_numberOfLeadingZeros 74 = .ok (.iload_n 0, 1) := dk_26 (dk_at dksJ23_numberOfLeadingZeros_3 4 rfl rfl)
theorem dJ23_numberOfLeadingZeros_75 : decode cJ23_numberOfLeadingZeros 75 = .ok (.iconst 1, 1) := dk_4 (dk_at dksJ23_numberOfLeadingZeros_3 5 rfl rfl)
theorem dJ23_numberOfLeadingZeros_76 : decode cJ23_numberOfLeadingZeros 76 = .ok (.iushr, 1) := dk_124 (dk_at dksJ23_numberOfLeadingZeros_3 6 rfl rfl)
theorem dJ23_numberOfLeadingZeros_77 : decode cJ23_numberOfLeadingZeros 77 = .ok (.isub, 1) := dk_100 (dk_at dksJ23_numberOfLeadingZeros_3 7 rfl rfl)
theorem dJ23_numberOfLeadingZeros_78 : decode cJ23_numberOfLeadingZeros 78 = .ok (.ireturn, 1) := dk_172 (dk_at dksJ23_numberOfLeadingZeros_3 8 rfl rfl)
abbrev cJ23_numberOfTrailingZeros : ByteArray := prog_23_method_48_code
def yJ23_numberOfTrailingZeros : MethodName := ⟨RJ23, "numberOfTrailingZeros", "(I)I"⟩
def dkwJ23_numberOfTrailingZeros_3 : List UInt8 := [5, 124, 59, 27, 26, 4, 124, 96, 172]
abbrev dktJ23_numberOfTrailingZeros_3 : List UInt8 := dkwJ23_numberOfTrailingZeros_3 ++ []
def dkwJ23_numberOfTrailingZeros_2 : List UInt8 := [124, 59, 26, 16, 16, 164, 0, 10, 132, 1, 4, 26, 7, 124, 59, 26, 7, 164, 0, 10, 132, 1, 2, 26]
abbrev dktJ23_numberOfTrailingZeros_2 : List UInt8 := dkwJ23_numberOfTrailingZeros_2 ++ dktJ23_numberOfTrailingZeros_3
def dkwJ23_numberOfTrailingZeros_1 : List UInt8 := [164, 0, 11, 132, 1, 16, 26, 16, 16, 124, 59, 26, 17, 1, 0, 164, 0, 11, 132, 1, 8, 26, 16, 8]
abbrev dktJ23_numberOfTrailingZeros_1 : List UInt8 := dkwJ23_numberOfTrailingZeros_1 ++ dktJ23_numberOfTrailingZeros_2
def dkwJ23_numberOfTrailingZeros_0 : List UInt8 := [26, 2, 130, 26, 4, 100, 126, 59, 26, 157, 0, 8, 26, 16, 32, 126, 172, 4, 60, 26, 19, 1, 8]
abbrev dktJ23_numberOfTrailingZeros_0 : List UInt8 := dkwJ23_numberOfTrailingZeros_0 ++ dktJ23_numberOfTrailingZeros_1
theorem dksJ23_numberOfTrailingZeros_0 : cJ23_numberOfTrailingZeros.data.toList.drop 0 = dktJ23_numberOfTrailingZeros_0 := by decide +kernel
theorem dksJ23_numberOfTrailingZeros_1 : cJ23_numberOfTrailingZeros.data.toList.drop 23 = dktJ23_numberOfTrailingZeros_1 := dk_seg dksJ23_numberOfTrailingZeros_0 23 rfl rfl
theorem dksJ23_numberOfTrailingZeros_2 : cJ23_numberOfTrailingZeros.data.toList.drop 47 = dktJ23_numberOfTrailingZeros_2 := dk_seg dksJ23_numberOfTrailingZeros_1 24 rfl rfl
theorem dksJ23_numberOfTrailingZeros_3 : cJ23_numberOfTrailingZeros.data.toList.drop 71 = dktJ23_numberOfTrailingZeros_3 := dk_seg dksJ23_numberOfTrailingZeros_2 24 rfl rfl
theorem dJ23_numberOfTrailingZeros_0 : decode cJ23_numberOfTrailingZeros 0 = .ok (.iload_n 0, 1) := dk_26 (dk_at dksJ23_numberOfTrailingZeros_0 0 rfl rfl)
theorem dJ23_numberOfTrailingZeros_1 : decode cJ23_numberOfTrailingZeros 1 = .ok (.iconst (-1), 1) := dk_2 (dk_at dksJ23_numberOfTrailingZeros_0 1 rfl rfl)
theorem dJ23_numberOfTrailingZeros_2 : decode cJ23_numberOfTrailingZeros 2 = .ok (.ixor, 1) := dk_130 (dk_at dksJ23_numberOfTrailingZeros_0 2 rfl rfl)
theorem dJ23_numberOfTrailingZeros_3 : decode cJ23_numberOfTrailingZeros 3 = .ok (.iload_n 0, 1) := dk_26 (dk_at dksJ23_numberOfTrailingZeros_0 3 rfl rfl)
theorem dJ23_numberOfTrailingZeros_4 : decode cJ23_numberOfTrailingZeros 4 = .ok (.iconst 1, 1) := dk_4 (dk_at dksJ23_numberOfTrailingZeros_0 4 rfl rfl)
theorem dJ23_numberOfTrailingZeros_5 : decode cJ23_numberOfTrailingZeros 5 = .ok (.isub, 1) := dk_100 (dk_at dksJ23_numberOfTrailingZeros_0 5 rfl rfl)
theorem dJ23_numberOfTrailingZeros_6 : decode cJ23_numberOfTrailingZeros 6 = .ok (.iand, 1) := dk_126 (dk_at dksJ23_numberOfTrailingZeros_0 6 rfl rfl)
theorem dJ23_numberOfTrailingZeros_7 : decode cJ23_numberOfTrailingZeros 7 = .ok (.istore_n 0, 1) := dk_59 (dk_at dksJ23_numberOfTrailingZeros_0 7 rfl rfl)
theorem dJ23_numberOfTrailingZeros_8 : decode cJ23_numberOfTrailingZeros 8 = .ok (.iload_n 0, 1) := dk_26 (dk_at dksJ23_numberOfTrailingZeros_0 8 rfl rfl)
theorem dJ23_numberOfTrailingZeros_9 : decode cJ23_numberOfTrailingZeros 9 = .ok (.ifCond .gt 8, 3) := dk_157 0 8 (dk_at dksJ23_numberOfTrailingZeros_0 9 rfl rfl)
theorem dJ23_numberOfTrailingZeros_12 : decode cJ23_numberOfTrailingZeros 12 = .ok (.iload_n 0, 1) := dk_26 (dk_at dksJ23_numberOfTrailingZeros_0 12 rfl rfl)
theorem dJ23_numberOfTrailingZeros_13 : decode cJ23_numberOfTrailingZeros 13 = .ok (.bipush 32, 2) := dk_16 32 (dk_at dksJ23_numberOfTrailingZeros_0 13 rfl rfl)
theorem dJ23_numberOfTrailingZeros_15 : decode cJ23_numberOfTrailingZeros 15 = .ok (.iand, 1) := dk_126 (dk_at dksJ23_numberOfTrailingZeros_0 15 rfl rfl)
theorem dJ23_numberOfTrailingZeros_16 : decode cJ23_numberOfTrailingZeros 16 = .ok (.ireturn, 1) := dk_172 (dk_at dksJ23_numberOfTrailingZeros_0 16 rfl rfl)
theorem dJ23_numberOfTrailingZeros_17 : decode cJ23_numberOfTrailingZeros 17 = .ok (.iconst 1, 1) := dk_4 (dk_at dksJ23_numberOfTrailingZeros_0 17 rfl rfl)
theorem dJ23_numberOfTrailingZeros_18 : decode cJ23_numberOfTrailingZeros 18 = .ok (.istore_n 1, 1) := dk_60 (dk_at dksJ23_numberOfTrailingZeros_0 18 rfl rfl)
theorem dJ23_numberOfTrailingZeros_19 : decode cJ23_numberOfTrailingZeros 19 = .ok (.iload_n 0, 1) := dk_26 (dk_at dksJ23_numberOfTrailingZeros_0 19 rfl rfl)
theorem dJ23_numberOfTrailingZeros_20 : decode cJ23_numberOfTrailingZeros 20 = .ok (.ldc_w 264, 3) := dk_19 1 8 (dk_at dksJ23_numberOfTrailingZeros_0 20 rfl rfl)
theorem dJ23_numberOfTrailingZeros_23 : decode cJ23_numberOfTrailingZeros 23 = .ok (.if_icmp .le 11, 3) := dk_164 0 11 (dk_at dksJ23_numberOfTrailingZeros_1 0 rfl rfl)
theorem dJ23_numberOfTrailingZeros_26 : decode cJ23_numberOfTrailingZeros 26 = .ok (.iinc 1 16, 3) := dk_132 1 16 (dk_at dksJ23_numberOfTrailingZeros_1 3 rfl rfl)
theorem dJ23_numberOfTrailingZeros_29 : decode cJ23_numberOfTrailingZeros 29 = .ok (.iload_n 0, 1) := dk_26 (dk_at dksJ23_numberOfTrailingZeros_1 6 rfl rfl)
theorem dJ23_numberOfTrailingZeros_30 : decode cJ23_numberOfTrailingZeros 30 = .ok (.bipush 16, 2) := dk_16 16 (dk_at dksJ23_numberOfTrailingZeros_1 7 rfl rfl)
theorem dJ23_numberOfTrailingZeros_32 : decode cJ23_numberOfTrailingZeros 32 = .ok (.iushr, 1) := dk_124 (dk_at dksJ23_numberOfTrailingZeros_1 9 rfl rfl)
theorem dJ23_numberOfTrailingZeros_33 : decode cJ23_numberOfTrailingZeros 33 = .ok (.istore_n 0, 1) := dk_59 (dk_at dksJ23_numberOfTrailingZeros_1 10 rfl rfl)
theorem dJ23_numberOfTrailingZeros_34 : decode cJ23_numberOfTrailingZeros 34 = .ok (.iload_n 0, 1) := dk_26 (dk_at dksJ23_numberOfTrailingZeros_1 11 rfl rfl)
theorem dJ23_numberOfTrailingZeros_35 : decode cJ23_numberOfTrailingZeros 35 = .ok (.sipush 256, 3) := dk_17 1 0 (dk_at dksJ23_numberOfTrailingZeros_1 12 rfl rfl)
theorem dJ23_numberOfTrailingZeros_38 : decode cJ23_numberOfTrailingZeros 38 = .ok (.if_icmp .le 11, 3) := dk_164 0 11 (dk_at dksJ23_numberOfTrailingZeros_1 15 rfl rfl)
theorem dJ23_numberOfTrailingZeros_41 : decode cJ23_numberOfTrailingZeros 41 = .ok (.iinc 1 8, 3) := dk_132 1 8 (dk_at dksJ23_numberOfTrailingZeros_1 18 rfl rfl)
theorem dJ23_numberOfTrailingZeros_44 : decode cJ23_numberOfTrailingZeros 44 = .ok (.iload_n 0, 1) := dk_26 (dk_at dksJ23_numberOfTrailingZeros_1 21 rfl rfl)
theorem dJ23_numberOfTrailingZeros_45 : decode cJ23_numberOfTrailingZeros 45 = .ok (.bipush 8, 2) := dk_16 8 (dk_at dksJ23_numberOfTrailingZeros_1 22 rfl rfl)
theorem dJ23_numberOfTrailingZeros_47 : decode cJ23_numberOfTrailingZeros 47 = .ok (.iushr, 1) := dk_124 (dk_at dksJ23_numberOfTrailingZeros_2 0 rfl rfl)
theorem dJ23_numberOfTrailingZeros_48 : decode cJ23_numberOfTrailingZeros 48 = .ok (.istore_n 0, 1) := dk_59 (dk_at dksJ23_numberOfTrailingZeros_2 1 rfl rfl)
theorem dJ23_numberOfTrailingZeros_49 : decode cJ23_numberOfTrailingZeros 49 = .ok (.iload_n 0, 1) := dk_26 (dk_at dksJ23_numberOfTrailingZeros_2 2 rfl rfl)
theorem dJ23_numberOfTrailingZeros_50 : decode cJ23_numberOfTrailingZeros 50 = .ok (.bipush 16, 2) := dk_16 16 (dk_at dksJ23_numberOfTrailingZeros_2 3 rfl rfl)
theorem dJ23_numberOfTrailingZeros_52 : decode cJ23_numberOfTrailingZeros 52 = .ok (.if_icmp .le 10, 3) := dk_164 0 10 (dk_at dksJ23_numberOfTrailingZeros_2 5 rfl rfl)
theorem dJ23_numberOfTrailingZeros_55 : decode cJ23_numberOfTrailingZeros 55 = .ok (.iinc 1 4, 3) := dk_132 1 4 (dk_at dksJ23_numberOfTrailingZeros_2 8 rfl rfl)
theorem dJ23_numberOfTrailingZeros_58 : decode cJ23_numberOfTrailingZeros 58 = .ok (.iload_n 0, 1) := dk_26 (dk_at dksJ23_numberOfTrailingZeros_2 11 rfl rfl)
theorem dJ23_numberOfTrailingZeros_59 : decode cJ23_numberOfTrailingZeros 59 = .ok (.iconst 4, 1) := dk_7 (dk_at dksJ23_numberOfTrailingZeros_2 12 rfl rfl)
theorem dJ23_numberOfTrailingZeros_60 : decode cJ23_numberOfTrailingZeros 60 = .ok (.iushr, 1) := dk_124 (dk_at dksJ23_numberOfTrailingZeros_2 13 rfl rfl)
theorem dJ23_numberOfTrailingZeros_61 : decode cJ23_numberOfTrailingZeros 61 = .ok (.istore_n 0, 1) := dk_59 (dk_at dksJ23_numberOfTrailingZeros_2 14 rfl rfl)
theorem dJ23_numberOfTrailingZeros_62 : decode cJ23_numberOfTrailingZeros 62 = .ok (.iload_n 0, 1) := dk_26 (dk_at dksJ23_numberOfTrailingZeros_2 15 rfl rfl)
theorem dJ23_numberOfTrailingZeros_63 : decode cJ23_numberOfTrailingZeros 63 = .ok (.iconst 4, 1) := dk_7 (dk_at dksJ23_numberOfTrailingZeros_2 16 rfl rfl)
theorem dJ23_numberOfTrailingZeros_64 : decode cJ23_numberOfTrailingZeros 64 = .ok (.if_icmp .le 10, 3) := dk_164 0 10 (dk_at dksJ23_numberOfTrailingZeros_2 17 rfl rfl)
theorem dJ23_numberOfTrailingZeros_67 : decode cJ23_numberOfTrailingZeros 67 = .ok (.iinc 1 2, 3) := dk_132 1 2 (dk_at dksJ23_numberOfTrailingZeros_2 20 rfl rfl)
theorem dJ23_numberOfTrailingZeros_70 : decode cJ23_numberOfTrailingZeros 70 = .ok (.iload_n 0, 1) := dk_26 (dk_at dksJ23_numberOfTrailingZeros_2 23 rfl rfl)
theorem dJ23_numberOfTrailingZeros_71 : decode cJ23_numberOfTrailingZeros 71 = .ok (.iconst 2, 1) := dk_5 (dk_at dksJ23_numberOfTrailingZeros_3 0 rfl rfl)
theorem dJ23_numberOfTrailingZeros_72 : decode cJ23_numberOfTrailingZeros 72 = .ok (.iushr, 1) := dk_124 (dk_at dksJ23_numberOfTrailingZeros_3 1 rfl rfl)
theorem dJ23_numberOfTrailingZeros_73 : decode cJ23_numberOfTrailingZeros 73 = .ok (.istore_n 0, 1) := dk_59 (dk_at dksJ23_numberOfTrailingZeros_3 2 rfl rfl)
theorem dJ23_numberOfTrailingZeros_74 : decode cJ23_numberOfTrailingZeros 74 = .ok (.iload_n 1, 1) := dk_27 (dk_at dksJ23_numberOfTrailingZeros_3 3 rfl rfl)
theorem dJ23_numberOfTrailingZeros_75 : decode cJ23_numberOfTrailingZeros 75 = .ok (.iload_n 0, 1) := dk_26 (dk_at dksJ23_numberOfTrailingZeros_3 4 rfl rfl)
theorem dJ23_numberOfTrailingZeros_76 : decode cJ23_numberOfTrailingZeros 76 = .ok (.iconst 1, 1) := dk_4 (dk_at dksJ23_numberOfTrailingZeros_3 5 rfl rfl)
theorem dJ23_numberOfTrailingZeros_77 : decode cJ23_numberOfTrailingZeros 77 = .ok (.iushr, 1) := dk_124 (dk_at dksJ23_numberOfTrailingZeros_3 6 rfl rfl)
theorem dJ23_numberOfTrailingZeros_78 : decode cJ23_numberOfTrailingZeros 78 = .ok (.iadd, 1) := dk_96 (dk_at dksJ23_numberOfTrailingZeros_3 7 rfl rfl)
theorem dJ23_numberOfTrailingZeros_79 : decode cJ23_numberOfTrailingZeros 79 = .ok (.ireturn, 1) := dk_172 (dk_at dksJ23_numberOfTrailingZeros_3 8 rfl rfl)
abbrev cJ23_valueOf : ByteArray := prog_23_method_22_code
def yJ23_valueOf : MethodName := ⟨RJ23, "valueOf", "(I)Ljava/lang/Integer;"⟩
def dkwJ23_valueOf_1 : List UInt8 := [187, 0, 1, 89, 26, 183, 0, 199, 176]
abbrev dktJ23_valueOf_1 : List UInt8 := dkwJ23_valueOf_1 ++ []
def dkwJ23_valueOf_0 : List UInt8 := [26, 16, 128, 161, 0, 20, 26, 178, 0, 191, 163, 0, 13, 178, 0, 195, 26, 17, 0, 128, 96, 50, 176]
abbrev dktJ23_valueOf_0 : List UInt8 := dkwJ23_valueOf_0 ++ dktJ23_valueOf_1
theorem dksJ23_valueOf_0 : cJ23_valueOf.data.toList.drop 0 = dktJ23_valueOf_0 := by decide +kernel
theorem dksJ23_valueOf_1 : cJ23_valueOf.data.toList.drop 23 = dktJ23_valueOf_1 := dk_seg dksJ23_valueOf_0 23 rfl rfl
theorem dJ23_valueOf_0 : decode cJ23_valueOf 0 = .ok (.iload_n 0, 1) := dk_26 (dk_at dksJ23_valueOf_0 0 rfl rfl)
theorem dJ23_valueOf_1 : decode cJ23_valueOf 1 = .ok (.bipush (-128), 2) := dk_16 128 (dk_at dksJ23_valueOf_0 1 rfl rfl)
theorem dJ23_valueOf_3 : decode cJ23_valueOf 3 = .ok (.if_icmp .lt 20, 3) := dk_161 0 20 (dk_at dksJ23_valueOf_0 3 rfl rfl)
theorem dJ23_valueOf_6 : decode cJ23_valueOf 6 = .ok (.iload_n 0, 1) := dk_26 (dk_at dksJ23_valueOf_0 6 rfl rfl)
theorem dJ23_valueOf_7 : decode cJ23_valueOf 7 = .ok (.getstatic 191, 3) := dk_178 0 191 (dk_at dksJ23_valueOf_0 7 rfl rfl)
theorem dJ23_valueOf_10 : decode cJ23_valueOf 10 = .ok (.if_icmp .gt 13, 3) := dk_163 0 13 (dk_at dksJ23_valueOf_0 10 rfl rfl)
theorem dJ23_valueOf_13 : decode cJ23_valueOf 13 = .ok (.getstatic 195, 3) := dk_178 0 195 (dk_at dksJ23_valueOf_0 13 rfl rfl)
theorem dJ23_valueOf_16 : decode cJ23_valueOf 16 = .ok (.iload_n 0, 1) := dk_26 (dk_at dksJ23_valueOf_0 16 rfl rfl)
theorem dJ23_valueOf_17 : decode cJ23_valueOf 17 = .ok (.sipush 128, 3) := dk_17 0 128 (dk_at dksJ23_valueOf_0 17 rfl rfl)
theorem dJ23_valueOf_20 : decode cJ23_valueOf 20 = .ok (.iadd, 1) := dk_96 (dk_at dksJ23_valueOf_0 20 rfl rfl)
theorem dJ23_valueOf_21 : decode cJ23_valueOf 21 = .ok (.aaload, 1) := dk_50 (dk_at dksJ23_valueOf_0 21 rfl rfl)
theorem dJ23_valueOf_22 : decode cJ23_valueOf 22 = .ok (.areturn, 1) := dk_176 (dk_at dksJ23_valueOf_0 22 rfl rfl)
theorem dJ23_valueOf_23 : decode cJ23_valueOf 23 = .ok (.new 1, 3) := dk_187 0 1 (dk_at dksJ23_valueOf_1 0 rfl rfl)
theorem dJ23_valueOf_26 : decode cJ23_valueOf 26 = .ok (.dup, 1) := dk_89 (dk_at dksJ23_valueOf_1 3 rfl rfl)
theorem dJ23_valueOf_27 : decode cJ23_valueOf 27 = .ok (.iload_n 0, 1) := dk_26 (dk_at dksJ23_valueOf_1 4 rfl rfl)
theorem dJ23_valueOf_28 : decode cJ23_valueOf 28 = .ok (.invokespecial 199, 3) := dk_183 0 199 (dk_at dksJ23_valueOf_1 5 rfl rfl)
theorem dJ23_valueOf_31 : decode cJ23_valueOf 31 = .ok (.areturn, 1) := dk_176 (dk_at dksJ23_valueOf_1 8 rfl rfl)
abbrev cJ23_init : ByteArray := prog_23_method_23_code
def yJ23_init : MethodName := ⟨RJ23, "<init>", "(I)V"⟩
def dkwJ23_init_0 : List UInt8 := [42, 183, 0, 202, 42, 27, 181, 0, 205, 177]
abbrev dktJ23_init_0 : List UInt8 := dkwJ23_init_0 ++ []
theorem dksJ23_init_0 : cJ23_init.data.toList.drop 0 = dktJ23_init_0 := by decide +kernel
theorem dJ23_init_0 : decode cJ23_init 0 = .ok (.aload_n 0, 1) := dk_42 (dk_at dksJ23_init_0 0 rfl rfl)
theorem dJ23_init_1 : decode cJ23_init 1 = .ok (.invokespecial 202, 3) := dk_183 0 202 (dk_at dksJ23_init_0 1 rfl rfl)
theorem dJ23_init_4 : decode cJ23_init 4 = .ok (.aload_n 0, 1) := dk_42 (dk_at dksJ23_init_0 4 rfl rfl)
theorem dJ23_init_5 : decode cJ23_init 5 = .ok (.iload_n 1, 1) := dk_27 (dk_at dksJ23_init_0 5 rfl rfl)
theorem dJ23_init_6 : decode cJ23_init 6 = .ok (.putfield 205, 3) := dk_181 0 205 (dk_at dksJ23_init_0 6 rfl rfl)
theorem dJ23_init_9 : decode cJ23_init 9 = .ok (.return_, 1) := dk_177 (dk_at dksJ23_init_0 9 rfl rfl)
abbrev cJ23_intValue : ByteArray := prog_23_method_27_code
def yJ23_intValue : MethodName := ⟨RJ23, "intValue", "()I"⟩
theorem dJ23_intValue_0 : decode cJ23_intValue 0 = .ok (.aload_n 0, 1) := by decide +kernel
theorem dJ23_intValue_1 : decode cJ23_intValue 1 = .ok (.getfield 205, 3) := by decide +kernel
theorem dJ23_intValue_4 : decode cJ23_intValue 4 = .ok (.ireturn, 1) := by decide +kernel
abbrev cJ23_bitCount : ByteArray := prog_23_method_49_code
def yJ23_bitCount : MethodName := ⟨RJ23, "bitCount", "(I)I"⟩
def dkwJ23_bitCount_2 : List UInt8 := [26, 16, 63, 126, 172]
abbrev dktJ23_bitCount_2 : List UInt8 := dkwJ23_bitCount_2 ++ []
def dkwJ23_bitCount_1 : List UInt8 := [26, 26, 7, 124, 96, 19, 1, 11, 126, 59, 26, 26, 16, 8, 124, 96, 59, 26, 26, 16, 16, 124, 96, 59]
abbrev dktJ23_bitCount_1 : List UInt8 := dkwJ23_bitCount_1 ++ dktJ23_bitCount_2
def dkwJ23_bitCount_0 : List UInt8 := [26, 26, 4, 124, 19, 1, 9, 126, 100, 59, 26, 19, 1, 10, 126, 26, 5, 124, 19, 1, 10, 126, 96, 59]
abbrev dktJ23_bitCount_0 : List UInt8 := dkwJ23_bitCount_0 ++ dktJ23_bitCount_1
theorem dksJ23_bitCount_0 : cJ23_bitCount.data.toList.drop 0 = dktJ23_bitCount_0 := by decide +kernel
theorem dksJ23_bitCount_1 : cJ23_bitCount.data.toList.drop 24 = dktJ23_bitCount_1 := dk_seg dksJ23_bitCount_0 24 rfl rfl
theorem dksJ23_bitCount_2 : cJ23_bitCount.data.toList.drop 48 = dktJ23_bitCount_2 := dk_seg dksJ23_bitCount_1 24 rfl rfl
theorem dJ23_bitCount_0 : decode cJ23_bitCount 0 = .ok (.iload_n 0, 1) := dk_26 (dk_at dksJ23_bitCount_0 0 rfl rfl)
theorem dJ23_bitCount_1 : decode cJ23_bitCount 1 = .ok (.iload_n 0, 1) := dk_26 (dk_at dksJ23_bitCount_0 1 rfl rfl)
theorem dJ23_bitCount_2 : decode cJ23_bitCount 2 = .ok (.iconst 1, 1) := dk_4 (dk_at dksJ23_bitCount_0 2 rfl rfl)
theorem dJ23_bitCount_3 : decode cJ23_bitCount 3 = .ok (.iushr, 1) := dk_124 (dk_at dksJ23_bitCount_0 3 rfl rfl)
theorem dJ23_bitCount_4 : decode cJ23_bitCount 4 = .ok (.ldc_w 265, 3) := dk_19 1 9 (dk_at dksJ23_bitCount_0 4 rfl rfl)
theorem dJ23_bitCount_7 : decode cJ23_bitCount 7 = .ok (.iand, 1) := dk_126 (dk_at dksJ23_bitCount_0 7 rfl rfl)
theorem dJ23_bitCount_8 : decode cJ23_bitCount 8 = .ok (.isub, 1) := dk_100 (dk_at dksJ23_bitCount_0 8 rfl rfl)
theorem dJ23_bitCount_9 : decode cJ23_bitCount 9 = .ok (.istore_n 0, 1) := dk_59 (dk_at dksJ23_bitCount_0 9 rfl rfl)
theorem dJ23_bitCount_10 : decode cJ23_bitCount 10 = .ok (.iload_n 0, 1) := dk_26 (dk_at dksJ23_bitCount_0 10 rfl rfl)
theorem dJ23_bitCount_11 : decode cJ23_bitCount 11 = .ok (.ldc_w 266, 3) := dk_19 1 10 (dk_at dksJ23_bitCount_0 11 rfl rfl)
theorem dJ23_bitCount_14 : decode cJ23_bitCount 14 = .ok (.iand, 1) := dk_126 (dk_at dksJ23_bitCount_0 14 rfl rfl)
theorem dJ23_bitCount_15 : decode cJ23_bitCount 15 = .ok (.iload_n 0, 1) := dk_26 (dk_at dksJ23_bitCount_0 15 rfl rfl)
theorem dJ23_bitCount_16 : decode cJ23_bitCount 16 = .ok (.iconst 2, 1) := dk_5 (dk_at dksJ23_bitCount_0 16 rfl rfl)
theorem dJ23_bitCount_17 : decode cJ23_bitCount 17 = .ok (.iushr, 1) := dk_124 (dk_at dksJ23_bitCount_0 17 rfl rfl)
theorem dJ23_bitCount_18 : decode cJ23_bitCount 18 = .ok (.ldc_w 266, 3) := dk_19 1 10 (dk_at dksJ23_bitCount_0 18 rfl rfl)
theorem dJ23_bitCount_21 : decode cJ23_bitCount 21 = .ok (.iand, 1) := dk_126 (dk_at dksJ23_bitCount_0 21 rfl rfl)
theorem dJ23_bitCount_22 : decode cJ23_bitCount 22 = .ok (.iadd, 1) := dk_96 (dk_at dksJ23_bitCount_0 22 rfl rfl)
theorem dJ23_bitCount_23 : decode cJ23_bitCount 23 = .ok (.istore_n 0, 1) := dk_59 (dk_at dksJ23_bitCount_0 23 rfl rfl)
theorem dJ23_bitCount_24 : decode cJ23_bitCount 24 = .ok (.iload_n 0, 1) := dk_26 (dk_at dksJ23_bitCount_1 0 rfl rfl)
theorem dJ23_bitCount_25 : decode cJ23_bitCount 25 = .ok (.iload_n 0, 1) := dk_26 (dk_at dksJ23_bitCount_1 1 rfl rfl)
theorem dJ23_bitCount_26 : decode cJ23_bitCount 26 = .ok (.iconst 4, 1) := dk_7 (dk_at dksJ23_bitCount_1 2 rfl rfl)
theorem dJ23_bitCount_27 : decode cJ23_bitCount 27 = .ok (.iushr, 1) := dk_124 (dk_at dksJ23_bitCount_1 3 rfl rfl)
theorem dJ23_bitCount_28 : decode cJ23_bitCount 28 = .ok (.iadd, 1) := dk_96 (dk_at dksJ23_bitCount_1 4 rfl rfl)
theorem dJ23_bitCount_29 : decode cJ23_bitCount 29 = .ok (.ldc_w 267, 3) := dk_19 1 11 (dk_at dksJ23_bitCount_1 5 rfl rfl)
theorem dJ23_bitCount_32 : decode cJ23_bitCount 32 = .ok (.iand, 1) := dk_126 (dk_at dksJ23_bitCount_1 8 rfl rfl)
theorem dJ23_bitCount_33 : decode cJ23_bitCount 33 = .ok (.istore_n 0, 1) := dk_59 (dk_at dksJ23_bitCount_1 9 rfl rfl)
theorem dJ23_bitCount_34 : decode cJ23_bitCount 34 = .ok (.iload_n 0, 1) := dk_26 (dk_at dksJ23_bitCount_1 10 rfl rfl)
theorem dJ23_bitCount_35 : decode cJ23_bitCount 35 = .ok (.iload_n 0, 1) := dk_26 (dk_at dksJ23_bitCount_1 11 rfl rfl)
theorem dJ23_bitCount_36 : decode cJ23_bitCount 36 = .ok (.bipush 8, 2) := dk_16 8 (dk_at dksJ23_bitCount_1 12 rfl rfl)
theorem dJ23_bitCount_38 : decode cJ23_bitCount 38 = .ok (.iushr, 1) := dk_124 (dk_at dksJ23_bitCount_1 14 rfl rfl)
theorem dJ23_bitCount_39 : decode cJ23_bitCount 39 = .ok (.iadd, 1) := dk_96 (dk_at dksJ23_bitCount_1 15 rfl rfl)
theorem dJ23_bitCount_40 : decode cJ23_bitCount 40 = .ok (.istore_n 0, 1) := dk_59 (dk_at dksJ23_bitCount_1 16 rfl rfl)
theorem dJ23_bitCount_41 : decode cJ23_bitCount 41 = .ok (.iload_n 0, 1) := dk_26 (dk_at dksJ23_bitCount_1 17 rfl rfl)
theorem dJ23_bitCount_42 : decode cJ23_bitCount 42 = .ok (.iload_n 0, 1) := dk_26 (dk_at dksJ23_bitCount_1 18 rfl rfl)
theorem dJ23_bitCount_43 : decode cJ23_bitCount 43 = .ok (.bipush 16, 2) := dk_16 16 (dk_at dksJ23_bitCount_1 19 rfl rfl)
theorem dJ23_bitCount_45 : decode cJ23_bitCount 45 = .ok (.iushr, 1) := dk_124 (dk_at dksJ23_bitCount_1 21 rfl rfl)
theorem dJ23_bitCount_46 : decode cJ23_bitCount 46 = .ok (.iadd, 1) := dk_96 (dk_at dksJ23_bitCount_1 22 rfl rfl)
theorem dJ23_bitCount_47 : decode cJ23_bitCount 47 = .ok (.istore_n 0, 1) := dk_59 (dk_at dksJ23_bitCount_1 23 rfl rfl)
theorem dJ23_bitCount_48 : decode cJ23_bitCount 48 = .ok (.iload_n 0, 1) := dk_26 (dk_at dksJ23_bitCount_2 0 rfl rfl)
theorem dJ23_bitCount_49 : decode cJ23_bitCount 49 = .ok (.bipush 63, 2) := dk_16 63 (dk_at dksJ23_bitCount_2 1 rfl rfl)
theorem dJ23_bitCount_51 : decode cJ23_bitCount 51 = .ok (.iand, 1) := dk_126 (dk_at dksJ23_bitCount_2 3 rfl rfl)
theorem dJ23_bitCount_52 : decode cJ23_bitCount 52 = .ok (.ireturn, 1) := dk_172 (dk_at dksJ23_bitCount_2 4 rfl rfl)
theorem q105 : (Jvm.Cond.initialized "java/lang/Integer") ∈ lw_all := lw_g (lw_at lw_m1 30 rfl) rfl
theorem q214 : (Jvm.Cond.selects "java/lang/Integer" ({ cls := "java/lang/Object", name := "getClass", desc := "()Ljava/lang/Class;" } : Jvm.MethodName) ({ cls := "java/lang/Object", name := "getClass", desc := "()Ljava/lang/Class;" } : Jvm.MethodName)) ∈ lw_all := lw_g (lw_at lw_m1 139 rfl) rfl
theorem q477 : (Jvm.Cond.static ({ cls := "java/lang/Integer", name := "stringSize", desc := "(I)I" } : Jvm.MethodName)) ∈ lw_all := lw_g (lw_at lw_m2 162 rfl) rfl
theorem q478 : (Jvm.Cond.code ({ cls := "java/lang/Integer", name := "stringSize", desc := "(I)I" } : Jvm.MethodName) prog_23_method_13_code (4 : Nat) (Option.some Jvm.ClassFile.FieldType.int)) ∈ lw_all := lw_g (lw_at lw_m2 163 rfl) rfl
theorem q480 : (Jvm.Cond.static ({ cls := "java/lang/Integer", name := "getChars", desc := "(II[B)I" } : Jvm.MethodName)) ∈ lw_all := lw_g (lw_at lw_m2 165 rfl) rfl
theorem q481 : (Jvm.Cond.code ({ cls := "java/lang/Integer", name := "getChars", desc := "(II[B)I" } : Jvm.MethodName) prog_23_method_12_code (7 : Nat) (Option.some Jvm.ClassFile.FieldType.int)) ∈ lw_all := lw_g (lw_at lw_m2 166 rfl) rfl
theorem q482 : (Jvm.Cond.fieldLink "java/lang/Integer" (83 : Nat) "java/lang/Integer" "DigitOnes" "[B") ∈ lw_all := lw_g (lw_at lw_m2 167 rfl) rfl
theorem q483 : (Jvm.Cond.laysStatic "java/lang/Integer" "DigitOnes" "[B") ∈ lw_tbl := lw_at lw_m2 168 rfl
theorem q484 : (Jvm.Cond.fieldLink "java/lang/Integer" (87 : Nat) "java/lang/Integer" "DigitTens" "[B") ∈ lw_all := lw_g (lw_at lw_m2 169 rfl) rfl
theorem q485 : (Jvm.Cond.laysStatic "java/lang/Integer" "DigitTens" "[B") ∈ lw_tbl := lw_at lw_m2 170 rfl
theorem q1434 : (Jvm.Cond.static ({ cls := "java/lang/Integer", name := "compare", desc := "(II)I" } : Jvm.MethodName)) ∈ lw_all := lw_g (lw_at lw_m6 159 rfl) rfl
theorem q1435 : (Jvm.Cond.code ({ cls := "java/lang/Integer", name := "compare", desc := "(II)I" } : Jvm.MethodName) prog_23_method_40_code (2 : Nat) (Option.some Jvm.ClassFile.FieldType.int)) ∈ lw_all := lw_g (lw_at lw_m6 160 rfl) rfl
theorem q1444 : (Jvm.Cond.castable "java/lang/Integer" "java/lang/Comparable") ∈ lw_tbl := lw_at lw_m6 169 rfl
theorem q1445 : (Jvm.Cond.selects "java/lang/Integer" ({ cls := "java/lang/Comparable", name := "compareTo", desc := "(Ljava/lang/Object;)I" } : Jvm.MethodName) ({ cls := "java/lang/Integer", name := "compareTo", desc := "(Ljava/lang/Object;)I" } : Jvm.MethodName)) ∈ lw_all := lw_g (lw_at lw_m6 170 rfl) rfl
theorem q1446 : (Jvm.Cond.unhidden "java/lang/Integer" "compareTo" "(Ljava/lang/Object;)I") ∈ lw_tbl := lw_at lw_m6 171 rfl
theorem q1447 : (Jvm.Cond.instanceMethod ({ cls := "java/lang/Integer", name := "compareTo", desc := "(Ljava/lang/Object;)I" } : Jvm.MethodName)) ∈ lw_all := lw_g (lw_at lw_m6 172 rfl) rfl
theorem q1448 : (Jvm.Cond.publicMethod ({ cls := "java/lang/Integer", name := "compareTo", desc := "(Ljava/lang/Object;)I" } : Jvm.MethodName)) ∈ lw_tbl := lw_at lw_m6 173 rfl
theorem q1449 : (Jvm.Cond.code ({ cls := "java/lang/Integer", name := "compareTo", desc := "(Ljava/lang/Object;)I" } : Jvm.MethodName) prog_23_method_63_code (2 : Nat) (Option.some Jvm.ClassFile.FieldType.int)) ∈ lw_all := lw_g (lw_at lw_m6 174 rfl) rfl
theorem q1450 : (Jvm.Cond.classLink "java/lang/Integer" (1 : Nat) "java/lang/Integer") ∈ lw_all := lw_g (lw_at lw_m6 175 rfl) rfl
theorem q1451 : (Jvm.Cond.methodLink "java/lang/Integer" (284 : Nat) ({ cls := "java/lang/Integer", name := "compareTo", desc := "(Ljava/lang/Integer;)I" } : Jvm.MethodName)) ∈ lw_all := lw_g (lw_at lw_m6 176 rfl) rfl
theorem q1452 : (Jvm.Cond.instanceMethod ({ cls := "java/lang/Integer", name := "compareTo", desc := "(Ljava/lang/Integer;)I" } : Jvm.MethodName)) ∈ lw_all := lw_g (lw_at lw_m6 177 rfl) rfl
theorem q1453 : (Jvm.Cond.selects "java/lang/Integer" ({ cls := "java/lang/Integer", name := "compareTo", desc := "(Ljava/lang/Integer;)I" } : Jvm.MethodName) ({ cls := "java/lang/Integer", name := "compareTo", desc := "(Ljava/lang/Integer;)I" } : Jvm.MethodName)) ∈ lw_all := lw_g (lw_at lw_m6 178 rfl) rfl
theorem q1454 : (Jvm.Cond.code ({ cls := "java/lang/Integer", name := "compareTo", desc := "(Ljava/lang/Integer;)I" } : Jvm.MethodName) prog_23_method_39_code (2 : Nat) (Option.some Jvm.ClassFile.FieldType.int)) ∈ lw_all := lw_g (lw_at lw_m6 179 rfl) rfl
theorem q1455 : (Jvm.Cond.methodLink "java/lang/Integer" (259 : Nat) ({ cls := "java/lang/Integer", name := "compare", desc := "(II)I" } : Jvm.MethodName)) ∈ lw_all := lw_g (lw_at lw_m6 180 rfl) rfl
theorem q1546 : (Jvm.Cond.static ({ cls := "java/lang/Integer", name := "numberOfLeadingZeros", desc := "(I)I" } : Jvm.MethodName)) ∈ lw_all := lw_g (lw_at lw_m7 31 rfl) rfl
theorem q1547 : (Jvm.Cond.code ({ cls := "java/lang/Integer", name := "numberOfLeadingZeros", desc := "(I)I" } : Jvm.MethodName) prog_23_method_47_code (2 : Nat) (Option.some Jvm.ClassFile.FieldType.int)) ∈ lw_all := lw_g (lw_at lw_m7 32 rfl) rfl
theorem q1548 : (Jvm.Cond.constant "java/lang/Integer" (264 : Nat) (65536 : Int32)) ∈ lw_all := lw_g (lw_at lw_m7 33 rfl) rfl
theorem q1555 : (Jvm.Cond.static ({ cls := "java/lang/Integer", name := "numberOfTrailingZeros", desc := "(I)I" } : Jvm.MethodName)) ∈ lw_all := lw_g (lw_at lw_m7 40 rfl) rfl
theorem q1556 : (Jvm.Cond.code ({ cls := "java/lang/Integer", name := "numberOfTrailingZeros", desc := "(I)I" } : Jvm.MethodName) prog_23_method_48_code (2 : Nat) (Option.some Jvm.ClassFile.FieldType.int)) ∈ lw_all := lw_g (lw_at lw_m7 41 rfl) rfl
theorem q1717 : (Jvm.Cond.static ({ cls := "java/lang/Integer", name := "valueOf", desc := "(I)Ljava/lang/Integer;" } : Jvm.MethodName)) ∈ lw_all := lw_g (lw_at lw_m7 202 rfl) rfl
theorem q1718 : (Jvm.Cond.code ({ cls := "java/lang/Integer", name := "valueOf", desc := "(I)Ljava/lang/Integer;" } : Jvm.MethodName) prog_23_method_22_code (1 : Nat) (Option.some (Jvm.ClassFile.FieldType.object "java/lang/Integer"))) ∈ lw_all := lw_g (lw_at lw_m7 203 rfl) rfl
theorem q1719 : (Jvm.Cond.fieldLink "java/lang/Integer" (191 : Nat) "java/lang/Integer$IntegerCache" "high" "I") ∈ lw_all := lw_g (lw_at lw_m7 204 rfl) rfl
theorem q1721 : (Jvm.Cond.fieldLink "java/lang/Integer" (195 : Nat) "java/lang/Integer$IntegerCache" "cache" "[Ljava/lang/Integer;") ∈ lw_all := lw_g (lw_at lw_m7 206 rfl) rfl
theorem q1723 : (Jvm.Cond.instantiable "java/lang/Integer" (1 : Nat)) ∈ lw_all := lw_g (lw_at lw_m7 208 rfl) rfl
theorem q1724 : (Jvm.Cond.methodLink "java/lang/Integer" (199 : Nat) ({ cls := "java/lang/Integer", name := "<init>", desc := "(I)V" } : Jvm.MethodName)) ∈ lw_all := lw_g (lw_at lw_m7 209 rfl) rfl
theorem q1725 : (Jvm.Cond.instanceMethod ({ cls := "java/lang/Integer", name := "<init>", desc := "(I)V" } : Jvm.MethodName)) ∈ lw_all := lw_g (lw_at lw_m7 210 rfl) rfl
theorem q1726 : (Jvm.Cond.code ({ cls := "java/lang/Integer", name := "<init>", desc := "(I)V" } : Jvm.MethodName) prog_23_method_23_code (2 : Nat) (Option.none : Option Jvm.ClassFile.FieldType)) ∈ lw_all := lw_g (lw_at lw_m7 211 rfl) rfl
theorem q1727 : (Jvm.Cond.methodLink "java/lang/Integer" (202 : Nat) ({ cls := "java/lang/Number", name := "<init>", desc := "()V" } : Jvm.MethodName)) ∈ lw_all := lw_g (lw_at lw_m7 212 rfl) rfl
theorem q1731 : (Jvm.Cond.fieldLink "java/lang/Integer" (205 : Nat) "java/lang/Integer" "value" "I") ∈ lw_all := lw_g (lw_at lw_m7 216 rfl) rfl
theorem q1732 : (Jvm.Cond.laysFinal "java/lang/Integer" "java/lang/Integer" "value" "I") ∈ lw_all := lw_g (lw_at lw_m7 217 rfl) rfl
theorem q1733 : (Jvm.Cond.soleField "java/lang/Integer" "value") ∈ lw_all := lw_g (lw_at lw_m7 218 rfl) rfl
theorem q1734 : (Jvm.Cond.superclass "java/lang/Integer" "java/lang/Number") ∈ lw_all := lw_g (lw_at lw_m7 219 rfl) rfl
theorem q1761 : (Jvm.Cond.instanceMethod ({ cls := "java/lang/Integer", name := "intValue", desc := "()I" } : Jvm.MethodName)) ∈ lw_all := lw_g (lw_at lw_m8 6 rfl) rfl
theorem q1762 : (Jvm.Cond.selects "java/lang/Integer" ({ cls := "java/lang/Integer", name := "intValue", desc := "()I" } : Jvm.MethodName) ({ cls := "java/lang/Integer", name := "intValue", desc := "()I" } : Jvm.MethodName)) ∈ lw_all := lw_g (lw_at lw_m8 7 rfl) rfl
theorem q1763 : (Jvm.Cond.code ({ cls := "java/lang/Integer", name := "intValue", desc := "()I" } : Jvm.MethodName) prog_23_method_27_code (1 : Nat) (Option.some Jvm.ClassFile.FieldType.int)) ∈ lw_all := lw_g (lw_at lw_m8 8 rfl) rfl
theorem q1944 : (Jvm.Cond.static ({ cls := "java/lang/Integer", name := "bitCount", desc := "(I)I" } : Jvm.MethodName)) ∈ lw_all := lw_g (lw_at lw_m8 189 rfl) rfl
theorem q1945 : (Jvm.Cond.code ({ cls := "java/lang/Integer", name := "bitCount", desc := "(I)I" } : Jvm.MethodName) prog_23_method_49_code (1 : Nat) (Option.some Jvm.ClassFile.FieldType.int)) ∈ lw_all := lw_g (lw_at lw_m8 190 rfl) rfl
theorem q1946 : (Jvm.Cond.constant "java/lang/Integer" (265 : Nat) (1431655765 : Int32)) ∈ lw_all := lw_g (lw_at lw_m8 191 rfl) rfl
theorem q1947 : (Jvm.Cond.constant "java/lang/Integer" (266 : Nat) (858993459 : Int32)) ∈ lw_all := lw_g (lw_at lw_m8 192 rfl) rfl
theorem q1948 : (Jvm.Cond.constant "java/lang/Integer" (267 : Nat) (252645135 : Int32)) ∈ lw_all := lw_g (lw_at lw_m8 193 rfl) rfl
theorem q2433 : (Jvm.Cond.castable "java/lang/Integer" "java/lang/Object") ∈ lw_tbl := lw_at lw_m10 198 rfl
theorem in_J23 : ∀ w ∈ wsJ230, w ∈ lw_all := lw_in wsJ230 [1732] (by decide +kernel) (by decide +kernel)

/-! java/util/AbstractQueue -/
set_option maxRecDepth 100000
def RJ24 : String := "java/util/AbstractQueue"
abbrev cJ24_init : ByteArray := prog_42_method_1_code
def yJ24_init : MethodName := ⟨RJ24, "<init>", "()V"⟩
theorem dJ24_init_0 : decode cJ24_init 0 = .ok (.aload_n 0, 1) := by decide +kernel
theorem dJ24_init_1 : decode cJ24_init 1 = .ok (.invokespecial 1, 3) := by decide +kernel
theorem dJ24_init_4 : decode cJ24_init 4 = .ok (.return_, 1) := by decide +kernel
theorem q109 : (Jvm.Cond.initialized "java/util/AbstractQueue") ∈ lw_all := lw_g (lw_at lw_m1 34 rfl) rfl
theorem q1356 : (Jvm.Cond.instanceMethod ({ cls := "java/util/AbstractQueue", name := "<init>", desc := "()V" } : Jvm.MethodName)) ∈ lw_all := lw_g (lw_at lw_m6 81 rfl) rfl
theorem q1357 : (Jvm.Cond.code ({ cls := "java/util/AbstractQueue", name := "<init>", desc := "()V" } : Jvm.MethodName) prog_42_method_1_code (1 : Nat) (Option.none : Option Jvm.ClassFile.FieldType)) ∈ lw_all := lw_g (lw_at lw_m6 82 rfl) rfl
theorem q1358 : (Jvm.Cond.methodLink "java/util/AbstractQueue" (1 : Nat) ({ cls := "java/util/AbstractCollection", name := "<init>", desc := "()V" } : Jvm.MethodName)) ∈ lw_all := lw_g (lw_at lw_m6 83 rfl) rfl

/-! java/util/PriorityQueue -/
set_option maxRecDepth 100000
def RJ25 : String := "java/util/PriorityQueue"
def TJ25 : u_T := fun k => match k with
  | 0 => ("java/util/PriorityQueue", "queue", "[Ljava/lang/Object;", false)
  | 1 => ("java/util/PriorityQueue", "size", "I", false)
  | 2 => ("java/util/PriorityQueue", "comparator", "Ljava/util/Comparator;", true)
  | _ => ("java/util/PriorityQueue", "modCount", "I", false)
def tyJ25 : Nat → FieldType := fun k => match k with
  | 0 => .array (.object "java/lang/Object")
  | 1 => .int
  | 2 => .object "java/util/Comparator"
  | _ => .int
abbrev wsJ250 : List Cond := u_ws RJ25 TJ25 4
theorem nmJ25 : ∀ a, a < 4 → ∀ b, b < 4 → a ≠ b → (TJ25 a).2.1 ≠ (TJ25 b).2.1 := by decide +kernel
theorem tyJ25_ok : ∀ k, k < 4 → parseFieldDescriptor (TJ25 k).2.2.1 = some (tyJ25 k) := by decide +kernel
abbrev cJ25_init : ByteArray := prog_58_method_3_code
def yJ25_init : MethodName := ⟨RJ25, "<init>", "(Ljava/util/Comparator;)V"⟩
def dkwJ25_init_0 : List UInt8 := [42, 16, 11, 43, 183, 0, 3, 177]
abbrev dktJ25_init_0 : List UInt8 := dkwJ25_init_0 ++ []
theorem dksJ25_init_0 : cJ25_init.data.toList.drop 0 = dktJ25_init_0 := by decide +kernel
theorem dJ25_init_0 : decode cJ25_init 0 = .ok (.aload_n 0, 1) := dk_42 (dk_at dksJ25_init_0 0 rfl rfl)
theorem dJ25_init_1 : decode cJ25_init 1 = .ok (.bipush 11, 2) := dk_16 11 (dk_at dksJ25_init_0 1 rfl rfl)
theorem dJ25_init_3 : decode cJ25_init 3 = .ok (.aload_n 1, 1) := dk_43 (dk_at dksJ25_init_0 3 rfl rfl)
theorem dJ25_init_4 : decode cJ25_init 4 = .ok (.invokespecial 3, 3) := dk_183 0 3 (dk_at dksJ25_init_0 4 rfl rfl)
theorem dJ25_init_7 : decode cJ25_init 7 = .ok (.return_, 1) := dk_177 (dk_at dksJ25_init_0 7 rfl rfl)
abbrev cJ25_init_2 : ByteArray := prog_58_method_4_code
def yJ25_init_2 : MethodName := ⟨RJ25, "<init>", "(ILjava/util/Comparator;)V"⟩
def dkwJ25_init_2_1 : List UInt8 := [181, 0, 17, 42, 44, 181, 0, 21, 177]
abbrev dktJ25_init_2_1 : List UInt8 := dkwJ25_init_2_1 ++ []
def dkwJ25_init_2_0 : List UInt8 := [42, 183, 0, 7, 27, 4, 162, 0, 11, 187, 0, 12, 89, 183, 0, 14, 191, 42, 27, 189, 0, 15]
abbrev dktJ25_init_2_0 : List UInt8 := dkwJ25_init_2_0 ++ dktJ25_init_2_1
theorem dksJ25_init_2_0 : cJ25_init_2.data.toList.drop 0 = dktJ25_init_2_0 := by decide +kernel
theorem dksJ25_init_2_1 : cJ25_init_2.data.toList.drop 22 = dktJ25_init_2_1 := dk_seg dksJ25_init_2_0 22 rfl rfl
theorem dJ25_init_2_0 : decode cJ25_init_2 0 = .ok (.aload_n 0, 1) := dk_42 (dk_at dksJ25_init_2_0 0 rfl rfl)
theorem dJ25_init_2_1 : decode cJ25_init_2 1 = .ok (.invokespecial 7, 3) := dk_183 0 7 (dk_at dksJ25_init_2_0 1 rfl rfl)
theorem dJ25_init_2_4 : decode cJ25_init_2 4 = .ok (.iload_n 1, 1) := dk_27 (dk_at dksJ25_init_2_0 4 rfl rfl)
theorem dJ25_init_2_5 : decode cJ25_init_2 5 = .ok (.iconst 1, 1) := dk_4 (dk_at dksJ25_init_2_0 5 rfl rfl)
theorem dJ25_init_2_6 : decode cJ25_init_2 6 = .ok (.if_icmp .ge 11, 3) := dk_162 0 11 (dk_at dksJ25_init_2_0 6 rfl rfl)
theorem dJ25_init_2_9 : decode cJ25_init_2 9 = .ok (.new 12, 3) := dk_187 0 12 (dk_at dksJ25_init_2_0 9 rfl rfl)
theorem dJ25_init_2_12 : decode cJ25_init_2 12 = .ok (.dup, 1) := dk_89 (dk_at dksJ25_init_2_0 12 rfl rfl)
theorem dJ25_init_2_13 : decode cJ25_init_2 13 = .ok (.invokespecial 14, 3) := dk_183 0 14 (dk_at dksJ25_init_2_0 13 rfl rfl)
theorem dJ25_init_2_16 : decode cJ25_init_2 16 = .ok (.athrow, 1) := dk_191 (dk_at dksJ25_init_2_0 16 rfl rfl)
theorem dJ25_init_2_17 : decode cJ25_init_2 17 = .ok (.aload_n 0, 1) := dk_42 (dk_at dksJ25_init_2_0 17 rfl rfl)
theorem dJ25_init_2_18 : decode cJ25_init_2 18 = .ok (.iload_n 1, 1) := dk_27 (dk_at dksJ25_init_2_0 18 rfl rfl)
theorem dJ25_init_2_19 : decode cJ25_init_2 19 = .ok (.anewarray 15, 3) := dk_189 0 15 (dk_at dksJ25_init_2_0 19 rfl rfl)
theorem dJ25_init_2_22 : decode cJ25_init_2 22 = .ok (.putfield 17, 3) := dk_181 0 17 (dk_at dksJ25_init_2_1 0 rfl rfl)
theorem dJ25_init_2_25 : decode cJ25_init_2 25 = .ok (.aload_n 0, 1) := dk_42 (dk_at dksJ25_init_2_1 3 rfl rfl)
theorem dJ25_init_2_26 : decode cJ25_init_2 26 = .ok (.aload_n 2, 1) := dk_44 (dk_at dksJ25_init_2_1 4 rfl rfl)
theorem dJ25_init_2_27 : decode cJ25_init_2 27 = .ok (.putfield 21, 3) := dk_181 0 21 (dk_at dksJ25_init_2_1 5 rfl rfl)
theorem dJ25_init_2_30 : decode cJ25_init_2 30 = .ok (.return_, 1) := dk_177 (dk_at dksJ25_init_2_1 8 rfl rfl)
abbrev cJ25_add : ByteArray := prog_58_method_13_code
def yJ25_add : MethodName := ⟨RJ25, "add", "(Ljava/lang/Object;)Z"⟩
def dkwJ25_add_0 : List UInt8 := [42, 43, 182, 0, 89, 172]
abbrev dktJ25_add_0 : List UInt8 := dkwJ25_add_0 ++ []
theorem dksJ25_add_0 : cJ25_add.data.toList.drop 0 = dktJ25_add_0 := by decide +kernel
theorem dJ25_add_0 : decode cJ25_add 0 = .ok (.aload_n 0, 1) := dk_42 (dk_at dksJ25_add_0 0 rfl rfl)
theorem dJ25_add_1 : decode cJ25_add 1 = .ok (.aload_n 1, 1) := dk_43 (dk_at dksJ25_add_0 1 rfl rfl)
theorem dJ25_add_2 : decode cJ25_add 2 = .ok (.invokevirtual 89, 3) := dk_182 0 89 (dk_at dksJ25_add_0 2 rfl rfl)
theorem dJ25_add_5 : decode cJ25_add 5 = .ok (.ireturn, 1) := dk_172 (dk_at dksJ25_add_0 5 rfl rfl)
abbrev cJ25_offer : ByteArray := prog_58_method_14_code
def yJ25_offer : MethodName := ⟨RJ25, "offer", "(Ljava/lang/Object;)Z"⟩
def dkwJ25_offer_2 : List UInt8 := [182, 0, 100, 42, 28, 4, 96, 181, 0, 58, 4, 172]
abbrev dktJ25_offer_2 : List UInt8 := dkwJ25_offer_2 ++ []
def dkwJ25_offer_1 : List UInt8 := [180, 0, 58, 61, 28, 42, 180, 0, 17, 190, 161, 0, 10, 42, 28, 4, 96, 182, 0, 96, 42, 28, 43]
abbrev dktJ25_offer_1 : List UInt8 := dkwJ25_offer_1 ++ dktJ25_offer_2
def dkwJ25_offer_0 : List UInt8 := [43, 199, 0, 11, 187, 0, 74, 89, 183, 0, 76, 191, 42, 89, 180, 0, 93, 4, 96, 181, 0, 93, 42]
abbrev dktJ25_offer_0 : List UInt8 := dkwJ25_offer_0 ++ dktJ25_offer_1
theorem dksJ25_offer_0 : cJ25_offer.data.toList.drop 0 = dktJ25_offer_0 := by decide +kernel
theorem dksJ25_offer_1 : cJ25_offer.data.toList.drop 23 = dktJ25_offer_1 := dk_seg dksJ25_offer_0 23 rfl rfl
theorem dksJ25_offer_2 : cJ25_offer.data.toList.drop 46 = dktJ25_offer_2 := dk_seg dksJ25_offer_1 23 rfl rfl
theorem dJ25_offer_0 : decode cJ25_offer 0 = .ok (.aload_n 1, 1) := dk_43 (dk_at dksJ25_offer_0 0 rfl rfl)
theorem dJ25_offer_1 : decode cJ25_offer 1 = .ok (.ifnonnull 11, 3) := dk_199 0 11 (dk_at dksJ25_offer_0 1 rfl rfl)
theorem dJ25_offer_4 : decode cJ25_offer 4 = .ok (.new 74, 3) := dk_187 0 74 (dk_at dksJ25_offer_0 4 rfl rfl)
theorem dJ25_offer_7 : decode cJ25_offer 7 = .ok (.dup, 1) := dk_89 (dk_at dksJ25_offer_0 7 rfl rfl)
theorem dJ25_offer_8 : decode cJ25_offer 8 = .ok (.invokespecial 76, 3) := dk_183 0 76 (dk_at dksJ25_offer_0 8 rfl rfl)
theorem dJ25_offer_11 : decode cJ25_offer 11 = .ok (.athrow, 1) := dk_191 (dk_at dksJ25_offer_0 11 rfl rfl)
theorem dJ25_offer_12 : decode cJ25_offer 12 = .ok (.aload_n 0, 1) := dk_42 (dk_at dksJ25_offer_0 12 rfl rfl)
theorem dJ25_offer_13 : decode cJ25_offer 13 = .ok (.dup, 1) := dk_89 (dk_at dksJ25_offer_0 13 rfl rfl)
theorem dJ25_offer_14 : decode cJ25_offer 14 = .ok (.getfield 93, 3) := dk_180 0 93 (dk_at dksJ25_offer_0 14 rfl rfl)
theorem dJ25_offer_17 : decode cJ25_offer 17 = .ok (.iconst 1, 1) := dk_4 (dk_at dksJ25_offer_0 17 rfl rfl)
theorem dJ25_offer_18 : decode cJ25_offer 18 = .ok (.iadd, 1) := dk_96 (dk_at dksJ25_offer_0 18 rfl rfl)
theorem dJ25_offer_19 : decode cJ25_offer 19 = .ok (.putfield 93, 3) := dk_181 0 93 (dk_at dksJ25_offer_0 19 rfl rfl)
theorem dJ25_offer_22 : decode cJ25_offer 22 = .ok (.aload_n 0, 1) := dk_42 (dk_at dksJ25_offer_0 22 rfl rfl)
theorem dJ25_offer_23 : decode cJ25_offer 23 = .ok (.getfield 58, 3) := dk_180 0 58 (dk_at dksJ25_offer_1 0 rfl rfl)
theorem dJ25_offer_26 : decode cJ25_offer 26 = .ok (.istore_n 2, 1) := dk_61 (dk_at dksJ25_offer_1 3 rfl rfl)
theorem dJ25_offer_27 : decode cJ25_offer 27 = .ok (.iload_n 2, 1) := dk_28 (dk_at dksJ25_offer_1 4 rfl rfl)
theorem dJ25_offer_28 : decode cJ25_offer 28 = .ok (.aload_n 0, 1) := dk_42 (dk_at dksJ25_offer_1 5 rfl rfl)
theorem dJ25_offer_29 : decode cJ25_offer 29 = .ok (.getfield 17, 3) := dk_180 0 17 (dk_at dksJ25_offer_1 6 rfl rfl)
theorem dJ25_offer_32 : decode cJ25_offer 32 = .ok (.arraylength, 1) := dk_190 (dk_at dksJ25_offer_1 9 rfl rfl)
theorem dJ25_offer_33 : decode cJ25_offer 33 = .ok (.if_icmp .lt 10, 3) := dk_161 0 10 (dk_at dksJ25_offer_1 10 rfl rfl)
theorem dJ25_offer_36 : decode cJ25_offer 36 = .ok (.aload_n 0, 1) := dk_42 (dk_at dksJ25_offer_1 13 rfl rfl)
theorem dJ25_offer_37 : decode cJ25_offer 37 = .ok (.iload_n 2, 1) := dk_28 (dk_at dksJ25_offer_1 14 rfl rfl)
theorem dJ25_offer_38 : decode cJ25_offer 38 = .ok (.iconst 1, 1) := dk_4 (dk_at dksJ25_offer_1 15 rfl rfl)
theorem dJ25_offer_39 : decode cJ25_offer 39 = .ok (.iadd, 1) := dk_96 (dk_at dksJ25_offer_1 16 rfl rfl)
theorem dJ25_offer_40 : decode cJ25_offer 40 = .ok (.invokevirtual 96, 3) := dk_182 0 96 (dk_at dksJ25_offer_1 17 rfl rfl)
theorem dJ25_offer_43 : decode cJ25_offer 43 = .ok (.aload_n 0, 1) := dk_42 (dk_at dksJ25_offer_1 20 rfl rfl)
theorem dJ25_offer_44 : decode cJ25_offer 44 = .ok (.iload_n 2, 1) := dk_28 (dk_at dksJ25_offer_1 21 rfl rfl)
theorem dJ25_offer_45 : decode cJ25_offer 45 = .ok (.aload_n 1, 1) := dk_43 (dk_at dksJ25_offer_1 22 rfl rfl)
theorem dJ25_offer_46 : decode cJ25_offer 46 = .ok (.invokevirtual 100, 3) := dk_182 0 100 (dk_at dksJ25_offer_2 0 rfl rfl)
theorem dJ25_offer_49 : decode cJ25_offer 49 = .ok (.aload_n 0, 1) := dk_42 (dk_at dksJ25_offer_2 3 rfl rfl)
theorem dJ25_offer_50 : decode cJ25_offer 50 = .ok (.iload_n 2, 1) := dk_28 (dk_at dksJ25_offer_2 4 rfl rfl)
theorem dJ25_offer_51 : decode cJ25_offer 51 = .ok (.iconst 1, 1) := dk_4 (dk_at dksJ25_offer_2 5 rfl rfl)
theorem dJ25_offer_52 : decode cJ25_offer 52 = .ok (.iadd, 1) := dk_96 (dk_at dksJ25_offer_2 6 rfl rfl)
theorem dJ25_offer_53 : decode cJ25_offer 53 = .ok (.putfield 58, 3) := dk_181 0 58 (dk_at dksJ25_offer_2 7 rfl rfl)
theorem dJ25_offer_56 : decode cJ25_offer 56 = .ok (.iconst 1, 1) := dk_4 (dk_at dksJ25_offer_2 10 rfl rfl)
theorem dJ25_offer_57 : decode cJ25_offer 57 = .ok (.ireturn, 1) := dk_172 (dk_at dksJ25_offer_2 11 rfl rfl)
abbrev cJ25_grow : ByteArray := prog_58_method_12_code
def yJ25_grow : MethodName := ⟨RJ25, "grow", "(I)V"⟩
def dkwJ25_grow_1 : List UInt8 := [122, 184, 0, 80, 62, 42, 42, 180, 0, 17, 29, 184, 0, 86, 181, 0, 17, 177]
abbrev dktJ25_grow_1 : List UInt8 := dkwJ25_grow_1 ++ []
def dkwJ25_grow_0 : List UInt8 := [42, 180, 0, 17, 190, 61, 28, 27, 28, 100, 28, 16, 64, 162, 0, 9, 28, 5, 96, 167, 0, 6, 28, 4]
abbrev dktJ25_grow_0 : List UInt8 := dkwJ25_grow_0 ++ dktJ25_grow_1
theorem dksJ25_grow_0 : cJ25_grow.data.toList.drop 0 = dktJ25_grow_0 := by decide +kernel
theorem dksJ25_grow_1 : cJ25_grow.data.toList.drop 24 = dktJ25_grow_1 := dk_seg dksJ25_grow_0 24 rfl rfl
theorem dJ25_grow_0 : decode cJ25_grow 0 = .ok (.aload_n 0, 1) := dk_42 (dk_at dksJ25_grow_0 0 rfl rfl)
theorem dJ25_grow_1 : decode cJ25_grow 1 = .ok (.getfield 17, 3) := dk_180 0 17 (dk_at dksJ25_grow_0 1 rfl rfl)
theorem dJ25_grow_4 : decode cJ25_grow 4 = .ok (.arraylength, 1) := dk_190 (dk_at dksJ25_grow_0 4 rfl rfl)
theorem dJ25_grow_5 : decode cJ25_grow 5 = .ok (.istore_n 2, 1) := dk_61 (dk_at dksJ25_grow_0 5 rfl rfl)
theorem dJ25_grow_6 : decode cJ25_grow 6 = .ok (.iload_n 2, 1) := dk_28 (dk_at dksJ25_grow_0 6 rfl rfl)
theorem dJ25_grow_7 : decode cJ25_grow 7 = .ok (.iload_n 1, 1) := dk_27 (dk_at dksJ25_grow_0 7 rfl rfl)
theorem dJ25_grow_8 : decode cJ25_grow 8 = .ok (.iload_n 2, 1) := dk_28 (dk_at dksJ25_grow_0 8 rfl rfl)
theorem dJ25_grow_9 : decode cJ25_grow 9 = .ok (.isub, 1) := dk_100 (dk_at dksJ25_grow_0 9 rfl rfl)
theorem dJ25_grow_10 : decode cJ25_grow 10 = .ok (.iload_n 2, 1) := dk_28 (dk_at dksJ25_grow_0 10 rfl rfl)
theorem dJ25_grow_11 : decode cJ25_grow 11 = .ok (.bipush 64, 2) := dk_16 64 (dk_at dksJ25_grow_0 11 rfl rfl)
theorem dJ25_grow_13 : decode cJ25_grow 13 = .ok (.if_icmp .ge 9, 3) := dk_162 0 9 (dk_at dksJ25_grow_0 13 rfl rfl)
theorem dJ25_grow_16 : decode cJ25_grow 16 = .ok (.iload_n 2, 1) := dk_28 (dk_at dksJ25_grow_0 16 rfl rfl)
theorem dJ25_grow_17 : decode cJ25_grow 17 = .ok (.iconst 2, 1) := dk_5 (dk_at dksJ25_grow_0 17 rfl rfl)
theorem dJ25_grow_18 : decode cJ25_grow 18 = .ok (.iadd, 1) := dk_96 (dk_at dksJ25_grow_0 18 rfl rfl)
theorem dJ25_grow_19 : decode cJ25_grow 19 = .ok (.goto 6, 3) := dk_167 0 6 (dk_at dksJ25_grow_0 19 rfl rfl)
theorem dJ25_grow_22 : decode cJ25_grow 22 = .ok (.iload_n 2, 1) := dk_28 (dk_at dksJ25_grow_0 22 rfl rfl)
theorem dJ25_grow_23 : decode cJ25_grow 23 = .ok (.iconst 1, 1) := dk_4 (dk_at dksJ25_grow_0 23 rfl rfl)
theorem dJ25_grow_24 : decode cJ25_grow 24 = .ok (.ishr, 1) := dk_122 (dk_at dksJ25_grow_1 0 rfl rfl)
theorem dJ25_grow_25 : decode cJ25_grow 25 = .ok (.invokestatic 80, 3) := dk_184 0 80 (dk_at dksJ25_grow_1 1 rfl rfl)
theorem dJ25_grow_28 : decode cJ25_grow 28 = .ok (.istore_n 3, 1) := dk_62 (dk_at dksJ25_grow_1 4 rfl rfl)
theorem dJ25_grow_29 : decode cJ25_grow 29 = .ok (.aload_n 0, 1) := dk_42 (dk_at dksJ25_grow_1 5 rfl rfl)
theorem dJ25_grow_30 : decode cJ25_grow 30 = .ok (.aload_n 0, 1) := dk_42 (dk_at dksJ25_grow_1 6 rfl rfl)
theorem dJ25_grow_31 : decode cJ25_grow 31 = .ok (.getfield 17, 3) := dk_180 0 17 (dk_at dksJ25_grow_1 7 rfl rfl)
theorem dJ25_grow_34 : decode cJ25_grow 34 = .ok (.iload_n 3, 1) := dk_29 (dk_at dksJ25_grow_1 10 rfl rfl)
theorem dJ25_grow_35 : decode cJ25_grow 35 = .ok (.invokestatic 86, 3) := dk_184 0 86 (dk_at dksJ25_grow_1 11 rfl rfl)
theorem dJ25_grow_38 : decode cJ25_grow 38 = .ok (.putfield 17, 3) := dk_181 0 17 (dk_at dksJ25_grow_1 14 rfl rfl)
theorem dJ25_grow_41 : decode cJ25_grow 41 = .ok (.return_, 1) := dk_177 (dk_at dksJ25_grow_1 17 rfl rfl)
abbrev cJ25_siftUp : ByteArray := prog_58_method_27_code
def yJ25_siftUp : MethodName := ⟨RJ25, "siftUp", "(ILjava/lang/Object;)V"⟩
def dkwJ25_siftUp_1 : List UInt8 := [44, 42, 180, 0, 17, 184, 0, 140, 177]
abbrev dktJ25_siftUp_1 : List UInt8 := dkwJ25_siftUp_1 ++ []
def dkwJ25_siftUp_0 : List UInt8 := [42, 180, 0, 21, 198, 0, 19, 27, 44, 42, 180, 0, 17, 42, 180, 0, 21, 184, 0, 136, 167, 0, 12, 27]
abbrev dktJ25_siftUp_0 : List UInt8 := dkwJ25_siftUp_0 ++ dktJ25_siftUp_1
theorem dksJ25_siftUp_0 : cJ25_siftUp.data.toList.drop 0 = dktJ25_siftUp_0 := by decide +kernel
theorem dksJ25_siftUp_1 : cJ25_siftUp.data.toList.drop 24 = dktJ25_siftUp_1 := dk_seg dksJ25_siftUp_0 24 rfl rfl
theorem dJ25_siftUp_0 : decode cJ25_siftUp 0 = .ok (.aload_n 0, 1) := dk_42 (dk_at dksJ25_siftUp_0 0 rfl rfl)
theorem dJ25_siftUp_1 : decode cJ25_siftUp 1 = .ok (.getfield 21, 3) := dk_180 0 21 (dk_at dksJ25_siftUp_0 1 rfl rfl)
theorem dJ25_siftUp_4 : decode cJ25_siftUp 4 = .ok (.ifnull 19, 3) := dk_198 0 19 (dk_at dksJ25_siftUp_0 4 rfl rfl)
theorem dJ25_siftUp_7 : decode cJ25_siftUp 7 = .ok (.iload_n 1, 1) := dk_27 (dk_at dksJ25_siftUp_0 7 rfl rfl)
theorem dJ25_siftUp_8 : decode cJ25_siftUp 8 = .ok (.aload_n 2, 1) := dk_44 (dk_at dksJ25_siftUp_0 8 rfl rfl)
theorem dJ25_siftUp_9 : decode cJ25_siftUp 9 = .ok (.aload_n 0, 1) := dk_42 (dk_at dksJ25_siftUp_0 9 rfl rfl)
theorem dJ25_siftUp_10 : decode cJ25_siftUp 10 = .ok (.getfield 17, 3) := dk_180 0 17 (dk_at dksJ25_siftUp_0 10 rfl rfl)
theorem dJ25_siftUp_13 : decode cJ25_siftUp 13 = .ok (.aload_n 0, 1) := dk_42 (dk_at dksJ25_siftUp_0 13 rfl rfl)
theorem dJ25_siftUp_14 : decode cJ25_siftUp 14 = .ok (.getfield 21, 3) := dk_180 0 21 (dk_at dksJ25_siftUp_0 14 rfl rfl)
theorem dJ25_siftUp_17 : decode cJ25_siftUp 17 = .ok (.invokestatic 136, 3) := dk_184 0 136 (dk_at dksJ25_siftUp_0 17 rfl rfl)
theorem dJ25_siftUp_20 : decode cJ25_siftUp 20 = .ok (.goto 12, 3) := dk_167 0 12 (dk_at dksJ25_siftUp_0 20 rfl rfl)
theorem dJ25_siftUp_23 : decode cJ25_siftUp 23 = .ok (.iload_n 1, 1) := dk_27 (dk_at dksJ25_siftUp_0 23 rfl rfl)
theorem dJ25_siftUp_24 : decode cJ25_siftUp 24 = .ok (.aload_n 2, 1) := dk_44 (dk_at dksJ25_siftUp_1 0 rfl rfl)
theorem dJ25_siftUp_25 : decode cJ25_siftUp 25 = .ok (.aload_n 0, 1) := dk_42 (dk_at dksJ25_siftUp_1 1 rfl rfl)
theorem dJ25_siftUp_26 : decode cJ25_siftUp 26 = .ok (.getfield 17, 3) := dk_180 0 17 (dk_at dksJ25_siftUp_1 2 rfl rfl)
theorem dJ25_siftUp_29 : decode cJ25_siftUp 29 = .ok (.invokestatic 140, 3) := dk_184 0 140 (dk_at dksJ25_siftUp_1 5 rfl rfl)
theorem dJ25_siftUp_32 : decode cJ25_siftUp 32 = .ok (.return_, 1) := dk_177 (dk_at dksJ25_siftUp_1 8 rfl rfl)
abbrev cJ25_siftUpUsingComparator : ByteArray := prog_58_method_29_code
def yJ25_siftUpUsingComparator : MethodName := ⟨RJ25, "siftUpUsingComparator", "(ILjava/lang/Object;[Ljava/lang/Object;Ljava/util/Comparator;)V"⟩
def dkwJ25_siftUpUsingComparator_2 : List UInt8 := [43, 83, 177]
abbrev dktJ25_siftUpUsingComparator_2 : List UInt8 := dkwJ25_siftUpUsingComparator_2 ++ []
def dkwJ25_siftUpUsingComparator_1 : List UInt8 := [185, 0, 149, 3, 0, 155, 0, 6, 167, 0, 14, 44, 26, 25, 5, 83, 21, 4, 59, 167, 255, 216, 44, 26]
abbrev dktJ25_siftUpUsingComparator_1 : List UInt8 := dkwJ25_siftUpUsingComparator_1 ++ dktJ25_siftUpUsingComparator_2
def dkwJ25_siftUpUsingComparator_0 : List UInt8 := [26, 158, 0, 42, 26, 4, 100, 4, 124, 54, 4, 44, 21, 4, 50, 58, 5, 45, 43, 25, 5]
abbrev dktJ25_siftUpUsingComparator_0 : List UInt8 := dkwJ25_siftUpUsingComparator_0 ++ dktJ25_siftUpUsingComparator_1
theorem dksJ25_siftUpUsingComparator_0 : cJ25_siftUpUsingComparator.data.toList.drop 0 = dktJ25_siftUpUsingComparator_0 := by decide +kernel
theorem dksJ25_siftUpUsingComparator_1 : cJ25_siftUpUsingComparator.data.toList.drop 21 = dktJ25_siftUpUsingComparator_1 := dk_seg dksJ25_siftUpUsingComparator_0 21 rfl rfl
theorem dksJ25_siftUpUsingComparator_2 : cJ25_siftUpUsingComparator.data.toList.drop 45 = dktJ25_siftUpUsingComparator_2 := dk_seg dksJ25_siftUpUsingComparator_1 24 rfl rfl
theorem dJ25_siftUpUsingComparator_0 : decode cJ25_siftUpUsingComparator 0 = .ok (.iload_n 0, 1) := dk_26 (dk_at dksJ25_siftUpUsingComparator_0 0 rfl rfl)
theorem dJ25_siftUpUsingComparator_1 : decode cJ25_siftUpUsingComparator 1 = .ok (.ifCond .le 42, 3) := dk_158 0 42 (dk_at dksJ25_siftUpUsingComparator_0 1 rfl rfl)
theorem dJ25_siftUpUsingComparator_4 : decode cJ25_siftUpUsingComparator 4 = .ok (.iload_n 0, 1) := dk_26 (dk_at dksJ25_siftUpUsingComparator_0 4 rfl rfl)
theorem dJ25_siftUpUsingComparator_5 : decode cJ25_siftUpUsingComparator 5 = .ok (.iconst 1, 1) := dk_4 (dk_at dksJ25_siftUpUsingComparator_0 5 rfl rfl)
theorem dJ25_siftUpUsingComparator_6 : decode cJ25_siftUpUsingComparator 6 = .ok (.isub, 1) := dk_100 (dk_at dksJ25_siftUpUsingComparator_0 6 rfl rfl)
theorem dJ25_siftUpUsingComparator_7 : decode cJ25_siftUpUsingComparator 7 = .ok (.iconst 1, 1) := dk_4 (dk_at dksJ25_siftUpUsingComparator_0 7 rfl rfl)
theorem dJ25_siftUpUsingComparator_8 : decode cJ25_siftUpUsingComparator 8 = .ok (.iushr, 1) := dk_124 (dk_at dksJ25_siftUpUsingComparator_0 8 rfl rfl)
theorem dJ25_siftUpUsingComparator_9 : decode cJ25_siftUpUsingComparator 9 = .ok (.istore 4, 2) := dk_54 4 (dk_at dksJ25_siftUpUsingComparator_0 9 rfl rfl)
theorem dJ25_siftUpUsingComparator_11 : decode cJ25_siftUpUsingComparator 11 = .ok (.aload_n 2, 1) := dk_44 (dk_at dksJ25_siftUpUsingComparator_0 11 rfl rfl)
theorem dJ25_siftUpUsingComparator_12 : decode cJ25_siftUpUsingComparator 12 = .ok (.iload 4, 2) := dk_21 4 (dk_at dksJ25_siftUpUsingComparator_0 12 rfl rfl)
theorem dJ25_siftUpUsingComparator_14 : decode cJ25_siftUpUsingComparator 14 = .ok (.aaload, 1) := dk_50 (dk_at dksJ25_siftUpUsingComparator_0 14 rfl rfl)
theorem dJ25_siftUpUsingComparator_15 : decode cJ25_siftUpUsingComparator 15 = .ok (.astore 5, 2) := dk_58 5 (dk_at dksJ25_siftUpUsingComparator_0 15 rfl rfl)
theorem dJ25_siftUpUsingComparator_17 : decode cJ25_siftUpUsingComparator 17 = .ok (.aload_n 3, 1) := dk_45 (dk_at dksJ25_siftUpUsingComparator_0 17 rfl rfl)
theorem dJ25_siftUpUsingComparator_18 : decode cJ25_siftUpUsingComparator 18 = .ok (.aload_n 1, 1) := dk_43 (dk_at dksJ25_siftUpUsingComparator_0 18 rfl rfl)
theorem dJ25_siftUpUsingComparator_19 : decode cJ25_siftUpUsingComparator 19 = .ok (.aload 5, 2) := dk_25 5 (dk_at dksJ25_siftUpUsingComparator_0 19 rfl rfl)
theorem dJ25_siftUpUsingComparator_21 : decode cJ25_siftUpUsingComparator 21 = .ok (.invokeinterface 149 3, 5) := by decide +kernel
theorem dJ25_siftUpUsingComparator_26 : decode cJ25_siftUpUsingComparator 26 = .ok (.ifCond .lt 6, 3) := dk_155 0 6 (dk_at dksJ25_siftUpUsingComparator_1 5 rfl rfl)
theorem dJ25_siftUpUsingComparator_29 : decode cJ25_siftUpUsingComparator 29 = .ok (.goto 14, 3) := dk_167 0 14 (dk_at dksJ25_siftUpUsingComparator_1 8 rfl rfl)
theorem dJ25_siftUpUsingComparator_32 : decode cJ25_siftUpUsingComparator 32 = .ok (.aload_n 2, 1) := dk_44 (dk_at dksJ25_siftUpUsingComparator_1 11 rfl rfl)
theorem dJ25_siftUpUsingComparator_33 : decode cJ25_siftUpUsingComparator 33 = .ok (.iload_n 0, 1) := dk_26 (dk_at dksJ25_siftUpUsingComparator_1 12 rfl rfl)
theorem dJ25_siftUpUsingComparator_34 : decode cJ25_siftUpUsingComparator 34 = .ok (.aload 5, 2) := dk_25 5 (dk_at dksJ25_siftUpUsingComparator_1 13 rfl rfl)
theorem dJ25_siftUpUsingComparator_36 : decode cJ25_siftUpUsingComparator 36 = .ok (.aastore, 1) := dk_83 (dk_at dksJ25_siftUpUsingComparator_1 15 rfl rfl)
theorem dJ25_siftUpUsingComparator_37 : decode cJ25_siftUpUsingComparator 37 = .ok (.iload 4, 2) := dk_21 4 (dk_at dksJ25_siftUpUsingComparator_1 16 rfl rfl)
theorem dJ25_siftUpUsingComparator_39 : decode cJ25_siftUpUsingComparator 39 = .ok (.istore_n 0, 1) := dk_59 (dk_at dksJ25_siftUpUsingComparator_1 18 rfl rfl)
theorem dJ25_siftUpUsingComparator_40 : decode cJ25_siftUpUsingComparator 40 = .ok (.goto (-40), 3) := dk_167 255 216 (dk_at dksJ25_siftUpUsingComparator_1 19 rfl rfl)
theorem dJ25_siftUpUsingComparator_43 : decode cJ25_siftUpUsingComparator 43 = .ok (.aload_n 2, 1) := dk_44 (dk_at dksJ25_siftUpUsingComparator_1 22 rfl rfl)
theorem dJ25_siftUpUsingComparator_44 : decode cJ25_siftUpUsingComparator 44 = .ok (.iload_n 0, 1) := dk_26 (dk_at dksJ25_siftUpUsingComparator_1 23 rfl rfl)
theorem dJ25_siftUpUsingComparator_45 : decode cJ25_siftUpUsingComparator 45 = .ok (.aload_n 1, 1) := dk_43 (dk_at dksJ25_siftUpUsingComparator_2 0 rfl rfl)
theorem dJ25_siftUpUsingComparator_46 : decode cJ25_siftUpUsingComparator 46 = .ok (.aastore, 1) := dk_83 (dk_at dksJ25_siftUpUsingComparator_2 1 rfl rfl)
theorem dJ25_siftUpUsingComparator_47 : decode cJ25_siftUpUsingComparator 47 = .ok (.return_, 1) := dk_177 (dk_at dksJ25_siftUpUsingComparator_2 2 rfl rfl)
abbrev cJ25_siftUpComparable : ByteArray := prog_58_method_28_code
def yJ25_siftUpComparable : MethodName := ⟨RJ25, "siftUpComparable", "(ILjava/lang/Object;[Ljava/lang/Object;)V"⟩
def dkwJ25_siftUpComparable_2 : List UInt8 := [44, 26, 45, 83, 177]
abbrev dktJ25_siftUpComparable_2 : List UInt8 := dkwJ25_siftUpComparable_2 ++ []
def dkwJ25_siftUpComparable_1 : List UInt8 := [25, 5, 185, 0, 146, 2, 0, 155, 0, 6, 167, 0, 14, 44, 26, 25, 5, 83, 21, 4, 59, 167, 255, 217]
abbrev dktJ25_siftUpComparable_1 : List UInt8 := dkwJ25_siftUpComparable_1 ++ dktJ25_siftUpComparable_2
def dkwJ25_siftUpComparable_0 : List UInt8 := [43, 192, 0, 144, 78, 26, 158, 0, 41, 26, 4, 100, 4, 124, 54, 4, 44, 21, 4, 50, 58, 5, 45]
abbrev dktJ25_siftUpComparable_0 : List UInt8 := dkwJ25_siftUpComparable_0 ++ dktJ25_siftUpComparable_1
theorem dksJ25_siftUpComparable_0 : cJ25_siftUpComparable.data.toList.drop 0 = dktJ25_siftUpComparable_0 := by decide +kernel
theorem dksJ25_siftUpComparable_1 : cJ25_siftUpComparable.data.toList.drop 23 = dktJ25_siftUpComparable_1 := dk_seg dksJ25_siftUpComparable_0 23 rfl rfl
theorem dksJ25_siftUpComparable_2 : cJ25_siftUpComparable.data.toList.drop 47 = dktJ25_siftUpComparable_2 := dk_seg dksJ25_siftUpComparable_1 24 rfl rfl
theorem dJ25_siftUpComparable_0 : decode cJ25_siftUpComparable 0 = .ok (.aload_n 1, 1) := dk_43 (dk_at dksJ25_siftUpComparable_0 0 rfl rfl)
theorem dJ25_siftUpComparable_1 : decode cJ25_siftUpComparable 1 = .ok (.checkcast 144, 3) := dk_192 0 144 (dk_at dksJ25_siftUpComparable_0 1 rfl rfl)
theorem dJ25_siftUpComparable_4 : decode cJ25_siftUpComparable 4 = .ok (.astore_n 3, 1) := dk_78 (dk_at dksJ25_siftUpComparable_0 4 rfl rfl)
theorem dJ25_siftUpComparable_5 : decode cJ25_siftUpComparable 5 = .ok (.iload_n 0, 1) := dk_26 (dk_at dksJ25_siftUpComparable_0 5 rfl rfl)
theorem dJ25_siftUpComparable_6 : decode cJ25_siftUpComparable 6 = .ok (.ifCond .le 41, 3) := dk_158 0 41 (dk_at dksJ25_siftUpComparable_0 6 rfl rfl)
theorem dJ25_siftUpComparable_9 : decode cJ25_siftUpComparable 9 = .ok (.iload_n 0, 1) := dk_26 (dk_at dksJ25_siftUpComparable_0 9 rfl rfl)
theorem dJ25_siftUpComparable_10 : decode cJ25_siftUpComparable 10 = .ok (.iconst 1, 1) := dk_4 (dk_at dksJ25_siftUpComparable_0 10 rfl rfl)
theorem dJ25_siftUpComparable_11 : decode cJ25_siftUpComparable 11 = .ok (.isub, 1) := dk_100 (dk_at dksJ25_siftUpComparable_0 11 rfl rfl)
theorem dJ25_siftUpComparable_12 : decode cJ25_siftUpComparable 12 = .ok (.iconst 1, 1) := dk_4 (dk_at dksJ25_siftUpComparable_0 12 rfl rfl)
theorem dJ25_siftUpComparable_13 : decode cJ25_siftUpComparable 13 = .ok (.iushr, 1) := dk_124 (dk_at dksJ25_siftUpComparable_0 13 rfl rfl)
theorem dJ25_siftUpComparable_14 : decode cJ25_siftUpComparable 14 = .ok (.istore 4, 2) := dk_54 4 (dk_at dksJ25_siftUpComparable_0 14 rfl rfl)
theorem dJ25_siftUpComparable_16 : decode cJ25_siftUpComparable 16 = .ok (.aload_n 2, 1) := dk_44 (dk_at dksJ25_siftUpComparable_0 16 rfl rfl)
theorem dJ25_siftUpComparable_17 : decode cJ25_siftUpComparable 17 = .ok (.iload 4, 2) := dk_21 4 (dk_at dksJ25_siftUpComparable_0 17 rfl rfl)
theorem dJ25_siftUpComparable_19 : decode cJ25_siftUpComparable 19 = .ok (.aaload, 1) := dk_50 (dk_at dksJ25_siftUpComparable_0 19 rfl rfl)
theorem dJ25_siftUpComparable_20 : decode cJ25_siftUpComparable 20 = .ok (.astore 5, 2) := dk_58 5 (dk_at dksJ25_siftUpComparable_0 20 rfl rfl)
theorem dJ25_siftUpComparable_22 : decode cJ25_siftUpComparable 22 = .ok (.aload_n 3, 1) := dk_45 (dk_at dksJ25_siftUpComparable_0 22 rfl rfl)
theorem dJ25_siftUpComparable_23 : decode cJ25_siftUpComparable 23 = .ok (.aload 5, 2) := dk_25 5 (dk_at dksJ25_siftUpComparable_1 0 rfl rfl)
theorem dJ25_siftUpComparable_25 : decode cJ25_siftUpComparable 25 = .ok (.invokeinterface 146 2, 5) := by decide +kernel
theorem dJ25_siftUpComparable_30 : decode cJ25_siftUpComparable 30 = .ok (.ifCond .lt 6, 3) := dk_155 0 6 (dk_at dksJ25_siftUpComparable_1 7 rfl rfl)
theorem dJ25_siftUpComparable_33 : decode cJ25_siftUpComparable 33 = .ok (.goto 14, 3) := dk_167 0 14 (dk_at dksJ25_siftUpComparable_1 10 rfl rfl)
theorem dJ25_siftUpComparable_36 : decode cJ25_siftUpComparable 36 = .ok (.aload_n 2, 1) := dk_44 (dk_at dksJ25_siftUpComparable_1 13 rfl rfl)
theorem dJ25_siftUpComparable_37 : decode cJ25_siftUpComparable 37 = .ok (.iload_n 0, 1) := dk_26 (dk_at dksJ25_siftUpComparable_1 14 rfl rfl)
theorem dJ25_siftUpComparable_38 : decode cJ25_siftUpComparable 38 = .ok (.aload 5, 2) := dk_25 5 (dk_at dksJ25_siftUpComparable_1 15 rfl rfl)
theorem dJ25_siftUpComparable_40 : decode cJ25_siftUpComparable 40 = .ok (.aastore, 1) := dk_83 (dk_at dksJ25_siftUpComparable_1 17 rfl rfl)
theorem dJ25_siftUpComparable_41 : decode cJ25_siftUpComparable 41 = .ok (.iload 4, 2) := dk_21 4 (dk_at dksJ25_siftUpComparable_1 18 rfl rfl)
theorem dJ25_siftUpComparable_43 : decode cJ25_siftUpComparable 43 = .ok (.istore_n 0, 1) := dk_59 (dk_at dksJ25_siftUpComparable_1 20 rfl rfl)
theorem dJ25_siftUpComparable_44 : decode cJ25_siftUpComparable 44 = .ok (.goto (-39), 3) := dk_167 255 217 (dk_at dksJ25_siftUpComparable_1 21 rfl rfl)
theorem dJ25_siftUpComparable_47 : decode cJ25_siftUpComparable 47 = .ok (.aload_n 2, 1) := dk_44 (dk_at dksJ25_siftUpComparable_2 0 rfl rfl)
theorem dJ25_siftUpComparable_48 : decode cJ25_siftUpComparable 48 = .ok (.iload_n 0, 1) := dk_26 (dk_at dksJ25_siftUpComparable_2 1 rfl rfl)
theorem dJ25_siftUpComparable_49 : decode cJ25_siftUpComparable 49 = .ok (.aload_n 3, 1) := dk_45 (dk_at dksJ25_siftUpComparable_2 2 rfl rfl)
theorem dJ25_siftUpComparable_50 : decode cJ25_siftUpComparable 50 = .ok (.aastore, 1) := dk_83 (dk_at dksJ25_siftUpComparable_2 3 rfl rfl)
theorem dJ25_siftUpComparable_51 : decode cJ25_siftUpComparable 51 = .ok (.return_, 1) := dk_177 (dk_at dksJ25_siftUpComparable_2 4 rfl rfl)
abbrev cJ25_size : ByteArray := prog_58_method_23_code
def yJ25_size : MethodName := ⟨RJ25, "size", "()I"⟩
theorem dJ25_size_0 : decode cJ25_size 0 = .ok (.aload_n 0, 1) := by decide +kernel
theorem dJ25_size_1 : decode cJ25_size 1 = .ok (.getfield 58, 3) := by decide +kernel
theorem dJ25_size_4 : decode cJ25_size 4 = .ok (.ireturn, 1) := by decide +kernel
abbrev cJ25_poll : ByteArray := prog_58_method_25_code
def yJ25_poll : MethodName := ⟨RJ25, "poll", "()Ljava/lang/Object;"⟩
def dkwJ25_poll_3 : List UInt8 := [43, 29, 25, 5, 184, 0, 129, 44, 176]
abbrev dktJ25_poll_3 : List UInt8 := dkwJ25_poll_3 ++ []
def dkwJ25_poll_2 : List UInt8 := [42, 180, 0, 21, 89, 58, 5, 199, 0, 14, 3, 25, 4, 43, 29, 184, 0, 125, 167, 0, 13, 3, 25, 4]
abbrev dktJ25_poll_2 : List UInt8 := dkwJ25_poll_2 ++ dktJ25_poll_3
def dkwJ25_poll_1 : List UInt8 := [42, 89, 180, 0, 58, 4, 100, 90, 181, 0, 58, 89, 62, 50, 58, 4, 43, 29, 1, 83, 29, 158, 0, 34]
abbrev dktJ25_poll_1 : List UInt8 := dkwJ25_poll_1 ++ dktJ25_poll_2
def dkwJ25_poll_0 : List UInt8 := [42, 180, 0, 17, 89, 76, 3, 50, 89, 77, 198, 0, 69, 42, 89, 180, 0, 93, 4, 96, 181, 0, 93, 43]
abbrev dktJ25_poll_0 : List UInt8 := dkwJ25_poll_0 ++ dktJ25_poll_1
theorem dksJ25_poll_0 : cJ25_poll.data.toList.drop 0 = dktJ25_poll_0 := by decide +kernel
theorem dksJ25_poll_1 : cJ25_poll.data.toList.drop 24 = dktJ25_poll_1 := dk_seg dksJ25_poll_0 24 rfl rfl
theorem dksJ25_poll_2 : cJ25_poll.data.toList.drop 48 = dktJ25_poll_2 := dk_seg dksJ25_poll_1 24 rfl rfl
theorem dksJ25_poll_3 : cJ25_poll.data.toList.drop 72 = dktJ25_poll_3 := dk_seg dksJ25_poll_2 24 rfl rfl
theorem dJ25_poll_0 : decode cJ25_poll 0 = .ok (.aload_n 0, 1) := dk_42 (dk_at dksJ25_poll_0 0 rfl rfl)
theorem dJ25_poll_1 : decode cJ25_poll 1 = .ok (.getfield 17, 3) := dk_180 0 17 (dk_at dksJ25_poll_0 1 rfl rfl)
theorem dJ25_poll_4 : decode cJ25_poll 4 = .ok (.dup, 1) := dk_89 (dk_at dksJ25_poll_0 4 rfl rfl)
theorem dJ25_poll_5 : decode cJ25_poll 5 = .ok (.astore_n 1, 1) := dk_76 (dk_at dksJ25_poll_0 5 rfl rfl)
theorem dJ25_poll_6 : decode cJ25_poll 6 = .ok (.iconst 0, 1) := dk_3 (dk_at dksJ25_poll_0 6 rfl rfl)
theorem dJ25_poll_7 : decode cJ25_poll 7 = .ok (.aaload, 1) := dk_50 (dk_at dksJ25_poll_0 7 rfl rfl)
theorem dJ25_poll_8 : decode cJ25_poll 8 = .ok (.dup, 1) := dk_89 (dk_at dksJ25_poll_0 8 rfl rfl)
theorem dJ25_poll_9 : decode cJ25_poll 9 = .ok (.astore_n 2, 1) := dk_77 (dk_at dksJ25_poll_0 9 rfl rfl)
theorem dJ25_poll_10 : decode cJ25_poll 10 = .ok (.ifnull 69, 3) := dk_198 0 69 (dk_at dksJ25_poll_0 10 rfl rfl)
theorem dJ25_poll_13 : decode cJ25_poll 13 = .ok (.aload_n 0, 1) := dk_42 (dk_at dksJ25_poll_0 13 rfl rfl)
theorem dJ25_poll_14 : decode cJ25_poll 14 = .ok (.dup, 1) := dk_89 (dk_at dksJ25_poll_0 14 rfl rfl)
theorem dJ25_poll_15 : decode cJ25_poll 15 = .ok (.getfield 93, 3) := dk_180 0 93 (dk_at dksJ25_poll_0 15 rfl rfl)
theorem dJ25_poll_18 : decode cJ25_poll 18 = .ok (.iconst 1, 1) := dk_4 (dk_at dksJ25_poll_0 18 rfl rfl)
theorem dJ25_poll_19 : decode cJ25_poll 19 = .ok (.iadd, 1) := dk_96 (dk_at dksJ25_poll_0 19 rfl rfl)
theorem dJ25_poll_20 : decode cJ25_poll 20 = .ok (.putfield 93, 3) := dk_181 0 93 (dk_at dksJ25_poll_0 20 rfl rfl)
theorem dJ25_poll_23 : decode cJ25_poll 23 = .ok (.aload_n 1, 1) := dk_43 (dk_at dksJ25_poll_0 23 rfl rfl)
theorem dJ25_poll_24 : decode cJ25_poll 24 = .ok (.aload_n 0, 1) := dk_42 (dk_at dksJ25_poll_1 0 rfl rfl)
theorem dJ25_poll_25 : decode cJ25_poll 25 = .ok (.dup, 1) := dk_89 (dk_at dksJ25_poll_1 1 rfl rfl)
theorem dJ25_poll_26 : decode cJ25_poll 26 = .ok (.getfield 58, 3) := dk_180 0 58 (dk_at dksJ25_poll_1 2 rfl rfl)
theorem dJ25_poll_29 : decode cJ25_poll 29 = .ok (.iconst 1, 1) := dk_4 (dk_at dksJ25_poll_1 5 rfl rfl)
theorem dJ25_poll_30 : decode cJ25_poll 30 = .ok (.isub, 1) := dk_100 (dk_at dksJ25_poll_1 6 rfl rfl)
theorem dJ25_poll_31 : decode cJ25_poll 31 = .ok (.dup_x1, 1) := dk_90 (dk_at dksJ25_poll_1 7 rfl rfl)
theorem dJ25_poll_32 : decode cJ25_poll 32 = .ok (.putfield 58, 3) := dk_181 0 58 (dk_at dksJ25_poll_1 8 rfl rfl)
theorem dJ25_poll_35 : decode cJ25_poll 35 = .ok (.dup, 1) := dk_89 (dk_at dksJ25_poll_1 11 rfl rfl)
theorem dJ25_poll_36 : decode cJ25_poll 36 = .ok (.istore_n 3, 1) := dk_62 (dk_at dksJ25_poll_1 12 rfl rfl)
theorem dJ25_poll_37 : decode cJ25_poll 37 = .ok (.aaload, 1) := dk_50 (dk_at dksJ25_poll_1 13 rfl rfl)
theorem dJ25_poll_38 : decode cJ25_poll 38 = .ok (.astore 4, 2) := dk_58 4 (dk_at dksJ25_poll_1 14 rfl rfl)
theorem dJ25_poll_40 : decode cJ25_poll 40 = .ok (.aload_n 1, 1) := dk_43 (dk_at dksJ25_poll_1 16 rfl rfl)
theorem dJ25_poll_41 : decode cJ25_poll 41 = .ok (.iload_n 3, 1) := dk_29 (dk_at dksJ25_poll_1 17 rfl rfl)
theorem dJ25_poll_42 : decode cJ25_poll 42 = .ok (.aconst_null, 1) := dk_1 (dk_at dksJ25_poll_1 18 rfl rfl)
theorem dJ25_poll_43 : decode cJ25_poll 43 = .ok (.aastore, 1) := dk_83 (dk_at dksJ25_poll_1 19 rfl rfl)
theorem dJ25_poll_44 : decode cJ25_poll 44 = .ok (.iload_n 3, 1) := dk_29 (dk_at dksJ25_poll_1 20 rfl rfl)
theorem dJ25_poll_45 : decode cJ25_poll 45 = .ok (.ifCond .le 34, 3) := dk_158 0 34 (dk_at dksJ25_poll_1 21 rfl rfl)
theorem dJ25_poll_48 : decode cJ25_poll 48 = .ok (.aload_n 0, 1) := dk_42 (dk_at dksJ25_poll_2 0 rfl rfl)
theorem dJ25_poll_49 : decode cJ25_poll 49 = .ok (.getfield 21, 3) := dk_180 0 21 (dk_at dksJ25_poll_2 1 rfl rfl)
theorem dJ25_poll_52 : decode cJ25_poll 52 = .ok (.dup, 1) := dk_89 (dk_at dksJ25_poll_2 4 rfl rfl)
theorem dJ25_poll_53 : decode cJ25_poll 53 = .ok (.astore 5, 2) := dk_58 5 (dk_at dksJ25_poll_2 5 rfl rfl)
theorem dJ25_poll_55 : decode cJ25_poll 55 = .ok (.ifnonnull 14, 3) := dk_199 0 14 (dk_at dksJ25_poll_2 7 rfl rfl)
theorem dJ25_poll_58 : decode cJ25_poll 58 = .ok (.iconst 0, 1) := dk_3 (dk_at dksJ25_poll_2 10 rfl rfl)
theorem dJ25_poll_59 : decode cJ25_poll 59 = .ok (.aload 4, 2) := dk_25 4 (dk_at dksJ25_poll_2 11 rfl rfl)
theorem dJ25_poll_61 : decode cJ25_poll 61 = .ok (.aload_n 1, 1) := dk_43 (dk_at dksJ25_poll_2 13 rfl rfl)
theorem dJ25_poll_62 : decode cJ25_poll 62 = .ok (.iload_n 3, 1) := dk_29 (dk_at dksJ25_poll_2 14 rfl rfl)
theorem dJ25_poll_63 : decode cJ25_poll 63 = .ok (.invokestatic 125, 3) := dk_184 0 125 (dk_at dksJ25_poll_2 15 rfl rfl)
theorem dJ25_poll_66 : decode cJ25_poll 66 = .ok (.goto 13, 3) := dk_167 0 13 (dk_at dksJ25_poll_2 18 rfl rfl)
theorem dJ25_poll_69 : decode cJ25_poll 69 = .ok (.iconst 0, 1) := dk_3 (dk_at dksJ25_poll_2 21 rfl rfl)
theorem dJ25_poll_70 : decode cJ25_poll 70 = .ok (.aload 4, 2) := dk_25 4 (dk_at dksJ25_poll_2 22 rfl rfl)
theorem dJ25_poll_72 : decode cJ25_poll 72 = .ok (.aload_n 1, 1) := dk_43 (dk_at dksJ25_poll_3 0 rfl rfl)
theorem dJ25_poll_73 : decode cJ25_poll 73 = .ok (.iload_n 3, 1) := dk_29 (dk_at dksJ25_poll_3 1 rfl rfl)
theorem dJ25_poll_74 : decode cJ25_poll 74 = .ok (.aload 5, 2) := dk_25 5 (dk_at dksJ25_poll_3 2 rfl rfl)
theorem dJ25_poll_76 : decode cJ25_poll 76 = .ok (.invokestatic 129, 3) := dk_184 0 129 (dk_at dksJ25_poll_3 4 rfl rfl)
theorem dJ25_poll_79 : decode cJ25_poll 79 = .ok (.aload_n 2, 1) := dk_44 (dk_at dksJ25_poll_3 7 rfl rfl)
theorem dJ25_poll_80 : decode cJ25_poll 80 = .ok (.areturn, 1) := dk_176 (dk_at dksJ25_poll_3 8 rfl rfl)
abbrev cJ25_siftDownComparable : ByteArray := prog_58_method_31_code
def yJ25_siftDownComparable : MethodName := ⟨RJ25, "siftDownComparable", "(ILjava/lang/Object;[Ljava/lang/Object;I)V"⟩
def dkwJ25_siftDownComparable_4 : List UInt8 := [25, 4, 83, 177]
abbrev dktJ25_siftDownComparable_4 : List UInt8 := dkwJ25_siftDownComparable_4 ++ []
def dkwJ25_siftDownComparable_3 : List UInt8 := [185, 0, 146, 2, 0, 157, 0, 6, 167, 0, 14, 44, 26, 25, 7, 83, 21, 6, 59, 167, 255, 176, 44, 26]
abbrev dktJ25_siftDownComparable_3 : List UInt8 := dkwJ25_siftDownComparable_3 ++ dktJ25_siftDownComparable_4
def dkwJ25_siftDownComparable_2 : List UInt8 := [21, 8, 50, 185, 0, 146, 2, 0, 158, 0, 12, 44, 21, 8, 89, 54, 6, 50, 58, 7, 25, 4, 25, 7]
abbrev dktJ25_siftDownComparable_2 : List UInt8 := dkwJ25_siftDownComparable_2 ++ dktJ25_siftDownComparable_3
def dkwJ25_siftDownComparable_1 : List UInt8 := [44, 21, 6, 50, 58, 7, 21, 6, 4, 96, 54, 8, 21, 8, 29, 162, 0, 29, 25, 7, 192, 0, 144, 44]
abbrev dktJ25_siftDownComparable_1 : List UInt8 := dkwJ25_siftDownComparable_1 ++ dktJ25_siftDownComparable_2
def dkwJ25_siftDownComparable_0 : List UInt8 := [43, 192, 0, 144, 58, 4, 29, 4, 124, 54, 5, 26, 21, 5, 162, 0, 80, 26, 4, 120, 4, 96, 54, 6]
abbrev dktJ25_siftDownComparable_0 : List UInt8 := dkwJ25_siftDownComparable_0 ++ dktJ25_siftDownComparable_1
theorem dksJ25_siftDownComparable_0 : cJ25_siftDownComparable.data.toList.drop 0 = dktJ25_siftDownComparable_0 := by decide +kernel
theorem dksJ25_siftDownComparable_1 : cJ25_siftDownComparable.data.toList.drop 24 = dktJ25_siftDownComparable_1 := dk_seg dksJ25_siftDownComparable_0 24 rfl rfl
theorem dksJ25_siftDownComparable_2 : cJ25_siftDownComparable.data.toList.drop 48 = dktJ25_siftDownComparable_2 := dk_seg dksJ25_siftDownComparable_1 24 rfl rfl
theorem dksJ25_siftDownComparable_3 : cJ25_siftDownComparable.data.toList.drop 72 = dktJ25_siftDownComparable_3 := dk_seg dksJ25_siftDownComparable_2 24 rfl rfl
theorem dksJ25_siftDownComparable_4 : cJ25_siftDownComparable.data.toList.drop 96 = dktJ25_siftDownComparable_4 := dk_seg dksJ25_siftDownComparable_3 24 rfl rfl
theorem dJ25_siftDownComparable_0 : decode cJ25_siftDownComparable 0 = .ok (.aload_n 1, 1) := dk_43 (dk_at dksJ25_siftDownComparable_0 0 rfl rfl)
theorem dJ25_siftDownComparable_1 : decode cJ25_siftDownComparable 1 = .ok (.checkcast 144, 3) := dk_192 0 144 (dk_at dksJ25_siftDownComparable_0 1 rfl rfl)
theorem dJ25_siftDownComparable_4 : decode cJ25_siftDownComparable 4 = .ok (.astore 4, 2) := dk_58 4 (dk_at dksJ25_siftDownComparable_0 4 rfl rfl)
theorem dJ25_siftDownComparable_6 : decode cJ25_siftDownComparable 6 = .ok (.iload_n 3, 1) := dk_29 (dk_at dksJ25_siftDownComparable_0 6 rfl rfl)
theorem dJ25_siftDownComparable_7 : decode cJ25_siftDownComparable 7 = .ok (.iconst 1, 1) := dk_4 (dk_at dksJ25_siftDownComparable_0 7 rfl rfl)
theorem dJ25_siftDownComparable_8 : decode cJ25_siftDownComparable 8 = .ok (.iushr, 1) := dk_124 (dk_at dksJ25_siftDownComparable_0 8 rfl rfl)
theorem dJ25_siftDownComparable_9 : decode cJ25_siftDownComparable 9 = .ok (.istore 5, 2) := dk_54 5 (dk_at dksJ25_siftDownComparable_0 9 rfl rfl)
theorem dJ25_siftDownComparable_11 : decode cJ25_siftDownComparable 11 = .ok (.iload_n 0, 1) := dk_26 (dk_at dksJ25_siftDownComparable_0 11 rfl rfl)
theorem dJ25_siftDownComparable_12 : decode cJ25_siftDownComparable 12 = .ok (.iload 5, 2) := dk_21 5 (dk_at dksJ25_siftDownComparable_0 12 rfl rfl)
theorem dJ25_siftDownComparable_14 : decode cJ25_siftDownComparable 14 = .ok (.if_icmp .ge 80, 3) := dk_162 0 80 (dk_at dksJ25_siftDownComparable_0 14 rfl rfl)
theorem dJ25_siftDownComparable_17 : decode cJ25_siftDownComparable 17 = .ok (.iload_n 0, 1) := dk_26 (dk_at dksJ25_siftDownComparable_0 17 rfl rfl)
theorem dJ25_siftDownComparable_18 : decode cJ25_siftDownComparable 18 = .ok (.iconst 1, 1) := dk_4 (dk_at dksJ25_siftDownComparable_0 18 rfl rfl)
theorem dJ25_siftDownComparable_19 : decode cJ25_siftDownComparable 19 = .ok (.ishl, 1) := dk_120 (dk_at dksJ25_siftDownComparable_0 19 rfl rfl)
theorem dJ25_siftDownComparable_20 : decode cJ25_siftDownComparable 20 = .ok (.iconst 1, 1) := dk_4 (dk_at dksJ25_siftDownComparable_0 20 rfl rfl)
theorem dJ25_siftDownComparable_21 : decode cJ25_siftDownComparable 21 = .ok (.iadd, 1) := dk_96 (dk_at dksJ25_siftDownComparable_0 21 rfl rfl)
theorem dJ25_siftDownComparable_22 : decode cJ25_siftDownComparable 22 = .ok (.istore 6, 2) := dk_54 6 (dk_at dksJ25_siftDownComparable_0 22 rfl rfl)
theorem dJ25_siftDownComparable_24 : decode cJ25_siftDownComparable 24 = .ok (.aload_n 2, 1) := dk_44 (dk_at dksJ25_siftDownComparable_1 0 rfl rfl)
theorem dJ25_siftDownComparable_25 : decode cJ25_siftDownComparable 25 = .ok (.iload 6, 2) := dk_21 6 (dk_at dksJ25_siftDownComparable_1 1 rfl rfl)
theorem dJ25_siftDownComparable_27 : decode cJ25_siftDownComparable 27 = .ok (.aaload, 1) := dk_50 (dk_at dksJ25_siftDownComparable_1 3 rfl rfl)
theorem dJ25_siftDownComparable_28 : decode cJ25_siftDownComparable 28 = .ok (.astore 7, 2) := dk_58 7 (dk_at dksJ25_siftDownComparable_1 4 rfl rfl)
theorem dJ25_siftDownComparable_30 : decode cJ25_siftDownComparable 30 = .ok (.iload 6, 2) := dk_21 6 (dk_at dksJ25_siftDownComparable_1 6 rfl rfl)
theorem dJ25_siftDownComparable_32 : decode cJ25_siftDownComparable 32 = .ok (.iconst 1, 1) := dk_4 (dk_at dksJ25_siftDownComparable_1 8 rfl rfl)
theorem dJ25_siftDownComparable_33 : decode cJ25_siftDownComparable 33 = .ok (.iadd, 1) := dk_96 (dk_at dksJ25_siftDownComparable_1 9 rfl rfl)
theorem dJ25_siftDownComparable_34 : decode cJ25_siftDownComparable 34 = .ok (.istore 8, 2) := dk_54 8 (dk_at dksJ25_siftDownComparable_1 10 rfl rfl)
theorem dJ25_siftDownComparable_36 : decode cJ25_siftDownComparable 36 = .ok (.iload 8, 2) := dk_21 8 (dk_at dksJ25_siftDownComparable_1 12 rfl rfl)
theorem dJ25_siftDownComparable_38 : decode cJ25_siftDownComparable 38 = .ok (.iload_n 3, 1) := dk_29 (dk_at dksJ25_siftDownComparable_1 14 rfl rfl)
theorem dJ25_siftDownComparable_39 : decode cJ25_siftDownComparable 39 = .ok (.if_icmp .ge 29, 3) := dk_162 0 29 (dk_at dksJ25_siftDownComparable_1 15 rfl rfl)
theorem dJ25_siftDownComparable_42 : decode cJ25_siftDownComparable 42 = .ok (.aload 7, 2) := dk_25 7 (dk_at dksJ25_siftDownComparable_1 18 rfl rfl)
theorem dJ25_siftDownComparable_44 : decode cJ25_siftDownComparable 44 = .ok (.checkcast 144, 3) := dk_192 0 144 (dk_at dksJ25_siftDownComparable_1 20 rfl rfl)
theorem dJ25_siftDownComparable_47 : decode cJ25_siftDownComparable 47 = .ok (.aload_n 2, 1) := dk_44 (dk_at dksJ25_siftDownComparable_1 23 rfl rfl)
theorem dJ25_siftDownComparable_48 : decode cJ25_siftDownComparable 48 = .ok (.iload 8, 2) := dk_21 8 (dk_at dksJ25_siftDownComparable_2 0 rfl rfl)
theorem dJ25_siftDownComparable_50 : decode cJ25_siftDownComparable 50 = .ok (.aaload, 1) := dk_50 (dk_at dksJ25_siftDownComparable_2 2 rfl rfl)
theorem dJ25_siftDownComparable_51 : decode cJ25_siftDownComparable 51 = .ok (.invokeinterface 146 2, 5) := by decide +kernel
theorem dJ25_siftDownComparable_56 : decode cJ25_siftDownComparable 56 = .ok (.ifCond .le 12, 3) := dk_158 0 12 (dk_at dksJ25_siftDownComparable_2 8 rfl rfl)
theorem dJ25_siftDownComparable_59 : decode cJ25_siftDownComparable 59 = .ok (.aload_n 2, 1) := dk_44 (dk_at dksJ25_siftDownComparable_2 11 rfl rfl)
theorem dJ25_siftDownComparable_60 : decode cJ25_siftDownComparable 60 = .ok (.iload 8, 2) := dk_21 8 (dk_at dksJ25_siftDownComparable_2 12 rfl rfl)
theorem dJ25_siftDownComparable_62 : decode cJ25_siftDownComparable 62 = .ok (.dup, 1) := dk_89 (dk_at dksJ25_siftDownComparable_2 14 rfl rfl)
theorem dJ25_siftDownComparable_63 : decode cJ25_siftDownComparable 63 = .ok (.istore 6, 2) := dk_54 6 (dk_at dksJ25_siftDownComparable_2 15 rfl rfl)
theorem dJ25_siftDownComparable_65 : decode cJ25_siftDownComparable 65 = .ok (.aaload, 1) := dk_50 (dk_at dksJ25_siftDownComparable_2 17 rfl rfl)
theorem dJ25_siftDownComparable_66 : decode cJ25_siftDownComparable 66 = .ok (.astore 7, 2) := dk_58 7 (dk_at dksJ25_siftDownComparable_2 18 rfl rfl)
theorem dJ25_siftDownComparable_68 : decode cJ25_siftDownComparable 68 = .ok (.aload 4, 2) := dk_25 4 (dk_at dksJ25_siftDownComparable_2 20 rfl rfl)
theorem dJ25_siftDownComparable_70 : decode cJ25_siftDownComparable 70 = .ok (.aload 7, 2) := dk_25 7 (dk_at dksJ25_siftDownComparable_2 22 rfl rfl)
theorem dJ25_siftDownComparable_72 : decode cJ25_siftDownComparable 72 = .ok (.invokeinterface 146 2, 5) := by decide +kernel
theorem dJ25_siftDownComparable_77 : decode cJ25_siftDownComparable 77 = .ok (.ifCond .gt 6, 3) := dk_157 0 6 (dk_at dksJ25_siftDownComparable_3 5 rfl rfl)
theorem dJ25_siftDownComparable_80 : decode cJ25_siftDownComparable 80 = .ok (.goto 14, 3) := dk_167 0 14 (dk_at dksJ25_siftDownComparable_3 8 rfl rfl)
theorem dJ25_siftDownComparable_83 : decode cJ25_siftDownComparable 83 = .ok (.aload_n 2, 1) := dk_44 (dk_at dksJ25_siftDownComparable_3 11 rfl rfl)
theorem dJ25_siftDownComparable_84 : decode cJ25_siftDownComparable 84 = .ok (.iload_n 0, 1) := dk_26 (dk_at dksJ25_siftDownComparable_3 12 rfl rfl)
theorem dJ25_siftDownComparable_85 : decode cJ25_siftDownComparable 85 = .ok (.aload 7, 2) := dk_25 7 (dk_at dksJ25_siftDownComparable_3 13 rfl rfl)
theorem dJ25_siftDownComparable_87 : decode cJ25_siftDownComparable 87 = .ok (.aastore, 1) := dk_83 (dk_at dksJ25_siftDownComparable_3 15 rfl rfl)
theorem dJ25_siftDownComparable_88 : decode cJ25_siftDownComparable 88 = .ok (.iload 6, 2) := dk_21 6 (dk_at dksJ25_siftDownComparable_3 16 rfl rfl)
theorem dJ25_siftDownComparable_90 : decode cJ25_siftDownComparable 90 = .ok (.istore_n 0, 1) := dk_59 (dk_at dksJ25_siftDownComparable_3 18 rfl rfl)
theorem dJ25_siftDownComparable_91 : decode cJ25_siftDownComparable 91 = .ok (.goto (-80), 3) := dk_167 255 176 (dk_at dksJ25_siftDownComparable_3 19 rfl rfl)
theorem dJ25_siftDownComparable_94 : decode cJ25_siftDownComparable 94 = .ok (.aload_n 2, 1) := dk_44 (dk_at dksJ25_siftDownComparable_3 22 rfl rfl)
theorem dJ25_siftDownComparable_95 : decode cJ25_siftDownComparable 95 = .ok (.iload_n 0, 1) := dk_26 (dk_at dksJ25_siftDownComparable_3 23 rfl rfl)
theorem dJ25_siftDownComparable_96 : decode cJ25_siftDownComparable 96 = .ok (.aload 4, 2) := dk_25 4 (dk_at dksJ25_siftDownComparable_4 0 rfl rfl)
theorem dJ25_siftDownComparable_98 : decode cJ25_siftDownComparable 98 = .ok (.aastore, 1) := dk_83 (dk_at dksJ25_siftDownComparable_4 2 rfl rfl)
theorem dJ25_siftDownComparable_99 : decode cJ25_siftDownComparable 99 = .ok (.return_, 1) := dk_177 (dk_at dksJ25_siftDownComparable_4 3 rfl rfl)
abbrev cJ25_siftDownUsingComparator : ByteArray := prog_58_method_32_code
def yJ25_siftDownUsingComparator : MethodName := ⟨RJ25, "siftDownUsingComparator", "(ILjava/lang/Object;[Ljava/lang/Object;ILjava/util/Comparator;)V"⟩
def dkwJ25_siftDownUsingComparator_4 : List UInt8 := [43, 83, 177]
abbrev dktJ25_siftDownUsingComparator_4 : List UInt8 := dkwJ25_siftDownUsingComparator_4 ++ []
def dkwJ25_siftDownUsingComparator_3 : List UInt8 := [185, 0, 149, 3, 0, 157, 0, 6, 167, 0, 14, 44, 26, 25, 7, 83, 21, 6, 59, 167, 255, 176, 44, 26]
abbrev dktJ25_siftDownUsingComparator_3 : List UInt8 := dkwJ25_siftDownUsingComparator_3 ++ dktJ25_siftDownUsingComparator_4
def dkwJ25_siftDownUsingComparator_2 : List UInt8 := [185, 0, 149, 3, 0, 158, 0, 12, 44, 21, 8, 89, 54, 6, 50, 58, 7, 25, 4, 43, 25, 7]
abbrev dktJ25_siftDownUsingComparator_2 : List UInt8 := dkwJ25_siftDownUsingComparator_2 ++ dktJ25_siftDownUsingComparator_3
def dkwJ25_siftDownUsingComparator_1 : List UInt8 := [21, 6, 4, 96, 54, 8, 21, 8, 29, 162, 0, 28, 25, 4, 25, 7, 44, 21, 8, 50]
abbrev dktJ25_siftDownUsingComparator_1 : List UInt8 := dkwJ25_siftDownUsingComparator_1 ++ dktJ25_siftDownUsingComparator_2
def dkwJ25_siftDownUsingComparator_0 : List UInt8 := [29, 4, 124, 54, 5, 26, 21, 5, 162, 0, 80, 26, 4, 120, 4, 96, 54, 6, 44, 21, 6, 50, 58, 7]
abbrev dktJ25_siftDownUsingComparator_0 : List UInt8 := dkwJ25_siftDownUsingComparator_0 ++ dktJ25_siftDownUsingComparator_1
theorem dksJ25_siftDownUsingComparator_0 : cJ25_siftDownUsingComparator.data.toList.drop 0 = dktJ25_siftDownUsingComparator_0 := by decide +kernel
theorem dksJ25_siftDownUsingComparator_1 : cJ25_siftDownUsingComparator.data.toList.drop 24 = dktJ25_siftDownUsingComparator_1 := dk_seg dksJ25_siftDownUsingComparator_0 24 rfl rfl
theorem dksJ25_siftDownUsingComparator_2 : cJ25_siftDownUsingComparator.data.toList.drop 44 = dktJ25_siftDownUsingComparator_2 := dk_seg dksJ25_siftDownUsingComparator_1 20 rfl rfl
theorem dksJ25_siftDownUsingComparator_3 : cJ25_siftDownUsingComparator.data.toList.drop 66 = dktJ25_siftDownUsingComparator_3 := dk_seg dksJ25_siftDownUsingComparator_2 22 rfl rfl
theorem dksJ25_siftDownUsingComparator_4 : cJ25_siftDownUsingComparator.data.toList.drop 90 = dktJ25_siftDownUsingComparator_4 := dk_seg dksJ25_siftDownUsingComparator_3 24 rfl rfl
theorem dJ25_siftDownUsingComparator_0 : decode cJ25_siftDownUsingComparator 0 = .ok (.iload_n 3, 1) := dk_29 (dk_at dksJ25_siftDownUsingComparator_0 0 rfl rfl)
theorem dJ25_siftDownUsingComparator_1 : decode cJ25_siftDownUsingComparator 1 = .ok (.iconst 1, 1) := dk_4 (dk_at dksJ25_siftDownUsingComparator_0 1 rfl rfl)
theorem dJ25_siftDownUsingComparator_2 : decode cJ25_siftDownUsingComparator 2 = .ok (.iushr, 1) := dk_124 (dk_at dksJ25_siftDownUsingComparator_0 2 rfl rfl)
theorem dJ25_siftDownUsingComparator_3 : decode cJ25_siftDownUsingComparator 3 = .ok (.istore 5, 2) := dk_54 5 (dk_at dksJ25_siftDownUsingComparator_0 3 rfl rfl)
theorem dJ25_siftDownUsingComparator_5 : decode cJ25_siftDownUsingComparator 5 = .ok (.iload_n 0, 1) := dk_26 (dk_at dksJ25_siftDownUsingComparator_0 5 rfl rfl)
theorem dJ25_siftDownUsingComparator_6 : decode cJ25_siftDownUsingComparator 6 = .ok (.iload 5, 2) := dk_21 5 (dk_at dksJ25_siftDownUsingComparator_0 6 rfl rfl)
theorem dJ25_siftDownUsingComparator_8 : decode cJ25_siftDownUsingComparator 8 = .ok (.if_icmp .ge 80, 3) := dk_162 0 80 (dk_at dksJ25_siftDownUsingComparator_0 8 rfl rfl)
theorem dJ25_siftDownUsingComparator_11 : decode cJ25_siftDownUsingComparator 11 = .ok (.iload_n 0, 1) := dk_26 (dk_at dksJ25_siftDownUsingComparator_0 11 rfl rfl)
theorem dJ25_siftDownUsingComparator_12 : decode cJ25_siftDownUsingComparator 12 = .ok (.iconst 1, 1) := dk_4 (dk_at dksJ25_siftDownUsingComparator_0 12 rfl rfl)
theorem dJ25_siftDownUsingComparator_13 : decode cJ25_siftDownUsingComparator 13 = .ok (.ishl, 1) := dk_120 (dk_at dksJ25_siftDownUsingComparator_0 13 rfl rfl)
theorem dJ25_siftDownUsingComparator_14 : decode cJ25_siftDownUsingComparator 14 = .ok (.iconst 1, 1) := dk_4 (dk_at dksJ25_siftDownUsingComparator_0 14 rfl rfl)
theorem dJ25_siftDownUsingComparator_15 : decode cJ25_siftDownUsingComparator 15 = .ok (.iadd, 1) := dk_96 (dk_at dksJ25_siftDownUsingComparator_0 15 rfl rfl)
theorem dJ25_siftDownUsingComparator_16 : decode cJ25_siftDownUsingComparator 16 = .ok (.istore 6, 2) := dk_54 6 (dk_at dksJ25_siftDownUsingComparator_0 16 rfl rfl)
theorem dJ25_siftDownUsingComparator_18 : decode cJ25_siftDownUsingComparator 18 = .ok (.aload_n 2, 1) := dk_44 (dk_at dksJ25_siftDownUsingComparator_0 18 rfl rfl)
theorem dJ25_siftDownUsingComparator_19 : decode cJ25_siftDownUsingComparator 19 = .ok (.iload 6, 2) := dk_21 6 (dk_at dksJ25_siftDownUsingComparator_0 19 rfl rfl)
theorem dJ25_siftDownUsingComparator_21 : decode cJ25_siftDownUsingComparator 21 = .ok (.aaload, 1) := dk_50 (dk_at dksJ25_siftDownUsingComparator_0 21 rfl rfl)
theorem dJ25_siftDownUsingComparator_22 : decode cJ25_siftDownUsingComparator 22 = .ok (.astore 7, 2) := dk_58 7 (dk_at dksJ25_siftDownUsingComparator_0 22 rfl rfl)
theorem dJ25_siftDownUsingComparator_24 : decode cJ25_siftDownUsingComparator 24 = .ok (.iload 6, 2) := dk_21 6 (dk_at dksJ25_siftDownUsingComparator_1 0 rfl rfl)
theorem dJ25_siftDownUsingComparator_26 : decode cJ25_siftDownUsingComparator 26 = .ok (.iconst 1, 1) := dk_4 (dk_at dksJ25_siftDownUsingComparator_1 2 rfl rfl)
theorem dJ25_siftDownUsingComparator_27 : decode cJ25_siftDownUsingComparator 27 = .ok (.iadd, 1) := dk_96 (dk_at dksJ25_siftDownUsingComparator_1 3 rfl rfl)
theorem dJ25_siftDownUsingComparator_28 : decode cJ25_siftDownUsingComparator 28 = .ok (.istore 8, 2) := dk_54 8 (dk_at dksJ25_siftDownUsingComparator_1 4 rfl rfl)
theorem dJ25_siftDownUsingComparator_30 : decode cJ25_siftDownUsingComparator 30 = .ok (.iload 8, 2) := dk_21 8 (dk_at dksJ25_siftDownUsingComparator_1 6 rfl rfl)
theorem dJ25_siftDownUsingComparator_32 : decode cJ25_siftDownUsingComparator 32 = .ok (.iload_n 3, 1) := dk_29 (dk_at dksJ25_siftDownUsingComparator_1 8 rfl rfl)
theorem dJ25_siftDownUsingComparator_33 : decode cJ25_siftDownUsingComparator 33 = .ok (.if_icmp .ge 28, 3) := dk_162 0 28 (dk_at dksJ25_siftDownUsingComparator_1 9 rfl rfl)
theorem dJ25_siftDownUsingComparator_36 : decode cJ25_siftDownUsingComparator 36 = .ok (.aload 4, 2) := dk_25 4 (dk_at dksJ25_siftDownUsingComparator_1 12 rfl rfl)
theorem dJ25_siftDownUsingComparator_38 : decode cJ25_siftDownUsingComparator 38 = .ok (.aload 7, 2) := dk_25 7 (dk_at dksJ25_siftDownUsingComparator_1 14 rfl rfl)
theorem dJ25_siftDownUsingComparator_40 : decode cJ25_siftDownUsingComparator 40 = .ok (.aload_n 2, 1) := dk_44 (dk_at dksJ25_siftDownUsingComparator_1 16 rfl rfl)
theorem dJ25_siftDownUsingComparator_41 : decode cJ25_siftDownUsingComparator 41 = .ok (.iload 8, 2) := dk_21 8 (dk_at dksJ25_siftDownUsingComparator_1 17 rfl rfl)
theorem dJ25_siftDownUsingComparator_43 : decode cJ25_siftDownUsingComparator 43 = .ok (.aaload, 1) := dk_50 (dk_at dksJ25_siftDownUsingComparator_1 19 rfl rfl)
theorem dJ25_siftDownUsingComparator_44 : decode cJ25_siftDownUsingComparator 44 = .ok (.invokeinterface 149 3, 5) := by decide +kernel
theorem dJ25_siftDownUsingComparator_49 : decode cJ25_siftDownUsingComparator 49 = .ok (.ifCond .le 12, 3) := dk_158 0 12 (dk_at dksJ25_siftDownUsingComparator_2 5 rfl rfl)
theorem dJ25_siftDownUsingComparator_52 : decode cJ25_siftDownUsingComparator 52 = .ok (.aload_n 2, 1) := dk_44 (dk_at dksJ25_siftDownUsingComparator_2 8 rfl rfl)
theorem dJ25_siftDownUsingComparator_53 : decode cJ25_siftDownUsingComparator 53 = .ok (.iload 8, 2) := dk_21 8 (dk_at dksJ25_siftDownUsingComparator_2 9 rfl rfl)
theorem dJ25_siftDownUsingComparator_55 : decode cJ25_siftDownUsingComparator 55 = .ok (.dup, 1) := dk_89 (dk_at dksJ25_siftDownUsingComparator_2 11 rfl rfl)
theorem dJ25_siftDownUsingComparator_56 : decode cJ25_siftDownUsingComparator 56 = .ok (.istore 6, 2) := dk_54 6 (dk_at dksJ25_siftDownUsingComparator_2 12 rfl rfl)
theorem dJ25_siftDownUsingComparator_58 : decode cJ25_siftDownUsingComparator 58 = .ok (.aaload, 1) := dk_50 (dk_at dksJ25_siftDownUsingComparator_2 14 rfl rfl)
theorem dJ25_siftDownUsingComparator_59 : decode cJ25_siftDownUsingComparator 59 = .ok (.astore 7, 2) := dk_58 7 (dk_at dksJ25_siftDownUsingComparator_2 15 rfl rfl)
theorem dJ25_siftDownUsingComparator_61 : decode cJ25_siftDownUsingComparator 61 = .ok (.aload 4, 2) := dk_25 4 (dk_at dksJ25_siftDownUsingComparator_2 17 rfl rfl)
theorem dJ25_siftDownUsingComparator_63 : decode cJ25_siftDownUsingComparator 63 = .ok (.aload_n 1, 1) := dk_43 (dk_at dksJ25_siftDownUsingComparator_2 19 rfl rfl)
theorem dJ25_siftDownUsingComparator_64 : decode cJ25_siftDownUsingComparator 64 = .ok (.aload 7, 2) := dk_25 7 (dk_at dksJ25_siftDownUsingComparator_2 20 rfl rfl)
theorem dJ25_siftDownUsingComparator_66 : decode cJ25_siftDownUsingComparator 66 = .ok (.invokeinterface 149 3, 5) := by decide +kernel
theorem dJ25_siftDownUsingComparator_71 : decode cJ25_siftDownUsingComparator 71 = .ok (.ifCond .gt 6, 3) := dk_157 0 6 (dk_at dksJ25_siftDownUsingComparator_3 5 rfl rfl)
theorem dJ25_siftDownUsingComparator_74 : decode cJ25_siftDownUsingComparator 74 = .ok (.goto 14, 3) := dk_167 0 14 (dk_at dksJ25_siftDownUsingComparator_3 8 rfl rfl)
theorem dJ25_siftDownUsingComparator_77 : decode cJ25_siftDownUsingComparator 77 = .ok (.aload_n 2, 1) := dk_44 (dk_at dksJ25_siftDownUsingComparator_3 11 rfl rfl)
theorem dJ25_siftDownUsingComparator_78 : decode cJ25_siftDownUsingComparator 78 = .ok (.iload_n 0, 1) := dk_26 (dk_at dksJ25_siftDownUsingComparator_3 12 rfl rfl)
theorem dJ25_siftDownUsingComparator_79 : decode cJ25_siftDownUsingComparator 79 = .ok (.aload 7, 2) := dk_25 7 (dk_at dksJ25_siftDownUsingComparator_3 13 rfl rfl)
theorem dJ25_siftDownUsingComparator_81 : decode cJ25_siftDownUsingComparator 81 = .ok (.aastore, 1) := dk_83 (dk_at dksJ25_siftDownUsingComparator_3 15 rfl rfl)
theorem dJ25_siftDownUsingComparator_82 : decode cJ25_siftDownUsingComparator 82 = .ok (.iload 6, 2) := dk_21 6 (dk_at dksJ25_siftDownUsingComparator_3 16 rfl rfl)
theorem dJ25_siftDownUsingComparator_84 : decode cJ25_siftDownUsingComparator 84 = .ok (.istore_n 0, 1) := dk_59 (dk_at dksJ25_siftDownUsingComparator_3 18 rfl rfl)
theorem dJ25_siftDownUsingComparator_85 : decode cJ25_siftDownUsingComparator 85 = .ok (.goto (-80), 3) := dk_167 255 176 (dk_at dksJ25_siftDownUsingComparator_3 19 rfl rfl)
theorem dJ25_siftDownUsingComparator_88 : decode cJ25_siftDownUsingComparator 88 = .ok (.aload_n 2, 1) := dk_44 (dk_at dksJ25_siftDownUsingComparator_3 22 rfl rfl)
theorem dJ25_siftDownUsingComparator_89 : decode cJ25_siftDownUsingComparator 89 = .ok (.iload_n 0, 1) := dk_26 (dk_at dksJ25_siftDownUsingComparator_3 23 rfl rfl)
theorem dJ25_siftDownUsingComparator_90 : decode cJ25_siftDownUsingComparator 90 = .ok (.aload_n 1, 1) := dk_43 (dk_at dksJ25_siftDownUsingComparator_4 0 rfl rfl)
theorem dJ25_siftDownUsingComparator_91 : decode cJ25_siftDownUsingComparator 91 = .ok (.aastore, 1) := dk_83 (dk_at dksJ25_siftDownUsingComparator_4 1 rfl rfl)
theorem dJ25_siftDownUsingComparator_92 : decode cJ25_siftDownUsingComparator 92 = .ok (.return_, 1) := dk_177 (dk_at dksJ25_siftDownUsingComparator_4 2 rfl rfl)
theorem q110 : (Jvm.Cond.initialized "java/util/PriorityQueue") ∈ lw_all := lw_g (lw_at lw_m1 35 rfl) rfl
theorem q221 : (Jvm.Cond.selects "java/util/PriorityQueue" ({ cls := "java/lang/Object", name := "getClass", desc := "()Ljava/lang/Class;" } : Jvm.MethodName) ({ cls := "java/lang/Object", name := "getClass", desc := "()Ljava/lang/Class;" } : Jvm.MethodName)) ∈ lw_all := lw_g (lw_at lw_m1 146 rfl) rfl
theorem q1338 : (Jvm.Cond.instantiable "java/util/PriorityQueue" (4 : Nat)) ∈ lw_all := lw_g (lw_at lw_m6 63 rfl) rfl
theorem q1350 : (Jvm.Cond.instanceMethod ({ cls := "java/util/PriorityQueue", name := "<init>", desc := "(Ljava/util/Comparator;)V" } : Jvm.MethodName)) ∈ lw_all := lw_g (lw_at lw_m6 75 rfl) rfl
theorem q1351 : (Jvm.Cond.code ({ cls := "java/util/PriorityQueue", name := "<init>", desc := "(Ljava/util/Comparator;)V" } : Jvm.MethodName) prog_58_method_3_code (2 : Nat) (Option.none : Option Jvm.ClassFile.FieldType)) ∈ lw_all := lw_g (lw_at lw_m6 76 rfl) rfl
theorem q1352 : (Jvm.Cond.methodLink "java/util/PriorityQueue" (3 : Nat) ({ cls := "java/util/PriorityQueue", name := "<init>", desc := "(ILjava/util/Comparator;)V" } : Jvm.MethodName)) ∈ lw_all := lw_g (lw_at lw_m6 77 rfl) rfl
theorem q1353 : (Jvm.Cond.instanceMethod ({ cls := "java/util/PriorityQueue", name := "<init>", desc := "(ILjava/util/Comparator;)V" } : Jvm.MethodName)) ∈ lw_all := lw_g (lw_at lw_m6 78 rfl) rfl
theorem q1354 : (Jvm.Cond.code ({ cls := "java/util/PriorityQueue", name := "<init>", desc := "(ILjava/util/Comparator;)V" } : Jvm.MethodName) prog_58_method_4_code (3 : Nat) (Option.none : Option Jvm.ClassFile.FieldType)) ∈ lw_all := lw_g (lw_at lw_m6 79 rfl) rfl
theorem q1355 : (Jvm.Cond.methodLink "java/util/PriorityQueue" (7 : Nat) ({ cls := "java/util/AbstractQueue", name := "<init>", desc := "()V" } : Jvm.MethodName)) ∈ lw_all := lw_g (lw_at lw_m6 80 rfl) rfl
theorem q1359 : (Jvm.Cond.classLink "java/util/PriorityQueue" (12 : Nat) "java/lang/IllegalArgumentException") ∈ lw_all := lw_g (lw_at lw_m6 84 rfl) rfl
theorem q1360 : (Jvm.Cond.methodLink "java/util/PriorityQueue" (14 : Nat) ({ cls := "java/lang/IllegalArgumentException", name := "<init>", desc := "()V" } : Jvm.MethodName)) ∈ lw_all := lw_g (lw_at lw_m6 85 rfl) rfl
theorem q1361 : (Jvm.Cond.classLink "java/util/PriorityQueue" (15 : Nat) "java/lang/Object") ∈ lw_all := lw_g (lw_at lw_m6 86 rfl) rfl
theorem q1362 : (Jvm.Cond.fieldLink "java/util/PriorityQueue" (17 : Nat) "java/util/PriorityQueue" "queue" "[Ljava/lang/Object;") ∈ lw_all := lw_g (lw_at lw_m6 87 rfl) rfl
theorem q1363 : (Jvm.Cond.fieldLink "java/util/PriorityQueue" (58 : Nat) "java/util/PriorityQueue" "size" "I") ∈ lw_all := lw_g (lw_at lw_m6 88 rfl) rfl
theorem q1364 : (Jvm.Cond.fieldLink "java/util/PriorityQueue" (21 : Nat) "java/util/PriorityQueue" "comparator" "Ljava/util/Comparator;") ∈ lw_all := lw_g (lw_at lw_m6 89 rfl) rfl
theorem q1365 : (Jvm.Cond.fieldLink "java/util/PriorityQueue" (93 : Nat) "java/util/PriorityQueue" "modCount" "I") ∈ lw_all := lw_g (lw_at lw_m6 90 rfl) rfl
theorem q1366 : (Jvm.Cond.lays "java/util/PriorityQueue" "java/util/PriorityQueue" "queue" "[Ljava/lang/Object;") ∈ lw_all := lw_g (lw_at lw_m6 91 rfl) rfl
theorem q1367 : (Jvm.Cond.soleField "java/util/PriorityQueue" "queue") ∈ lw_all := lw_g (lw_at lw_m6 92 rfl) rfl
theorem q1368 : (Jvm.Cond.lays "java/util/PriorityQueue" "java/util/PriorityQueue" "size" "I") ∈ lw_all := lw_g (lw_at lw_m6 93 rfl) rfl
theorem q1369 : (Jvm.Cond.soleField "java/util/PriorityQueue" "size") ∈ lw_all := lw_g (lw_at lw_m6 94 rfl) rfl
theorem q1370 : (Jvm.Cond.laysFinal "java/util/PriorityQueue" "java/util/PriorityQueue" "comparator" "Ljava/util/Comparator;") ∈ lw_all := lw_g (lw_at lw_m6 95 rfl) rfl
theorem q1371 : (Jvm.Cond.soleField "java/util/PriorityQueue" "comparator") ∈ lw_all := lw_g (lw_at lw_m6 96 rfl) rfl
theorem q1372 : (Jvm.Cond.lays "java/util/PriorityQueue" "java/util/PriorityQueue" "modCount" "I") ∈ lw_all := lw_g (lw_at lw_m6 97 rfl) rfl
theorem q1373 : (Jvm.Cond.soleField "java/util/PriorityQueue" "modCount") ∈ lw_all := lw_g (lw_at lw_m6 98 rfl) rfl
theorem q1374 : (Jvm.Cond.superclass "java/util/PriorityQueue" "java/util/AbstractQueue") ∈ lw_all := lw_g (lw_at lw_m6 99 rfl) rfl
theorem q1392 : (Jvm.Cond.instanceMethod ({ cls := "java/util/PriorityQueue", name := "add", desc := "(Ljava/lang/Object;)Z" } : Jvm.MethodName)) ∈ lw_all := lw_g (lw_at lw_m6 117 rfl) rfl
theorem q1393 : (Jvm.Cond.selects "java/util/PriorityQueue" ({ cls := "java/util/PriorityQueue", name := "add", desc := "(Ljava/lang/Object;)Z" } : Jvm.MethodName) ({ cls := "java/util/PriorityQueue", name := "add", desc := "(Ljava/lang/Object;)Z" } : Jvm.MethodName)) ∈ lw_all := lw_g (lw_at lw_m6 118 rfl) rfl
theorem q1394 : (Jvm.Cond.code ({ cls := "java/util/PriorityQueue", name := "add", desc := "(Ljava/lang/Object;)Z" } : Jvm.MethodName) prog_58_method_13_code (2 : Nat) (Option.some Jvm.ClassFile.FieldType.boolean)) ∈ lw_all := lw_g (lw_at lw_m6 119 rfl) rfl
theorem q1395 : (Jvm.Cond.methodLink "java/util/PriorityQueue" (89 : Nat) ({ cls := "java/util/PriorityQueue", name := "offer", desc := "(Ljava/lang/Object;)Z" } : Jvm.MethodName)) ∈ lw_all := lw_g (lw_at lw_m6 120 rfl) rfl
theorem q1396 : (Jvm.Cond.instanceMethod ({ cls := "java/util/PriorityQueue", name := "offer", desc := "(Ljava/lang/Object;)Z" } : Jvm.MethodName)) ∈ lw_all := lw_g (lw_at lw_m6 121 rfl) rfl
theorem q1397 : (Jvm.Cond.selects "java/util/PriorityQueue" ({ cls := "java/util/PriorityQueue", name := "offer", desc := "(Ljava/lang/Object;)Z" } : Jvm.MethodName) ({ cls := "java/util/PriorityQueue", name := "offer", desc := "(Ljava/lang/Object;)Z" } : Jvm.MethodName)) ∈ lw_all := lw_g (lw_at lw_m6 122 rfl) rfl
theorem q1398 : (Jvm.Cond.code ({ cls := "java/util/PriorityQueue", name := "offer", desc := "(Ljava/lang/Object;)Z" } : Jvm.MethodName) prog_58_method_14_code (3 : Nat) (Option.some Jvm.ClassFile.FieldType.boolean)) ∈ lw_all := lw_g (lw_at lw_m6 123 rfl) rfl
theorem q1399 : (Jvm.Cond.methodLink "java/util/PriorityQueue" (96 : Nat) ({ cls := "java/util/PriorityQueue", name := "grow", desc := "(I)V" } : Jvm.MethodName)) ∈ lw_all := lw_g (lw_at lw_m6 124 rfl) rfl
theorem q1400 : (Jvm.Cond.privateMethod ({ cls := "java/util/PriorityQueue", name := "grow", desc := "(I)V" } : Jvm.MethodName)) ∈ lw_tbl := lw_at lw_m6 125 rfl
theorem q1401 : (Jvm.Cond.instanceMethod ({ cls := "java/util/PriorityQueue", name := "grow", desc := "(I)V" } : Jvm.MethodName)) ∈ lw_all := lw_g (lw_at lw_m6 126 rfl) rfl
theorem q1402 : (Jvm.Cond.code ({ cls := "java/util/PriorityQueue", name := "grow", desc := "(I)V" } : Jvm.MethodName) prog_58_method_12_code (4 : Nat) (Option.none : Option Jvm.ClassFile.FieldType)) ∈ lw_all := lw_g (lw_at lw_m6 127 rfl) rfl
theorem q1403 : (Jvm.Cond.methodLink "java/util/PriorityQueue" (80 : Nat) ({ cls := "jdk/internal/util/ArraysSupport", name := "newLength", desc := "(III)I" } : Jvm.MethodName)) ∈ lw_all := lw_g (lw_at lw_m6 128 rfl) rfl
theorem q1404 : (Jvm.Cond.methodLink "java/util/PriorityQueue" (86 : Nat) ({ cls := "java/util/Arrays", name := "copyOf", desc := "([Ljava/lang/Object;I)[Ljava/lang/Object;" } : Jvm.MethodName)) ∈ lw_all := lw_g (lw_at lw_m6 129 rfl) rfl
theorem q1405 : (Jvm.Cond.methodLink "java/util/PriorityQueue" (100 : Nat) ({ cls := "java/util/PriorityQueue", name := "siftUp", desc := "(ILjava/lang/Object;)V" } : Jvm.MethodName)) ∈ lw_all := lw_g (lw_at lw_m6 130 rfl) rfl
theorem q1406 : (Jvm.Cond.privateMethod ({ cls := "java/util/PriorityQueue", name := "siftUp", desc := "(ILjava/lang/Object;)V" } : Jvm.MethodName)) ∈ lw_tbl := lw_at lw_m6 131 rfl
theorem q1407 : (Jvm.Cond.instanceMethod ({ cls := "java/util/PriorityQueue", name := "siftUp", desc := "(ILjava/lang/Object;)V" } : Jvm.MethodName)) ∈ lw_all := lw_g (lw_at lw_m6 132 rfl) rfl
theorem q1408 : (Jvm.Cond.code ({ cls := "java/util/PriorityQueue", name := "siftUp", desc := "(ILjava/lang/Object;)V" } : Jvm.MethodName) prog_58_method_27_code (3 : Nat) (Option.none : Option Jvm.ClassFile.FieldType)) ∈ lw_all := lw_g (lw_at lw_m6 133 rfl) rfl
theorem q1409 : (Jvm.Cond.methodLink "java/util/PriorityQueue" (136 : Nat) ({ cls := "java/util/PriorityQueue", name := "siftUpUsingComparator", desc := "(ILjava/lang/Object;[Ljava/lang/Object;Ljava/util/Comparator;)V" } : Jvm.MethodName)) ∈ lw_all := lw_g (lw_at lw_m6 134 rfl) rfl
theorem q1410 : (Jvm.Cond.static ({ cls := "java/util/PriorityQueue", name := "siftUpUsingComparator", desc := "(ILjava/lang/Object;[Ljava/lang/Object;Ljava/util/Comparator;)V" } : Jvm.MethodName)) ∈ lw_all := lw_g (lw_at lw_m6 135 rfl) rfl
theorem q1411 : (Jvm.Cond.code ({ cls := "java/util/PriorityQueue", name := "siftUpUsingComparator", desc := "(ILjava/lang/Object;[Ljava/lang/Object;Ljava/util/Comparator;)V" } : Jvm.MethodName) prog_58_method_29_code (6 : Nat) (Option.none : Option Jvm.ClassFile.FieldType)) ∈ lw_all := lw_g (lw_at lw_m6 136 rfl) rfl
theorem q1412 : (Jvm.Cond.interfaceEntry "java/util/PriorityQueue" (149 : Nat)) ∈ lw_tbl := lw_at lw_m6 137 rfl
theorem q1413 : (Jvm.Cond.methodLink "java/util/PriorityQueue" (149 : Nat) ({ cls := "java/util/Comparator", name := "compare", desc := "(Ljava/lang/Object;Ljava/lang/Object;)I" } : Jvm.MethodName)) ∈ lw_all := lw_g (lw_at lw_m6 138 rfl) rfl
theorem q1436 : (Jvm.Cond.methodLink "java/util/PriorityQueue" (140 : Nat) ({ cls := "java/util/PriorityQueue", name := "siftUpComparable", desc := "(ILjava/lang/Object;[Ljava/lang/Object;)V" } : Jvm.MethodName)) ∈ lw_all := lw_g (lw_at lw_m6 161 rfl) rfl
theorem q1437 : (Jvm.Cond.static ({ cls := "java/util/PriorityQueue", name := "siftUpComparable", desc := "(ILjava/lang/Object;[Ljava/lang/Object;)V" } : Jvm.MethodName)) ∈ lw_all := lw_g (lw_at lw_m6 162 rfl) rfl
theorem q1438 : (Jvm.Cond.code ({ cls := "java/util/PriorityQueue", name := "siftUpComparable", desc := "(ILjava/lang/Object;[Ljava/lang/Object;)V" } : Jvm.MethodName) prog_58_method_28_code (6 : Nat) (Option.none : Option Jvm.ClassFile.FieldType)) ∈ lw_all := lw_g (lw_at lw_m6 163 rfl) rfl
theorem q1439 : (Jvm.Cond.classLink "java/util/PriorityQueue" (144 : Nat) "java/lang/Comparable") ∈ lw_all := lw_g (lw_at lw_m6 164 rfl) rfl
theorem q1440 : (Jvm.Cond.interfaceEntry "java/util/PriorityQueue" (146 : Nat)) ∈ lw_tbl := lw_at lw_m6 165 rfl
theorem q1441 : (Jvm.Cond.methodLink "java/util/PriorityQueue" (146 : Nat) ({ cls := "java/lang/Comparable", name := "compareTo", desc := "(Ljava/lang/Object;)I" } : Jvm.MethodName)) ∈ lw_all := lw_g (lw_at lw_m6 166 rfl) rfl
theorem q1636 : (Jvm.Cond.sameMethod "java/util/PriorityQueue" "java/util/AbstractCollection" "isEmpty" "()Z") ∈ lw_all := lw_g (lw_at lw_m7 121 rfl) rfl
theorem q1638 : (Jvm.Cond.selects "java/util/PriorityQueue" ({ cls := "java/util/PriorityQueue", name := "isEmpty", desc := "()Z" } : Jvm.MethodName) ({ cls := "java/util/AbstractCollection", name := "isEmpty", desc := "()Z" } : Jvm.MethodName)) ∈ lw_all := lw_g (lw_at lw_m7 123 rfl) rfl
theorem q1646 : (Jvm.Cond.selects "java/util/PriorityQueue" ({ cls := "java/util/AbstractCollection", name := "size", desc := "()I" } : Jvm.MethodName) ({ cls := "java/util/PriorityQueue", name := "size", desc := "()I" } : Jvm.MethodName)) ∈ lw_all := lw_g (lw_at lw_m7 131 rfl) rfl
theorem q1647 : (Jvm.Cond.instanceMethod ({ cls := "java/util/PriorityQueue", name := "size", desc := "()I" } : Jvm.MethodName)) ∈ lw_all := lw_g (lw_at lw_m7 132 rfl) rfl
theorem q1648 : (Jvm.Cond.code ({ cls := "java/util/PriorityQueue", name := "size", desc := "()I" } : Jvm.MethodName) prog_58_method_23_code (1 : Nat) (Option.some Jvm.ClassFile.FieldType.int)) ∈ lw_all := lw_g (lw_at lw_m7 133 rfl) rfl
theorem q1662 : (Jvm.Cond.instanceMethod ({ cls := "java/util/PriorityQueue", name := "poll", desc := "()Ljava/lang/Object;" } : Jvm.MethodName)) ∈ lw_all := lw_g (lw_at lw_m7 147 rfl) rfl
theorem q1663 : (Jvm.Cond.selects "java/util/PriorityQueue" ({ cls := "java/util/PriorityQueue", name := "poll", desc := "()Ljava/lang/Object;" } : Jvm.MethodName) ({ cls := "java/util/PriorityQueue", name := "poll", desc := "()Ljava/lang/Object;" } : Jvm.MethodName)) ∈ lw_all := lw_g (lw_at lw_m7 148 rfl) rfl
theorem q1664 : (Jvm.Cond.code ({ cls := "java/util/PriorityQueue", name := "poll", desc := "()Ljava/lang/Object;" } : Jvm.MethodName) prog_58_method_25_code (6 : Nat) (Option.some (Jvm.ClassFile.FieldType.object "java/lang/Object"))) ∈ lw_all := lw_g (lw_at lw_m7 149 rfl) rfl
theorem q1665 : (Jvm.Cond.methodLink "java/util/PriorityQueue" (125 : Nat) ({ cls := "java/util/PriorityQueue", name := "siftDownComparable", desc := "(ILjava/lang/Object;[Ljava/lang/Object;I)V" } : Jvm.MethodName)) ∈ lw_all := lw_g (lw_at lw_m7 150 rfl) rfl
theorem q1666 : (Jvm.Cond.static ({ cls := "java/util/PriorityQueue", name := "siftDownComparable", desc := "(ILjava/lang/Object;[Ljava/lang/Object;I)V" } : Jvm.MethodName)) ∈ lw_all := lw_g (lw_at lw_m7 151 rfl) rfl
theorem q1667 : (Jvm.Cond.code ({ cls := "java/util/PriorityQueue", name := "siftDownComparable", desc := "(ILjava/lang/Object;[Ljava/lang/Object;I)V" } : Jvm.MethodName) prog_58_method_31_code (9 : Nat) (Option.none : Option Jvm.ClassFile.FieldType)) ∈ lw_all := lw_g (lw_at lw_m7 152 rfl) rfl
theorem q1668 : (Jvm.Cond.methodLink "java/util/PriorityQueue" (129 : Nat) ({ cls := "java/util/PriorityQueue", name := "siftDownUsingComparator", desc := "(ILjava/lang/Object;[Ljava/lang/Object;ILjava/util/Comparator;)V" } : Jvm.MethodName)) ∈ lw_all := lw_g (lw_at lw_m7 153 rfl) rfl
theorem q1669 : (Jvm.Cond.static ({ cls := "java/util/PriorityQueue", name := "siftDownUsingComparator", desc := "(ILjava/lang/Object;[Ljava/lang/Object;ILjava/util/Comparator;)V" } : Jvm.MethodName)) ∈ lw_all := lw_g (lw_at lw_m7 154 rfl) rfl
theorem q1670 : (Jvm.Cond.code ({ cls := "java/util/PriorityQueue", name := "siftDownUsingComparator", desc := "(ILjava/lang/Object;[Ljava/lang/Object;ILjava/util/Comparator;)V" } : Jvm.MethodName) prog_58_method_32_code (9 : Nat) (Option.none : Option Jvm.ClassFile.FieldType)) ∈ lw_all := lw_g (lw_at lw_m7 155 rfl) rfl
theorem q2428 : (Jvm.Cond.castable "java/util/PriorityQueue" "java/lang/Object") ∈ lw_tbl := lw_at lw_m10 193 rfl
theorem in_J25 : ∀ w ∈ wsJ250, w ∈ lw_all := lw_in wsJ250 [1366, 1368, 1370, 1372] (by decide +kernel) (by decide +kernel)

/-! java/util/AbstractMap -/
set_option maxRecDepth 100000
def RJ28 : String := "java/util/AbstractMap"
abbrev cJ28_init : ByteArray := prog_41_method_1_code
def yJ28_init : MethodName := ⟨RJ28, "<init>", "()V"⟩
theorem dJ28_init_0 : decode cJ28_init 0 = .ok (.aload_n 0, 1) := by decide +kernel
theorem dJ28_init_1 : decode cJ28_init 1 = .ok (.invokespecial 1, 3) := by decide +kernel
theorem dJ28_init_4 : decode cJ28_init 4 = .ok (.return_, 1) := by decide +kernel
theorem q116 : (Jvm.Cond.initialized "java/util/AbstractMap") ∈ lw_all := lw_g (lw_at lw_m1 41 rfl) rfl
theorem q1688 : (Jvm.Cond.instanceMethod ({ cls := "java/util/AbstractMap", name := "<init>", desc := "()V" } : Jvm.MethodName)) ∈ lw_all := lw_g (lw_at lw_m7 173 rfl) rfl
theorem q1689 : (Jvm.Cond.code ({ cls := "java/util/AbstractMap", name := "<init>", desc := "()V" } : Jvm.MethodName) prog_41_method_1_code (1 : Nat) (Option.none : Option Jvm.ClassFile.FieldType)) ∈ lw_all := lw_g (lw_at lw_m7 174 rfl) rfl
theorem q1690 : (Jvm.Cond.methodLink "java/util/AbstractMap" (1 : Nat) ({ cls := "java/lang/Object", name := "<init>", desc := "()V" } : Jvm.MethodName)) ∈ lw_all := lw_g (lw_at lw_m7 175 rfl) rfl
theorem q1712 : (Jvm.Cond.soleField "java/util/AbstractMap" "keySet") ∈ lw_all := lw_g (lw_at lw_m7 197 rfl) rfl
theorem q1714 : (Jvm.Cond.soleField "java/util/AbstractMap" "values") ∈ lw_all := lw_g (lw_at lw_m7 199 rfl) rfl

/-! java/util/TreeMap -/
set_option maxRecDepth 100000
def RJ29 : String := "java/util/TreeMap"
def TJ29 : u_T := fun k => match k with
  | 0 => ("java/util/AbstractMap", "keySet", "Ljava/util/Set;", false)
  | 1 => ("java/util/AbstractMap", "values", "Ljava/util/Collection;", false)
  | 2 => ("java/util/TreeMap", "comparator", "Ljava/util/Comparator;", true)
  | 3 => ("java/util/TreeMap", "root", "Ljava/util/TreeMap$Entry;", false)
  | 4 => ("java/util/TreeMap", "size", "I", false)
  | 5 => ("java/util/TreeMap", "modCount", "I", false)
  | 6 => ("java/util/TreeMap", "entrySet", "Ljava/util/TreeMap$EntrySet;", false)
  | 7 => ("java/util/TreeMap", "navigableKeySet", "Ljava/util/TreeMap$KeySet;", false)
  | _ => ("java/util/TreeMap", "descendingMap", "Ljava/util/NavigableMap;", false)
def tyJ29 : Nat → FieldType := fun k => match k with
  | 0 => .object "java/util/Set"
  | 1 => .object "java/util/Collection"
  | 2 => .object "java/util/Comparator"
  | 3 => .object "java/util/TreeMap$Entry"
  | 4 => .int
  | 5 => .int
  | 6 => .object "java/util/TreeMap$EntrySet"
  | 7 => .object "java/util/TreeMap$KeySet"
  | _ => .object "java/util/NavigableMap"
abbrev wsJ290 : List Cond := u_ws RJ29 TJ29 9
theorem nmJ29 : ∀ a, a < 9 → ∀ b, b < 9 → a ≠ b → (TJ29 a).2.1 ≠ (TJ29 b).2.1 := by decide +kernel
theorem tyJ29_ok : ∀ k, k < 9 → parseFieldDescriptor (TJ29 k).2.2.1 = some (tyJ29 k) := by decide +kernel
abbrev cJ29_successor : ByteArray := prog_67_method_74_code
def yJ29_successor : MethodName := ⟨RJ29, "successor", "(Ljava/util/TreeMap$Entry;)Ljava/util/TreeMap$Entry;"⟩
def dkwJ29_successor_2 : List UInt8 := [44, 43, 180, 0, 114, 166, 0, 13, 43, 77, 43, 180, 0, 124, 76, 167, 255, 237, 43, 176]
abbrev dktJ29_successor_2 : List UInt8 := dkwJ29_successor_2 ++ []
def dkwJ29_successor_1 : List UInt8 := [198, 0, 11, 43, 180, 0, 111, 76, 167, 255, 244, 43, 176, 42, 180, 0, 124, 76, 42, 77, 43, 198, 0, 21]
abbrev dktJ29_successor_1 : List UInt8 := dkwJ29_successor_1 ++ dktJ29_successor_2
def dkwJ29_successor_0 : List UInt8 := [42, 199, 0, 5, 1, 176, 42, 180, 0, 114, 198, 0, 25, 42, 180, 0, 114, 76, 43, 180, 0, 111]
abbrev dktJ29_successor_0 : List UInt8 := dkwJ29_successor_0 ++ dktJ29_successor_1
theorem dksJ29_successor_0 : cJ29_successor.data.toList.drop 0 = dktJ29_successor_0 := by decide +kernel
theorem dksJ29_successor_1 : cJ29_successor.data.toList.drop 22 = dktJ29_successor_1 := dk_seg dksJ29_successor_0 22 rfl rfl
theorem dksJ29_successor_2 : cJ29_successor.data.toList.drop 46 = dktJ29_successor_2 := dk_seg dksJ29_successor_1 24 rfl rfl
theorem dJ29_successor_0 : decode cJ29_successor 0 = .ok (.aload_n 0, 1) := dk_42 (dk_at dksJ29_successor_0 0 rfl rfl)
theorem dJ29_successor_1 : decode cJ29_successor 1 = .ok (.ifnonnull 5, 3) := dk_199 0 5 (dk_at dksJ29_successor_0 1 rfl rfl)
theorem dJ29_successor_4 : decode cJ29_successor 4 = .ok (.aconst_null, 1) := dk_1 (dk_at dksJ29_successor_0 4 rfl rfl)
theorem dJ29_successor_5 : decode cJ29_successor 5 = .ok (.areturn, 1) := dk_176 (dk_at dksJ29_successor_0 5 rfl rfl)
theorem dJ29_successor_6 : decode cJ29_successor 6 = .ok (.aload_n 0, 1) := dk_42 (dk_at dksJ29_successor_0 6 rfl rfl)
theorem dJ29_successor_7 : decode cJ29_successor 7 = .ok (.getfield 114, 3) := dk_180 0 114 (dk_at dksJ29_successor_0 7 rfl rfl)
theorem dJ29_successor_10 : decode cJ29_successor 10 = .ok (.ifnull 25, 3) := dk_198 0 25 (dk_at dksJ29_successor_0 10 rfl rfl)
theorem dJ29_successor_13 : decode cJ29_successor 13 = .ok (.aload_n 0, 1) := dk_42 (dk_at dksJ29_successor_0 13 rfl rfl)
theorem dJ29_successor_14 : decode cJ29_successor 14 = .ok (.getfield 114, 3) := dk_180 0 114 (dk_at dksJ29_successor_0 14 rfl rfl)
theorem dJ29_successor_17 : decode cJ29_successor 17 = .ok (.astore_n 1, 1) := dk_76 (dk_at dksJ29_successor_0 17 rfl rfl)
theorem dJ29_successor_18 : decode cJ29_successor 18 = .ok (.aload_n 1, 1) := dk_43 (dk_at dksJ29_successor_0 18 rfl rfl)
theorem dJ29_successor_19 : decode cJ29_successor 19 = .ok (.getfield 111, 3) := dk_180 0 111 (dk_at dksJ29_successor_0 19 rfl rfl)
theorem dJ29_successor_22 : decode cJ29_successor 22 = .ok (.ifnull 11, 3) := dk_198 0 11 (dk_at dksJ29_successor_1 0 rfl rfl)
theorem dJ29_successor_25 : decode cJ29_successor 25 = .ok (.aload_n 1, 1) := dk_43 (dk_at dksJ29_successor_1 3 rfl rfl)
theorem dJ29_successor_26 : decode cJ29_successor 26 = .ok (.getfield 111, 3) := dk_180 0 111 (dk_at dksJ29_successor_1 4 rfl rfl)
theorem dJ29_successor_29 : decode cJ29_successor 29 = .ok (.astore_n 1, 1) := dk_76 (dk_at dksJ29_successor_1 7 rfl rfl)
theorem dJ29_successor_30 : decode cJ29_successor 30 = .ok (.goto (-12), 3) := dk_167 255 244 (dk_at dksJ29_successor_1 8 rfl rfl)
theorem dJ29_successor_33 : decode cJ29_successor 33 = .ok (.aload_n 1, 1) := dk_43 (dk_at dksJ29_successor_1 11 rfl rfl)
theorem dJ29_successor_34 : decode cJ29_successor 34 = .ok (.areturn, 1) := dk_176 (dk_at dksJ29_successor_1 12 rfl rfl)
theorem dJ29_successor_35 : decode cJ29_successor 35 = .ok (.aload_n 0, 1) := dk_42 (dk_at dksJ29_successor_1 13 rfl rfl)
theorem dJ29_successor_36 : decode cJ29_successor 36 = .ok (.getfield 124, 3) := dk_180 0 124 (dk_at dksJ29_successor_1 14 rfl rfl)
theorem dJ29_successor_39 : decode cJ29_successor 39 = .ok (.astore_n 1, 1) := dk_76 (dk_at dksJ29_successor_1 17 rfl rfl)
theorem dJ29_successor_40 : decode cJ29_successor 40 = .ok (.aload_n 0, 1) := dk_42 (dk_at dksJ29_successor_1 18 rfl rfl)
theorem dJ29_successor_41 : decode cJ29_successor 41 = .ok (.astore_n 2, 1) := dk_77 (dk_at dksJ29_successor_1 19 rfl rfl)
theorem dJ29_successor_42 : decode cJ29_successor 42 = .ok (.aload_n 1, 1) := dk_43 (dk_at dksJ29_successor_1 20 rfl rfl)
theorem dJ29_successor_43 : decode cJ29_successor 43 = .ok (.ifnull 21, 3) := dk_198 0 21 (dk_at dksJ29_successor_1 21 rfl rfl)
theorem dJ29_successor_46 : decode cJ29_successor 46 = .ok (.aload_n 2, 1) := dk_44 (dk_at dksJ29_successor_2 0 rfl rfl)
theorem dJ29_successor_47 : decode cJ29_successor 47 = .ok (.aload_n 1, 1) := dk_43 (dk_at dksJ29_successor_2 1 rfl rfl)
theorem dJ29_successor_48 : decode cJ29_successor 48 = .ok (.getfield 114, 3) := dk_180 0 114 (dk_at dksJ29_successor_2 2 rfl rfl)
theorem dJ29_successor_51 : decode cJ29_successor 51 = .ok (.if_acmp .ne 13, 3) := dk_166 0 13 (dk_at dksJ29_successor_2 5 rfl rfl)
theorem dJ29_successor_54 : decode cJ29_successor 54 = .ok (.aload_n 1, 1) := dk_43 (dk_at dksJ29_successor_2 8 rfl rfl)
theorem dJ29_successor_55 : decode cJ29_successor 55 = .ok (.astore_n 2, 1) := dk_77 (dk_at dksJ29_successor_2 9 rfl rfl)
theorem dJ29_successor_56 : decode cJ29_successor 56 = .ok (.aload_n 1, 1) := dk_43 (dk_at dksJ29_successor_2 10 rfl rfl)
theorem dJ29_successor_57 : decode cJ29_successor 57 = .ok (.getfield 124, 3) := dk_180 0 124 (dk_at dksJ29_successor_2 11 rfl rfl)
theorem dJ29_successor_60 : decode cJ29_successor 60 = .ok (.astore_n 1, 1) := dk_76 (dk_at dksJ29_successor_2 14 rfl rfl)
theorem dJ29_successor_61 : decode cJ29_successor 61 = .ok (.goto (-19), 3) := dk_167 255 237 (dk_at dksJ29_successor_2 15 rfl rfl)
theorem dJ29_successor_64 : decode cJ29_successor 64 = .ok (.aload_n 1, 1) := dk_43 (dk_at dksJ29_successor_2 18 rfl rfl)
theorem dJ29_successor_65 : decode cJ29_successor 65 = .ok (.areturn, 1) := dk_176 (dk_at dksJ29_successor_2 19 rfl rfl)
abbrev cJ29_size : ByteArray := prog_67_method_5_code
def yJ29_size : MethodName := ⟨RJ29, "size", "()I"⟩
theorem dJ29_size_0 : decode cJ29_size 0 = .ok (.aload_n 0, 1) := by decide +kernel
theorem dJ29_size_1 : decode cJ29_size 1 = .ok (.getfield 7, 3) := by decide +kernel
theorem dJ29_size_4 : decode cJ29_size 4 = .ok (.ireturn, 1) := by decide +kernel
abbrev cJ29_init : ByteArray := prog_67_method_1_code
def yJ29_init : MethodName := ⟨RJ29, "<init>", "()V"⟩
def dkwJ29_init_0 : List UInt8 := [42, 183, 0, 1, 42, 3, 181, 0, 7, 42, 3, 181, 0, 13, 42, 1, 181, 0, 16, 177]
abbrev dktJ29_init_0 : List UInt8 := dkwJ29_init_0 ++ []
theorem dksJ29_init_0 : cJ29_init.data.toList.drop 0 = dktJ29_init_0 := by decide +kernel
theorem dJ29_init_0 : decode cJ29_init 0 = .ok (.aload_n 0, 1) := dk_42 (dk_at dksJ29_init_0 0 rfl rfl)
theorem dJ29_init_1 : decode cJ29_init 1 = .ok (.invokespecial 1, 3) := dk_183 0 1 (dk_at dksJ29_init_0 1 rfl rfl)
theorem dJ29_init_4 : decode cJ29_init 4 = .ok (.aload_n 0, 1) := dk_42 (dk_at dksJ29_init_0 4 rfl rfl)
theorem dJ29_init_5 : decode cJ29_init 5 = .ok (.iconst 0, 1) := dk_3 (dk_at dksJ29_init_0 5 rfl rfl)
theorem dJ29_init_6 : decode cJ29_init 6 = .ok (.putfield 7, 3) := dk_181 0 7 (dk_at dksJ29_init_0 6 rfl rfl)
theorem dJ29_init_9 : decode cJ29_init 9 = .ok (.aload_n 0, 1) := dk_42 (dk_at dksJ29_init_0 9 rfl rfl)
theorem dJ29_init_10 : decode cJ29_init 10 = .ok (.iconst 0, 1) := dk_3 (dk_at dksJ29_init_0 10 rfl rfl)
theorem dJ29_init_11 : decode cJ29_init 11 = .ok (.putfield 13, 3) := dk_181 0 13 (dk_at dksJ29_init_0 11 rfl rfl)
theorem dJ29_init_14 : decode cJ29_init 14 = .ok (.aload_n 0, 1) := dk_42 (dk_at dksJ29_init_0 14 rfl rfl)
theorem dJ29_init_15 : decode cJ29_init 15 = .ok (.aconst_null, 1) := dk_1 (dk_at dksJ29_init_0 15 rfl rfl)
theorem dJ29_init_16 : decode cJ29_init 16 = .ok (.putfield 16, 3) := dk_181 0 16 (dk_at dksJ29_init_0 16 rfl rfl)
theorem dJ29_init_19 : decode cJ29_init 19 = .ok (.return_, 1) := dk_177 (dk_at dksJ29_init_0 19 rfl rfl)
abbrev cJ29_containsKey : ByteArray := prog_67_method_6_code
def yJ29_containsKey : MethodName := ⟨RJ29, "containsKey", "(Ljava/lang/Object;)Z"⟩
def dkwJ29_containsKey_0 : List UInt8 := [42, 43, 182, 0, 50, 198, 0, 7, 4, 167, 0, 4, 3, 172]
abbrev dktJ29_containsKey_0 : List UInt8 := dkwJ29_containsKey_0 ++ []
theorem dksJ29_containsKey_0 : cJ29_containsKey.data.toList.drop 0 = dktJ29_containsKey_0 := by decide +kernel
theorem dJ29_containsKey_0 : decode cJ29_containsKey 0 = .ok (.aload_n 0, 1) := dk_42 (dk_at dksJ29_containsKey_0 0 rfl rfl)
theorem dJ29_containsKey_1 : decode cJ29_containsKey 1 = .ok (.aload_n 1, 1) := dk_43 (dk_at dksJ29_containsKey_0 1 rfl rfl)
theorem dJ29_containsKey_2 : decode cJ29_containsKey 2 = .ok (.invokevirtual 50, 3) := dk_182 0 50 (dk_at dksJ29_containsKey_0 2 rfl rfl)
theorem dJ29_containsKey_5 : decode cJ29_containsKey 5 = .ok (.ifnull 7, 3) := dk_198 0 7 (dk_at dksJ29_containsKey_0 5 rfl rfl)
theorem dJ29_containsKey_8 : decode cJ29_containsKey 8 = .ok (.iconst 1, 1) := dk_4 (dk_at dksJ29_containsKey_0 8 rfl rfl)
theorem dJ29_containsKey_9 : decode cJ29_containsKey 9 = .ok (.goto 4, 3) := dk_167 0 4 (dk_at dksJ29_containsKey_0 9 rfl rfl)
theorem dJ29_containsKey_12 : decode cJ29_containsKey 12 = .ok (.iconst 0, 1) := dk_3 (dk_at dksJ29_containsKey_0 12 rfl rfl)
theorem dJ29_containsKey_13 : decode cJ29_containsKey 13 = .ok (.ireturn, 1) := dk_172 (dk_at dksJ29_containsKey_0 13 rfl rfl)
abbrev cJ29_getEntry : ByteArray := prog_67_method_15_code
def yJ29_getEntry : MethodName := ⟨RJ29, "getEntry", "(Ljava/lang/Object;)Ljava/util/TreeMap$Entry;"⟩
def dkwJ29_getEntry_3 : List UInt8 := [45, 176, 167, 255, 212, 1, 176]
abbrev dktJ29_getEntry_3 : List UInt8 := dkwJ29_getEntry_3 ++ []
def dkwJ29_getEntry_2 : List UInt8 := [156, 0, 11, 45, 180, 0, 111, 78, 167, 0, 18, 21, 4, 158, 0, 11, 45, 180, 0, 114, 78, 167, 0, 5]
abbrev dktJ29_getEntry_2 : List UInt8 := dkwJ29_getEntry_2 ++ dktJ29_getEntry_3
def dkwJ29_getEntry_1 : List UInt8 := [180, 0, 101, 78, 45, 198, 0, 46, 44, 45, 180, 0, 105, 185, 0, 107, 2, 0, 54, 4, 21, 4]
abbrev dktJ29_getEntry_1 : List UInt8 := dkwJ29_getEntry_1 ++ dktJ29_getEntry_2
def dkwJ29_getEntry_0 : List UInt8 := [42, 180, 0, 16, 198, 0, 9, 42, 43, 182, 0, 92, 176, 43, 184, 0, 95, 87, 43, 192, 0, 99, 77, 42]
abbrev dktJ29_getEntry_0 : List UInt8 := dkwJ29_getEntry_0 ++ dktJ29_getEntry_1
theorem dksJ29_getEntry_0 : cJ29_getEntry.data.toList.drop 0 = dktJ29_getEntry_0 := by decide +kernel
theorem dksJ29_getEntry_1 : cJ29_getEntry.data.toList.drop 24 = dktJ29_getEntry_1 := dk_seg dksJ29_getEntry_0 24 rfl rfl
theorem dksJ29_getEntry_2 : cJ29_getEntry.data.toList.drop 46 = dktJ29_getEntry_2 := dk_seg dksJ29_getEntry_1 22 rfl rfl
theorem dksJ29_getEntry_3 : cJ29_getEntry.data.toList.drop 70 = dktJ29_getEntry_3 := dk_seg dksJ29_getEntry_2 24 rfl rfl
theorem dJ29_getEntry_0 : decode cJ29_getEntry 0 = .ok (.aload_n 0, 1) := dk_42 (dk_at dksJ29_getEntry_0 0 rfl rfl)
theorem dJ29_getEntry_1 : decode cJ29_getEntry 1 = .ok (.getfield 16, 3) := dk_180 0 16 (dk_at dksJ29_getEntry_0 1 rfl rfl)
theorem dJ29_getEntry_4 : decode cJ29_getEntry 4 = .ok (.ifnull 9, 3) := dk_198 0 9 (dk_at dksJ29_getEntry_0 4 rfl rfl)
theorem dJ29_getEntry_7 : decode cJ29_getEntry 7 = .ok (.aload_n 0, 1) := dk_42 (dk_at dksJ29_getEntry_0 7 rfl rfl)
theorem dJ29_getEntry_8 : decode cJ29_getEntry 8 = .ok (.aload_n 1, 1) := dk_43 (dk_at dksJ29_getEntry_0 8 rfl rfl)
theorem dJ29_getEntry_9 : decode cJ29_getEntry 9 = .ok (.invokevirtual 92, 3) := dk_182 0 92 (dk_at dksJ29_getEntry_0 9 rfl rfl)
theorem dJ29_getEntry_12 : decode cJ29_getEntry 12 = .ok (.areturn, 1) := dk_176 (dk_at dksJ29_getEntry_0 12 rfl rfl)
theorem dJ29_getEntry_13 : decode cJ29_getEntry 13 = .ok (.aload_n 1, 1) := dk_43 (dk_at dksJ29_getEntry_0 13 rfl rfl)
theorem dJ29_getEntry_14 : decode cJ29_getEntry 14 = .ok (.invokestatic 95, 3) := dk_184 0 95 (dk_at dksJ29_getEntry_0 14 rfl rfl)
theorem dJ29_getEntry_17 : decode cJ29_getEntry 17 = .ok (.pop, 1) := dk_87 (dk_at dksJ29_getEntry_0 17 rfl rfl)
theorem dJ29_getEntry_18 : decode cJ29_getEntry 18 = .ok (.aload_n 1, 1) := dk_43 (dk_at dksJ29_getEntry_0 18 rfl rfl)
theorem dJ29_getEntry_19 : decode cJ29_getEntry 19 = .ok (.checkcast 99, 3) := dk_192 0 99 (dk_at dksJ29_getEntry_0 19 rfl rfl)
theorem dJ29_getEntry_22 : decode cJ29_getEntry 22 = .ok (.astore_n 2, 1) := dk_77 (dk_at dksJ29_getEntry_0 22 rfl rfl)
theorem dJ29_getEntry_23 : decode cJ29_getEntry 23 = .ok (.aload_n 0, 1) := dk_42 (dk_at dksJ29_getEntry_0 23 rfl rfl)
theorem dJ29_getEntry_24 : decode cJ29_getEntry 24 = .ok (.getfield 101, 3) := dk_180 0 101 (dk_at dksJ29_getEntry_1 0 rfl rfl)
theorem dJ29_getEntry_27 : decode cJ29_getEntry 27 = .ok (.astore_n 3, 1) := dk_78 (dk_at dksJ29_getEntry_1 3 rfl rfl)
theorem dJ29_getEntry_28 : decode cJ29_getEntry 28 = .ok (.aload_n 3, 1) := dk_45 (dk_at dksJ29_getEntry_1 4 rfl rfl)
theorem dJ29_getEntry_29 : decode cJ29_getEntry 29 = .ok (.ifnull 46, 3) := dk_198 0 46 (dk_at dksJ29_getEntry_1 5 rfl rfl)
theorem dJ29_getEntry_32 : decode cJ29_getEntry 32 = .ok (.aload_n 2, 1) := dk_44 (dk_at dksJ29_getEntry_1 8 rfl rfl)
theorem dJ29_getEntry_33 : decode cJ29_getEntry 33 = .ok (.aload_n 3, 1) := dk_45 (dk_at dksJ29_getEntry_1 9 rfl rfl)
theorem dJ29_getEntry_34 : decode cJ29_getEntry 34 = .ok (.getfield 105, 3) := dk_180 0 105 (dk_at dksJ29_getEntry_1 10 rfl rfl)
theorem dJ29_getEntry_37 : decode cJ29_getEntry 37 = .ok (.invokeinterface 107 2, 5) := by decide +kernel
theorem dJ29_getEntry_42 : decode cJ29_getEntry 42 = .ok (.istore 4, 2) := dk_54 4 (dk_at dksJ29_getEntry_1 18 rfl rfl)
theorem dJ29_getEntry_44 : decode cJ29_getEntry 44 = .ok (.iload 4, 2) := dk_21 4 (dk_at dksJ29_getEntry_1 20 rfl rfl)
theorem dJ29_getEntry_46 : decode cJ29_getEntry 46 = .ok (.ifCond .ge 11, 3) := dk_156 0 11 (dk_at dksJ29_getEntry_2 0 rfl rfl)
theorem dJ29_getEntry_49 : decode cJ29_getEntry 49 = .ok (.aload_n 3, 1) := dk_45 (dk_at dksJ29_getEntry_2 3 rfl rfl)
theorem dJ29_getEntry_50 : decode cJ29_getEntry 50 = .ok (.getfield 111, 3) := dk_180 0 111 (dk_at dksJ29_getEntry_2 4 rfl rfl)
theorem dJ29_getEntry_53 : decode cJ29_getEntry 53 = .ok (.astore_n 3, 1) := dk_78 (dk_at dksJ29_getEntry_2 7 rfl rfl)
theorem dJ29_getEntry_54 : decode cJ29_getEntry 54 = .ok (.goto 18, 3) := dk_167 0 18 (dk_at dksJ29_getEntry_2 8 rfl rfl)
theorem dJ29_getEntry_57 : decode cJ29_getEntry 57 = .ok (.iload 4, 2) := dk_21 4 (dk_at dksJ29_getEntry_2 11 rfl rfl)
theorem dJ29_getEntry_59 : decode cJ29_getEntry 59 = .ok (.ifCond .le 11, 3) := dk_158 0 11 (dk_at dksJ29_getEntry_2 13 rfl rfl)
theorem dJ29_getEntry_62 : decode cJ29_getEntry 62 = .ok (.aload_n 3, 1) := dk_45 (dk_at dksJ29_getEntry_2 16 rfl rfl)
theorem dJ29_getEntry_63 : decode cJ29_getEntry 63 = .ok (.getfield 114, 3) := dk_180 0 114 (dk_at dksJ29_getEntry_2 17 rfl rfl)
theorem dJ29_getEntry_66 : decode cJ29_getEntry 66 = .ok (.astore_n 3, 1) := dk_78 (dk_at dksJ29_getEntry_2 20 rfl rfl)
theorem dJ29_getEntry_67 : decode cJ29_getEntry 67 = .ok (.goto 5, 3) := dk_167 0 5 (dk_at dksJ29_getEntry_2 21 rfl rfl)
theorem dJ29_getEntry_70 : decode cJ29_getEntry 70 = .ok (.aload_n 3, 1) := dk_45 (dk_at dksJ29_getEntry_3 0 rfl rfl)
theorem dJ29_getEntry_71 : decode cJ29_getEntry 71 = .ok (.areturn, 1) := dk_176 (dk_at dksJ29_getEntry_3 1 rfl rfl)
theorem dJ29_getEntry_72 : decode cJ29_getEntry 72 = .ok (.goto (-44), 3) := dk_167 255 212 (dk_at dksJ29_getEntry_3 2 rfl rfl)
theorem dJ29_getEntry_75 : decode cJ29_getEntry 75 = .ok (.aconst_null, 1) := dk_1 (dk_at dksJ29_getEntry_3 5 rfl rfl)
theorem dJ29_getEntry_76 : decode cJ29_getEntry 76 = .ok (.areturn, 1) := dk_176 (dk_at dksJ29_getEntry_3 6 rfl rfl)
abbrev cJ29_getEntryUsingComparator : ByteArray := prog_67_method_16_code
def yJ29_getEntryUsingComparator : MethodName := ⟨RJ29, "getEntryUsingComparator", "(Ljava/lang/Object;)Ljava/util/TreeMap$Entry;"⟩
def dkwJ29_getEntryUsingComparator_3 : List UInt8 := [1, 176]
abbrev dktJ29_getEntryUsingComparator_3 : List UInt8 := dkwJ29_getEntryUsingComparator_3 ++ []
def dkwJ29_getEntryUsingComparator_2 : List UInt8 := [167, 0, 21, 21, 5, 158, 0, 13, 25, 4, 180, 0, 114, 58, 4, 167, 0, 6, 25, 4, 176, 167, 255, 204]
abbrev dktJ29_getEntryUsingComparator_2 : List UInt8 := dkwJ29_getEntryUsingComparator_2 ++ dktJ29_getEntryUsingComparator_3
def dkwJ29_getEntryUsingComparator_1 : List UInt8 := [25, 4, 180, 0, 105, 185, 0, 117, 3, 0, 54, 5, 21, 5, 156, 0, 13, 25, 4, 180, 0, 111, 58, 4]
abbrev dktJ29_getEntryUsingComparator_1 : List UInt8 := dkwJ29_getEntryUsingComparator_1 ++ dktJ29_getEntryUsingComparator_2
def dkwJ29_getEntryUsingComparator_0 : List UInt8 := [43, 77, 42, 180, 0, 16, 78, 45, 198, 0, 64, 42, 180, 0, 101, 58, 4, 25, 4, 198, 0, 53, 45, 44]
abbrev dktJ29_getEntryUsingComparator_0 : List UInt8 := dkwJ29_getEntryUsingComparator_0 ++ dktJ29_getEntryUsingComparator_1
theorem dksJ29_getEntryUsingComparator_0 : cJ29_getEntryUsingComparator.data.toList.drop 0 = dktJ29_getEntryUsingComparator_0 := by decide +kernel
theorem dksJ29_getEntryUsingComparator_1 : cJ29_getEntryUsingComparator.data.toList.drop 24 = dktJ29_getEntryUsingComparator_1 := dk_seg dksJ29_getEntryUsingComparator_0 24 rfl rfl
theorem dksJ29_getEntryUsingComparator_2 : cJ29_getEntryUsingComparator.data.toList.drop 48 = dktJ29_getEntryUsingComparator_2 := dk_seg dksJ29_getEntryUsingComparator_1 24 rfl rfl
theorem dksJ29_getEntryUsingComparator_3 : cJ29_getEntryUsingComparator.data.toList.drop 72 = dktJ29_getEntryUsingComparator_3 := dk_seg dksJ29_getEntryUsingComparator_2 24 rfl rfl
theorem dJ29_getEntryUsingComparator_0 : decode cJ29_getEntryUsingComparator 0 = .ok (.aload_n 1, 1) := dk_43 (dk_at dksJ29_getEntryUsingComparator_0 0 rfl rfl)
theorem dJ29_getEntryUsingComparator_1 : decode cJ29_getEntryUsingComparator 1 = .ok (.astore_n 2, 1) := dk_77 (dk_at dksJ29_getEntryUsingComparator_0 1 rfl rfl)
theorem dJ29_getEntryUsingComparator_2 : decode cJ29_getEntryUsingComparator 2 = .ok (.aload_n 0, 1) := dk_42 (dk_at dksJ29_getEntryUsingComparator_0 2 rfl rfl)
theorem dJ29_getEntryUsingComparator_3 : decode cJ29_getEntryUsingComparator 3 = .ok (.getfield 16, 3) := dk_180 0 16 (dk_at dksJ29_getEntryUsingComparator_0 3 rfl rfl)
theorem dJ29_getEntryUsingComparator_6 : decode cJ29_getEntryUsingComparator 6 = .ok (.astore_n 3, 1) := dk_78 (dk_at dksJ29_getEntryUsingComparator_0 6 rfl rfl)
theorem dJ29_getEntryUsingComparator_7 : decode cJ29_getEntryUsingComparator 7 = .ok (.aload_n 3, 1) := dk_45 (dk_at dksJ29_getEntryUsingComparator_0 7 rfl rfl)
theorem dJ29_getEntryUsingComparator_8 : decode cJ29_getEntryUsingComparator 8 = .ok (.ifnull 64, 3) := dk_198 0 64 (dk_at dksJ29_getEntryUsingComparator_0 8 rfl rfl)
theorem dJ29_getEntryUsingComparator_11 : decode cJ29_getEntryUsingComparator 11 = .ok (.aload_n 0, 1) := dk_42 (dk_at dksJ29_getEntryUsingComparator_0 11 rfl rfl)
theorem dJ29_getEntryUsingComparator_12 : decode cJ29_getEntryUsingComparator 12 = .ok (.getfield 101, 3) := dk_180 0 101 (dk_at dksJ29_getEntryUsingComparator_0 12 rfl rfl)
theorem dJ29_getEntryUsingComparator_15 : decode cJ29_getEntryUsingComparator 15 = .ok (.astore 4, 2) := dk_58 4 (dk_at dksJ29_getEntryUsingComparator_0 15 rfl rfl)
theorem dJ29_getEntryUsingComparator_17 : decode cJ29_getEntryUsingComparator 17 = .ok (.aload 4, 2) := dk_25 4 (dk_at dksJ29_getEntryUsingComparator_0 17 rfl rfl)
theorem dJ29_getEntryUsingComparator_19 : decode cJ29_getEntryUsingComparator 19 = .ok (.ifnull 53, 3) := dk_198 0 53 (dk_at dksJ29_getEntryUsingComparator_0 19 rfl rfl)
theorem dJ29_getEntryUsingComparator_22 : decode cJ29_getEntryUsingComparator 22 = .ok (.aload_n 3, 1) := dk_45 (dk_at dksJ29_getEntryUsingComparator_0 22 rfl rfl)
theorem dJ29_getEntryUsingComparator_23 : decode cJ29_getEntryUsingComparator 23 = .ok (.aload_n 2, 1) := dk_44 (dk_at dksJ29_getEntryUsingComparator_0 23 rfl rfl)
theorem dJ29_getEntryUsingComparator_24 : decode cJ29_getEntryUsingComparator 24 = .ok (.aload 4, 2) := dk_25 4 (dk_at dksJ29_getEntryUsingComparator_1 0 rfl rfl)
theorem dJ29_getEntryUsingComparator_26 : decode cJ29_getEntryUsingComparator 26 = .ok (.getfield 105, 3) := dk_180 0 105 (dk_at dksJ29_getEntryUsingComparator_1 2 rfl rfl)
theorem dJ29_getEntryUsingComparator_29 : decode cJ29_getEntryUsingComparator 29 = .ok (.invokeinterface 117 3, 5) := by decide +kernel
theorem dJ29_getEntryUsingComparator_34 : decode cJ29_getEntryUsingComparator 34 = .ok (.istore 5, 2) := dk_54 5 (dk_at dksJ29_getEntryUsingComparator_1 10 rfl rfl)
theorem dJ29_getEntryUsingComparator_36 : decode cJ29_getEntryUsingComparator 36 = .ok (.iload 5, 2) := dk_21 5 (dk_at dksJ29_getEntryUsingComparator_1 12 rfl rfl)
theorem dJ29_getEntryUsingComparator_38 : decode cJ29_getEntryUsingComparator 38 = .ok (.ifCond .ge 13, 3) := dk_156 0 13 (dk_at dksJ29_getEntryUsingComparator_1 14 rfl rfl)
theorem dJ29_getEntryUsingComparator_41 : decode cJ29_getEntryUsingComparator 41 = .ok (.aload 4, 2) := dk_25 4 (dk_at dksJ29_getEntryUsingComparator_1 17 rfl rfl)
theorem dJ29_getEntryUsingComparator_43 : decode cJ29_getEntryUsingComparator 43 = .ok (.getfield 111, 3) := dk_180 0 111 (dk_at dksJ29_getEntryUsingComparator_1 19 rfl rfl)
theorem dJ29_getEntryUsingComparator_46 : decode cJ29_getEntryUsingComparator 46 = .ok (.astore 4, 2) := dk_58 4 (dk_at dksJ29_getEntryUsingComparator_1 22 rfl rfl)
theorem dJ29_getEntryUsingComparator_48 : decode cJ29_getEntryUsingComparator 48 = .ok (.goto 21, 3) := dk_167 0 21 (dk_at dksJ29_getEntryUsingComparator_2 0 rfl rfl)
theorem dJ29_getEntryUsingComparator_51 : decode cJ29_getEntryUsingComparator 51 = .ok (.iload 5, 2) := dk_21 5 (dk_at dksJ29_getEntryUsingComparator_2 3 rfl rfl)
theorem dJ29_getEntryUsingComparator_53 : decode cJ29_getEntryUsingComparator 53 = .ok (.ifCond .le 13, 3) := dk_158 0 13 (dk_at dksJ29_getEntryUsingComparator_2 5 rfl rfl)
theorem dJ29_getEntryUsingComparator_56 : decode cJ29_getEntryUsingComparator 56 = .ok (.aload 4, 2) := dk_25 4 (dk_at dksJ29_getEntryUsingComparator_2 8 rfl rfl)
theorem dJ29_getEntryUsingComparator_58 : decode cJ29_getEntryUsingComparator 58 = .ok (.getfield 114, 3) := dk_180 0 114 (dk_at dksJ29_getEntryUsingComparator_2 10 rfl rfl)
theorem dJ29_getEntryUsingComparator_61 : decode cJ29_getEntryUsingComparator 61 = .ok (.astore 4, 2) := dk_58 4 (dk_at dksJ29_getEntryUsingComparator_2 13 rfl rfl)
theorem dJ29_getEntryUsingComparator_63 : decode cJ29_getEntryUsingComparator 63 = .ok (.goto 6, 3) := dk_167 0 6 (dk_at dksJ29_getEntryUsingComparator_2 15 rfl rfl)
theorem dJ29_getEntryUsingComparator_66 : decode cJ29_getEntryUsingComparator 66 = .ok (.aload 4, 2) := dk_25 4 (dk_at dksJ29_getEntryUsingComparator_2 18 rfl rfl)
theorem dJ29_getEntryUsingComparator_68 : decode cJ29_getEntryUsingComparator 68 = .ok (.areturn, 1) := dk_176 (dk_at dksJ29_getEntryUsingComparator_2 20 rfl rfl)
theorem dJ29_getEntryUsingComparator_69 : decode cJ29_getEntryUsingComparator 69 = .ok (.goto (-52), 3) := dk_167 255 204 (dk_at dksJ29_getEntryUsingComparator_2 21 rfl rfl)
theorem dJ29_getEntryUsingComparator_72 : decode cJ29_getEntryUsingComparator 72 = .ok (.aconst_null, 1) := dk_1 (dk_at dksJ29_getEntryUsingComparator_3 0 rfl rfl)
theorem dJ29_getEntryUsingComparator_73 : decode cJ29_getEntryUsingComparator 73 = .ok (.areturn, 1) := dk_176 (dk_at dksJ29_getEntryUsingComparator_3 1 rfl rfl)
abbrev cJ29_get : ByteArray := prog_67_method_8_code
def yJ29_get : MethodName := ⟨RJ29, "get", "(Ljava/lang/Object;)Ljava/lang/Object;"⟩
def dkwJ29_get_0 : List UInt8 := [42, 43, 182, 0, 50, 77, 44, 199, 0, 7, 1, 167, 0, 7, 44, 180, 0, 58, 176]
abbrev dktJ29_get_0 : List UInt8 := dkwJ29_get_0 ++ []
theorem dksJ29_get_0 : cJ29_get.data.toList.drop 0 = dktJ29_get_0 := by decide +kernel
theorem dJ29_get_0 : decode cJ29_get 0 = .ok (.aload_n 0, 1) := dk_42 (dk_at dksJ29_get_0 0 rfl rfl)
theorem dJ29_get_1 : decode cJ29_get 1 = .ok (.aload_n 1, 1) := dk_43 (dk_at dksJ29_get_0 1 rfl rfl)
theorem dJ29_get_2 : decode cJ29_get 2 = .ok (.invokevirtual 50, 3) := dk_182 0 50 (dk_at dksJ29_get_0 2 rfl rfl)
theorem dJ29_get_5 : decode cJ29_get 5 = .ok (.astore_n 2, 1) := dk_77 (dk_at dksJ29_get_0 5 rfl rfl)
theorem dJ29_get_6 : decode cJ29_get 6 = .ok (.aload_n 2, 1) := dk_44 (dk_at dksJ29_get_0 6 rfl rfl)
theorem dJ29_get_7 : decode cJ29_get 7 = .ok (.ifnonnull 7, 3) := dk_199 0 7 (dk_at dksJ29_get_0 7 rfl rfl)
theorem dJ29_get_10 : decode cJ29_get 10 = .ok (.aconst_null, 1) := dk_1 (dk_at dksJ29_get_0 10 rfl rfl)
theorem dJ29_get_11 : decode cJ29_get 11 = .ok (.goto 7, 3) := dk_167 0 7 (dk_at dksJ29_get_0 11 rfl rfl)
theorem dJ29_get_14 : decode cJ29_get 14 = .ok (.aload_n 2, 1) := dk_44 (dk_at dksJ29_get_0 14 rfl rfl)
theorem dJ29_get_15 : decode cJ29_get 15 = .ok (.getfield 58, 3) := dk_180 0 58 (dk_at dksJ29_get_0 15 rfl rfl)
theorem dJ29_get_18 : decode cJ29_get 18 = .ok (.areturn, 1) := dk_176 (dk_at dksJ29_get_0 18 rfl rfl)
abbrev cJ29_put : ByteArray := prog_67_method_21_code
def yJ29_put : MethodName := ⟨RJ29, "put", "(Ljava/lang/Object;Ljava/lang/Object;)Ljava/lang/Object;"⟩
def dkwJ29_put_0 : List UInt8 := [42, 43, 44, 4, 182, 0, 127, 176]
abbrev dktJ29_put_0 : List UInt8 := dkwJ29_put_0 ++ []
theorem dksJ29_put_0 : cJ29_put.data.toList.drop 0 = dktJ29_put_0 := by decide +kernel
theorem dJ29_put_0 : decode cJ29_put 0 = .ok (.aload_n 0, 1) := dk_42 (dk_at dksJ29_put_0 0 rfl rfl)
theorem dJ29_put_1 : decode cJ29_put 1 = .ok (.aload_n 1, 1) := dk_43 (dk_at dksJ29_put_0 1 rfl rfl)
theorem dJ29_put_2 : decode cJ29_put 2 = .ok (.aload_n 2, 1) := dk_44 (dk_at dksJ29_put_0 2 rfl rfl)
theorem dJ29_put_3 : decode cJ29_put 3 = .ok (.iconst 1, 1) := dk_4 (dk_at dksJ29_put_0 3 rfl rfl)
theorem dJ29_put_4 : decode cJ29_put 4 = .ok (.invokevirtual 127, 3) := dk_182 0 127 (dk_at dksJ29_put_0 4 rfl rfl)
theorem dJ29_put_7 : decode cJ29_put 7 = .ok (.areturn, 1) := dk_176 (dk_at dksJ29_put_0 7 rfl rfl)
abbrev cJ29_put_2 : ByteArray := prog_67_method_31_code
def yJ29_put_2 : MethodName := ⟨RJ29, "put", "(Ljava/lang/Object;Ljava/lang/Object;Z)Ljava/lang/Object;"⟩
def dkwJ29_put_2_9 : List UInt8 := [4, 167, 0, 4, 3, 182, 0, 139, 1, 176]
abbrev dktJ29_put_2_9 : List UInt8 := dkwJ29_put_2_9 ++ []
def dkwJ29_put_2_8 : List UInt8 := [25, 4, 44, 181, 0, 58, 25, 9, 176, 25, 4, 199, 255, 181, 42, 43, 44, 25, 6, 21, 5, 156, 0, 7]
abbrev dktJ29_put_2_8 : List UInt8 := dkwJ29_put_2_8 ++ dktJ29_put_2_9
def dkwJ29_put_2_7 : List UInt8 := [180, 0, 114, 58, 4, 167, 0, 28, 25, 4, 180, 0, 58, 58, 9, 29, 154, 0, 8, 25, 9, 199, 0, 9]
abbrev dktJ29_put_2_7 : List UInt8 := dkwJ29_put_2_7 ++ dktJ29_put_2_8
def dkwJ29_put_2_6 : List UInt8 := [21, 5, 156, 0, 13, 25, 4, 180, 0, 111, 58, 4, 167, 0, 43, 21, 5, 158, 0, 13, 25, 4]
abbrev dktJ29_put_2_6 : List UInt8 := dkwJ29_put_2_6 ++ dktJ29_put_2_7
def dkwJ29_put_2_5 : List UInt8 := [192, 0, 99, 58, 8, 25, 4, 58, 6, 25, 8, 25, 4, 180, 0, 105, 185, 0, 107, 2, 0, 54, 5]
abbrev dktJ29_put_2_5 : List UInt8 := dkwJ29_put_2_5 ++ dktJ29_put_2_6
def dkwJ29_put_2_4 : List UInt8 := [25, 4, 44, 181, 0, 58, 25, 8, 176, 25, 4, 199, 255, 180, 167, 0, 92, 43, 184, 0, 95, 87, 43]
abbrev dktJ29_put_2_4 : List UInt8 := dkwJ29_put_2_4 ++ dktJ29_put_2_5
def dkwJ29_put_2_3 : List UInt8 := [180, 0, 114, 58, 4, 167, 0, 28, 25, 4, 180, 0, 58, 58, 8, 29, 154, 0, 8, 25, 8, 199, 0, 9]
abbrev dktJ29_put_2_3 : List UInt8 := dkwJ29_put_2_3 ++ dktJ29_put_2_4
def dkwJ29_put_2_2 : List UInt8 := [54, 5, 21, 5, 156, 0, 13, 25, 4, 180, 0, 111, 58, 4, 167, 0, 43, 21, 5, 158, 0, 13, 25, 4]
abbrev dktJ29_put_2_2 : List UInt8 := dkwJ29_put_2_2 ++ dktJ29_put_2_3
def dkwJ29_put_2_1 : List UInt8 := [58, 7, 25, 7, 198, 0, 85, 25, 4, 58, 6, 25, 7, 43, 25, 4, 180, 0, 105, 185, 0, 117, 3, 0]
abbrev dktJ29_put_2_1 : List UInt8 := dkwJ29_put_2_1 ++ dktJ29_put_2_2
def dkwJ29_put_2_0 : List UInt8 := [42, 180, 0, 101, 58, 4, 25, 4, 199, 0, 11, 42, 43, 44, 182, 0, 135, 1, 176, 42, 180, 0, 16]
abbrev dktJ29_put_2_0 : List UInt8 := dkwJ29_put_2_0 ++ dktJ29_put_2_1
theorem dksJ29_put_2_0 : cJ29_put_2.data.toList.drop 0 = dktJ29_put_2_0 := by decide +kernel
theorem dksJ29_put_2_1 : cJ29_put_2.data.toList.drop 23 = dktJ29_put_2_1 := dk_seg dksJ29_put_2_0 23 rfl rfl
theorem dksJ29_put_2_2 : cJ29_put_2.data.toList.drop 47 = dktJ29_put_2_2 := dk_seg dksJ29_put_2_1 24 rfl rfl
theorem dksJ29_put_2_3 : cJ29_put_2.data.toList.drop 71 = dktJ29_put_2_3 := dk_seg dksJ29_put_2_2 24 rfl rfl
theorem dksJ29_put_2_4 : cJ29_put_2.data.toList.drop 95 = dktJ29_put_2_4 := dk_seg dksJ29_put_2_3 24 rfl rfl
theorem dksJ29_put_2_5 : cJ29_put_2.data.toList.drop 118 = dktJ29_put_2_5 := dk_seg dksJ29_put_2_4 23 rfl rfl
theorem dksJ29_put_2_6 : cJ29_put_2.data.toList.drop 141 = dktJ29_put_2_6 := dk_seg dksJ29_put_2_5 23 rfl rfl
theorem dksJ29_put_2_7 : cJ29_put_2.data.toList.drop 163 = dktJ29_put_2_7 := dk_seg dksJ29_put_2_6 22 rfl rfl
theorem dksJ29_put_2_8 : cJ29_put_2.data.toList.drop 187 = dktJ29_put_2_8 := dk_seg dksJ29_put_2_7 24 rfl rfl
theorem dksJ29_put_2_9 : cJ29_put_2.data.toList.drop 211 = dktJ29_put_2_9 := dk_seg dksJ29_put_2_8 24 rfl rfl
theorem dJ29_put_2_0 : decode cJ29_put_2 0 = .ok (.aload_n 0, 1) := dk_42 (dk_at dksJ29_put_2_0 0 rfl rfl)
theorem dJ29_put_2_1 : decode cJ29_put_2 1 = .ok (.getfield 101, 3) := dk_180 0 101 (dk_at dksJ29_put_2_0 1 rfl rfl)
theorem dJ29_put_2_4 : decode cJ29_put_2 4 = .ok (.astore 4, 2) := dk_58 4 (dk_at dksJ29_put_2_0 4 rfl rfl)
theorem dJ29_put_2_6 : decode cJ29_put_2 6 = .ok (.aload 4, 2) := dk_25 4 (dk_at dksJ29_put_2_0 6 rfl rfl)
theorem dJ29_put_2_8 : decode cJ29_put_2 8 = .ok (.ifnonnull 11, 3) := dk_199 0 11 (dk_at dksJ29_put_2_0 8 rfl rfl)
theorem dJ29_put_2_11 : decode cJ29_put_2 11 = .ok (.aload_n 0, 1) := dk_42 (dk_at dksJ29_put_2_0 11 rfl rfl)
theorem dJ29_put_2_12 : decode cJ29_put_2 12 = .ok (.aload_n 1, 1) := dk_43 (dk_at dksJ29_put_2_0 12 rfl rfl)
theorem dJ29_put_2_13 : decode cJ29_put_2 13 = .ok (.aload_n 2, 1) := dk_44 (dk_at dksJ29_put_2_0 13 rfl rfl)
theorem dJ29_put_2_14 : decode cJ29_put_2 14 = .ok (.invokevirtual 135, 3) := dk_182 0 135 (dk_at dksJ29_put_2_0 14 rfl rfl)
theorem dJ29_put_2_17 : decode cJ29_put_2 17 = .ok (.aconst_null, 1) := dk_1 (dk_at dksJ29_put_2_0 17 rfl rfl)
theorem dJ29_put_2_18 : decode cJ29_put_2 18 = .ok (.areturn, 1) := dk_176 (dk_at dksJ29_put_2_0 18 rfl rfl)
theorem dJ29_put_2_19 : decode cJ29_put_2 19 = .ok (.aload_n 0, 1) := dk_42 (dk_at dksJ29_put_2_0 19 rfl rfl)
theorem dJ29_put_2_20 : decode cJ29_put_2 20 = .ok (.getfield 16, 3) := dk_180 0 16 (dk_at dksJ29_put_2_0 20 rfl rfl)
theorem dJ29_put_2_23 : decode cJ29_put_2 23 = .ok (.astore 7, 2) := dk_58 7 (dk_at dksJ29_put_2_1 0 rfl rfl)
theorem dJ29_put_2_25 : decode cJ29_put_2 25 = .ok (.aload 7, 2) := dk_25 7 (dk_at dksJ29_put_2_1 2 rfl rfl)
theorem dJ29_put_2_27 : decode cJ29_put_2 27 = .ok (.ifnull 85, 3) := dk_198 0 85 (dk_at dksJ29_put_2_1 4 rfl rfl)
theorem dJ29_put_2_30 : decode cJ29_put_2 30 = .ok (.aload 4, 2) := dk_25 4 (dk_at dksJ29_put_2_1 7 rfl rfl)
theorem dJ29_put_2_32 : decode cJ29_put_2 32 = .ok (.astore 6, 2) := dk_58 6 (dk_at dksJ29_put_2_1 9 rfl rfl)
theorem dJ29_put_2_34 : decode cJ29_put_2 34 = .ok (.aload 7, 2) := dk_25 7 (dk_at dksJ29_put_2_1 11 rfl rfl)
theorem dJ29_put_2_36 : decode cJ29_put_2 36 = .ok (.aload_n 1, 1) := dk_43 (dk_at dksJ29_put_2_1 13 rfl rfl)
theorem dJ29_put_2_37 : decode cJ29_put_2 37 = .ok (.aload 4, 2) := dk_25 4 (dk_at dksJ29_put_2_1 14 rfl rfl)
theorem dJ29_put_2_39 : decode cJ29_put_2 39 = .ok (.getfield 105, 3) := dk_180 0 105 (dk_at dksJ29_put_2_1 16 rfl rfl)
theorem dJ29_put_2_42 : decode cJ29_put_2 42 = .ok (.invokeinterface 117 3, 5) := by decide +kernel
theorem dJ29_put_2_47 : decode cJ29_put_2 47 = .ok (.istore 5, 2) := dk_54 5 (dk_at dksJ29_put_2_2 0 rfl rfl)
theorem dJ29_put_2_49 : decode cJ29_put_2 49 = .ok (.iload 5, 2) := dk_21 5 (dk_at dksJ29_put_2_2 2 rfl rfl)
theorem dJ29_put_2_51 : decode cJ29_put_2 51 = .ok (.ifCond .ge 13, 3) := dk_156 0 13 (dk_at dksJ29_put_2_2 4 rfl rfl)
theorem dJ29_put_2_54 : decode cJ29_put_2 54 = .ok (.aload 4, 2) := dk_25 4 (dk_at dksJ29_put_2_2 7 rfl rfl)
theorem dJ29_put_2_56 : decode cJ29_put_2 56 = .ok (.getfield 111, 3) := dk_180 0 111 (dk_at dksJ29_put_2_2 9 rfl rfl)
theorem dJ29_put_2_59 : decode cJ29_put_2 59 = .ok (.astore 4, 2) := dk_58 4 (dk_at dksJ29_put_2_2 12 rfl rfl)
theorem dJ29_put_2_61 : decode cJ29_put_2 61 = .ok (.goto 43, 3) := dk_167 0 43 (dk_at dksJ29_put_2_2 14 rfl rfl)
theorem dJ29_put_2_64 : decode cJ29_put_2 64 = .ok (.iload 5, 2) := dk_21 5 (dk_at dksJ29_put_2_2 17 rfl rfl)
theorem dJ29_put_2_66 : decode cJ29_put_2 66 = .ok (.ifCond .le 13, 3) := dk_158 0 13 (dk_at dksJ29_put_2_2 19 rfl rfl)
theorem dJ29_put_2_69 : decode cJ29_put_2 69 = .ok (.aload 4, 2) := dk_25 4 (dk_at dksJ29_put_2_2 22 rfl rfl)
theorem dJ29_put_2_71 : decode cJ29_put_2 71 = .ok (.getfield 114, 3) := dk_180 0 114 (dk_at dksJ29_put_2_3 0 rfl rfl)
theorem dJ29_put_2_74 : decode cJ29_put_2 74 = .ok (.astore 4, 2) := dk_58 4 (dk_at dksJ29_put_2_3 3 rfl rfl)
theorem dJ29_put_2_76 : decode cJ29_put_2 76 = .ok (.goto 28, 3) := dk_167 0 28 (dk_at dksJ29_put_2_3 5 rfl rfl)
theorem dJ29_put_2_79 : decode cJ29_put_2 79 = .ok (.aload 4, 2) := dk_25 4 (dk_at dksJ29_put_2_3 8 rfl rfl)
theorem dJ29_put_2_81 : decode cJ29_put_2 81 = .ok (.getfield 58, 3) := dk_180 0 58 (dk_at dksJ29_put_2_3 10 rfl rfl)
theorem dJ29_put_2_84 : decode cJ29_put_2 84 = .ok (.astore 8, 2) := dk_58 8 (dk_at dksJ29_put_2_3 13 rfl rfl)
theorem dJ29_put_2_86 : decode cJ29_put_2 86 = .ok (.iload_n 3, 1) := dk_29 (dk_at dksJ29_put_2_3 15 rfl rfl)
theorem dJ29_put_2_87 : decode cJ29_put_2 87 = .ok (.ifCond .ne 8, 3) := dk_154 0 8 (dk_at dksJ29_put_2_3 16 rfl rfl)
theorem dJ29_put_2_90 : decode cJ29_put_2 90 = .ok (.aload 8, 2) := dk_25 8 (dk_at dksJ29_put_2_3 19 rfl rfl)
theorem dJ29_put_2_92 : decode cJ29_put_2 92 = .ok (.ifnonnull 9, 3) := dk_199 0 9 (dk_at dksJ29_put_2_3 21 rfl rfl)
theorem dJ29_put_2_95 : decode cJ29_put_2 95 = .ok (.aload 4, 2) := dk_25 4 (dk_at dksJ29_put_2_4 0 rfl rfl)
theorem dJ29_put_2_97 : decode cJ29_put_2 97 = .ok (.aload_n 2, 1) := dk_44 (dk_at dksJ29_put_2_4 2 rfl rfl)
theorem dJ29_put_2_98 : decode cJ29_put_2 98 = .ok (.putfield 58, 3) := dk_181 0 58 (dk_at dksJ29_put_2_4 3 rfl rfl)
theorem dJ29_put_2_101 : decode cJ29_put_2 101 = .ok (.aload 8, 2) := dk_25 8 (dk_at dksJ29_put_2_4 6 rfl rfl)
theorem dJ29_put_2_103 : decode cJ29_put_2 103 = .ok (.areturn, 1) := dk_176 (dk_at dksJ29_put_2_4 8 rfl rfl)
theorem dJ29_put_2_104 : decode cJ29_put_2 104 = .ok (.aload 4, 2) := dk_25 4 (dk_at dksJ29_put_2_4 9 rfl rfl)
theorem dJ29_put_2_106 : decode cJ29_put_2 106 = .ok (.ifnonnull (-76), 3) := dk_199 255 180 (dk_at dksJ29_put_2_4 11 rfl rfl)
theorem dJ29_put_2_109 : decode cJ29_put_2 109 = .ok (.goto 92, 3) := dk_167 0 92 (dk_at dksJ29_put_2_4 14 rfl rfl)
theorem dJ29_put_2_112 : decode cJ29_put_2 112 = .ok (.aload_n 1, 1) := dk_43 (dk_at dksJ29_put_2_4 17 rfl rfl)
theorem dJ29_put_2_113 : decode cJ29_put_2 113 = .ok (.invokestatic 95, 3) := dk_184 0 95 (dk_at dksJ29_put_2_4 18 rfl rfl)
theorem dJ29_put_2_116 : decode cJ29_put_2 116 = .ok (.pop, 1) := dk_87 (dk_at dksJ29_put_2_4 21 rfl rfl)
theorem dJ29_put_2_117 : decode cJ29_put_2 117 = .ok (.aload_n 1, 1) := dk_43 (dk_at dksJ29_put_2_4 22 rfl rfl)
theorem dJ29_put_2_118 : decode cJ29_put_2 118 = .ok (.checkcast 99, 3) := dk_192 0 99 (dk_at dksJ29_put_2_5 0 rfl rfl)
theorem dJ29_put_2_121 : decode cJ29_put_2 121 = .ok (.astore 8, 2) := dk_58 8 (dk_at dksJ29_put_2_5 3 rfl rfl)
theorem dJ29_put_2_123 : decode cJ29_put_2 123 = .ok (.aload 4, 2) := dk_25 4 (dk_at dksJ29_put_2_5 5 rfl rfl)
theorem dJ29_put_2_125 : decode cJ29_put_2 125 = .ok (.astore 6, 2) := dk_58 6 (dk_at dksJ29_put_2_5 7 rfl rfl)
theorem dJ29_put_2_127 : decode cJ29_put_2 127 = .ok (.aload 8, 2) := dk_25 8 (dk_at dksJ29_put_2_5 9 rfl rfl)
theorem dJ29_put_2_129 : decode cJ29_put_2 129 = .ok (.aload 4, 2) := dk_25 4 (dk_at dksJ29_put_2_5 11 rfl rfl)
theorem dJ29_put_2_131 : decode cJ29_put_2 131 = .ok (.getfield 105, 3) := dk_180 0 105 (dk_at dksJ29_put_2_5 13 rfl rfl)
theorem dJ29_put_2_134 : decode cJ29_put_2 134 = .ok (.invokeinterface 107 2, 5) := by decide +kernel
theorem dJ29_put_2_139 : decode cJ29_put_2 139 = .ok (.istore 5, 2) := dk_54 5 (dk_at dksJ29_put_2_5 21 rfl rfl)
theorem dJ29_put_2_141 : decode cJ29_put_2 141 = .ok (.iload 5, 2) := dk_21 5 (dk_at dksJ29_put_2_6 0 rfl rfl)
theorem dJ29_put_2_143 : decode cJ29_put_2 143 = .ok (.ifCond .ge 13, 3) := dk_156 0 13 (dk_at dksJ29_put_2_6 2 rfl rfl)
theorem dJ29_put_2_146 : decode cJ29_put_2 146 = .ok (.aload 4, 2) := dk_25 4 (dk_at dksJ29_put_2_6 5 rfl rfl)
theorem dJ29_put_2_148 : decode cJ29_put_2 148 = .ok (.getfield 111, 3) := dk_180 0 111 (dk_at dksJ29_put_2_6 7 rfl rfl)
theorem dJ29_put_2_151 : decode cJ29_put_2 151 = .ok (.astore 4, 2) := dk_58 4 (dk_at dksJ29_put_2_6 10 rfl rfl)
theorem dJ29_put_2_153 : decode cJ29_put_2 153 = .ok (.goto 43, 3) := dk_167 0 43 (dk_at dksJ29_put_2_6 12 rfl rfl)
theorem dJ29_put_2_156 : decode cJ29_put_2 156 = .ok (.iload 5, 2) := dk_21 5 (dk_at dksJ29_put_2_6 15 rfl rfl)
theorem dJ29_put_2_158 : decode cJ29_put_2 158 = .ok (.ifCond .le 13, 3) := dk_158 0 13 (dk_at dksJ29_put_2_6 17 rfl rfl)
theorem dJ29_put_2_161 : decode cJ29_put_2 161 = .ok (.aload 4, 2) := dk_25 4 (dk_at dksJ29_put_2_6 20 rfl rfl)
theorem dJ29_put_2_163 : decode cJ29_put_2 163 = .ok (.getfield 114, 3) := dk_180 0 114 (dk_at dksJ29_put_2_7 0 rfl rfl)
theorem dJ29_put_2_166 : decode cJ29_put_2 166 = .ok (.astore 4, 2) := dk_58 4 (dk_at dksJ29_put_2_7 3 rfl rfl)
theorem dJ29_put_2_168 : decode cJ29_put_2 168 = .ok (.goto 28, 3) := dk_167 0 28 (dk_at dksJ29_put_2_7 5 rfl rfl)
theorem dJ29_put_2_171 : decode cJ29_put_2 171 = .ok (.aload 4, 2) := dk_25 4 (dk_at dksJ29_put_2_7 8 rfl rfl)
theorem dJ29_put_2_173 : decode cJ29_put_2 173 = .ok (.getfield 58, 3) := dk_180 0 58 (dk_at dksJ29_put_2_7 10 rfl rfl)
theorem dJ29_put_2_176 : decode cJ29_put_2 176 = .ok (.astore 9, 2) := dk_58 9 (dk_at dksJ29_put_2_7 13 rfl rfl)
theorem dJ29_put_2_178 : decode cJ29_put_2 178 = .ok (.iload_n 3, 1) := dk_29 (dk_at dksJ29_put_2_7 15 rfl rfl)
theorem dJ29_put_2_179 : decode cJ29_put_2 179 = .ok (.ifCond .ne 8, 3) := dk_154 0 8 (dk_at dksJ29_put_2_7 16 rfl rfl)
theorem dJ29_put_2_182 : decode cJ29_put_2 182 = .ok (.aload 9, 2) := dk_25 9 (dk_at dksJ29_put_2_7 19 rfl rfl)
theorem dJ29_put_2_184 : decode cJ29_put_2 184 = .ok (.ifnonnull 9, 3) := dk_199 0 9 (dk_at dksJ29_put_2_7 21 rfl rfl)
theorem dJ29_put_2_187 : decode cJ29_put_2 187 = .ok (.aload 4, 2) := dk_25 4 (dk_at dksJ29_put_2_8 0 rfl rfl)
theorem dJ29_put_2_189 : decode cJ29_put_2 189 = .ok (.aload_n 2, 1) := dk_44 (dk_at dksJ29_put_2_8 2 rfl rfl)
theorem dJ29_put_2_190 : decode cJ29_put_2 190 = .ok (.putfield 58, 3) := dk_181 0 58 (dk_at dksJ29_put_2_8 3 rfl rfl)
theorem dJ29_put_2_193 : decode cJ29_put_2 193 = .ok (.aload 9, 2) := dk_25 9 (dk_at dksJ29_put_2_8 6 rfl rfl)
theorem dJ29_put_2_195 : decode cJ29_put_2 195 = .ok (.areturn, 1) := dk_176 (dk_at dksJ29_put_2_8 8 rfl rfl)
theorem dJ29_put_2_196 : decode cJ29_put_2 196 = .ok (.aload 4, 2) := dk_25 4 (dk_at dksJ29_put_2_8 9 rfl rfl)
theorem dJ29_put_2_198 : decode cJ29_put_2 198 = .ok (.ifnonnull (-75), 3) := dk_199 255 181 (dk_at dksJ29_put_2_8 11 rfl rfl)
theorem dJ29_put_2_201 : decode cJ29_put_2 201 = .ok (.aload_n 0, 1) := dk_42 (dk_at dksJ29_put_2_8 14 rfl rfl)
theorem dJ29_put_2_202 : decode cJ29_put_2 202 = .ok (.aload_n 1, 1) := dk_43 (dk_at dksJ29_put_2_8 15 rfl rfl)
theorem dJ29_put_2_203 : decode cJ29_put_2 203 = .ok (.aload_n 2, 1) := dk_44 (dk_at dksJ29_put_2_8 16 rfl rfl)
theorem dJ29_put_2_204 : decode cJ29_put_2 204 = .ok (.aload 6, 2) := dk_25 6 (dk_at dksJ29_put_2_8 17 rfl rfl)
theorem dJ29_put_2_206 : decode cJ29_put_2 206 = .ok (.iload 5, 2) := dk_21 5 (dk_at dksJ29_put_2_8 19 rfl rfl)
theorem dJ29_put_2_208 : decode cJ29_put_2 208 = .ok (.ifCond .ge 7, 3) := dk_156 0 7 (dk_at dksJ29_put_2_8 21 rfl rfl)
theorem dJ29_put_2_211 : decode cJ29_put_2 211 = .ok (.iconst 1, 1) := dk_4 (dk_at dksJ29_put_2_9 0 rfl rfl)
theorem dJ29_put_2_212 : decode cJ29_put_2 212 = .ok (.goto 4, 3) := dk_167 0 4 (dk_at dksJ29_put_2_9 1 rfl rfl)
theorem dJ29_put_2_215 : decode cJ29_put_2 215 = .ok (.iconst 0, 1) := dk_3 (dk_at dksJ29_put_2_9 4 rfl rfl)
theorem dJ29_put_2_216 : decode cJ29_put_2 216 = .ok (.invokevirtual 139, 3) := dk_182 0 139 (dk_at dksJ29_put_2_9 5 rfl rfl)
theorem dJ29_put_2_219 : decode cJ29_put_2 219 = .ok (.aconst_null, 1) := dk_1 (dk_at dksJ29_put_2_9 8 rfl rfl)
theorem dJ29_put_2_220 : decode cJ29_put_2 220 = .ok (.areturn, 1) := dk_176 (dk_at dksJ29_put_2_9 9 rfl rfl)
abbrev cJ29_addEntryToEmptyMap : ByteArray := prog_67_method_30_code
def yJ29_addEntryToEmptyMap : MethodName := ⟨RJ29, "addEntryToEmptyMap", "(Ljava/lang/Object;Ljava/lang/Object;)V"⟩
def dkwJ29_addEntryToEmptyMap_1 : List UInt8 := [181, 0, 7, 42, 89, 180, 0, 13, 4, 96, 181, 0, 13, 177]
abbrev dktJ29_addEntryToEmptyMap_1 : List UInt8 := dkwJ29_addEntryToEmptyMap_1 ++ []
def dkwJ29_addEntryToEmptyMap_0 : List UInt8 := [42, 43, 43, 182, 0, 123, 87, 42, 187, 0, 59, 89, 43, 44, 1, 183, 0, 167, 181, 0, 101, 42, 4]
abbrev dktJ29_addEntryToEmptyMap_0 : List UInt8 := dkwJ29_addEntryToEmptyMap_0 ++ dktJ29_addEntryToEmptyMap_1
theorem dksJ29_addEntryToEmptyMap_0 : cJ29_addEntryToEmptyMap.data.toList.drop 0 = dktJ29_addEntryToEmptyMap_0 := by decide +kernel
theorem dksJ29_addEntryToEmptyMap_1 : cJ29_addEntryToEmptyMap.data.toList.drop 23 = dktJ29_addEntryToEmptyMap_1 := dk_seg dksJ29_addEntryToEmptyMap_0 23 rfl rfl
theorem dJ29_addEntryToEmptyMap_0 : decode cJ29_addEntryToEmptyMap 0 = .ok (.aload_n 0, 1) := dk_42 (dk_at dksJ29_addEntryToEmptyMap_0 0 rfl rfl)
theorem dJ29_addEntryToEmptyMap_1 : decode cJ29_addEntryToEmptyMap 1 = .ok (.aload_n 1, 1) := dk_43 (dk_at dksJ29_addEntryToEmptyMap_0 1 rfl rfl)
theorem dJ29_addEntryToEmptyMap_2 : decode cJ29_addEntryToEmptyMap 2 = .ok (.aload_n 1, 1) := dk_43 (dk_at dksJ29_addEntryToEmptyMap_0 2 rfl rfl)
theorem dJ29_addEntryToEmptyMap_3 : decode cJ29_addEntryToEmptyMap 3 = .ok (.invokevirtual 123, 3) := dk_182 0 123 (dk_at dksJ29_addEntryToEmptyMap_0 3 rfl rfl)
theorem dJ29_addEntryToEmptyMap_6 : decode cJ29_addEntryToEmptyMap 6 = .ok (.pop, 1) := dk_87 (dk_at dksJ29_addEntryToEmptyMap_0 6 rfl rfl)
theorem dJ29_addEntryToEmptyMap_7 : decode cJ29_addEntryToEmptyMap 7 = .ok (.aload_n 0, 1) := dk_42 (dk_at dksJ29_addEntryToEmptyMap_0 7 rfl rfl)
theorem dJ29_addEntryToEmptyMap_8 : decode cJ29_addEntryToEmptyMap 8 = .ok (.new 59, 3) := dk_187 0 59 (dk_at dksJ29_addEntryToEmptyMap_0 8 rfl rfl)
theorem dJ29_addEntryToEmptyMap_11 : decode cJ29_addEntryToEmptyMap 11 = .ok (.dup, 1) := dk_89 (dk_at dksJ29_addEntryToEmptyMap_0 11 rfl rfl)
theorem dJ29_addEntryToEmptyMap_12 : decode cJ29_addEntryToEmptyMap 12 = .ok (.aload_n 1, 1) := dk_43 (dk_at dksJ29_addEntryToEmptyMap_0 12 rfl rfl)
theorem dJ29_addEntryToEmptyMap_13 : decode cJ29_addEntryToEmptyMap 13 = .ok (.aload_n 2, 1) := dk_44 (dk_at dksJ29_addEntryToEmptyMap_0 13 rfl rfl)
theorem dJ29_addEntryToEmptyMap_14 : decode cJ29_addEntryToEmptyMap 14 = .ok (.aconst_null, 1) := dk_1 (dk_at dksJ29_addEntryToEmptyMap_0 14 rfl rfl)
theorem dJ29_addEntryToEmptyMap_15 : decode cJ29_addEntryToEmptyMap 15 = .ok (.invokespecial 167, 3) := dk_183 0 167 (dk_at dksJ29_addEntryToEmptyMap_0 15 rfl rfl)
theorem dJ29_addEntryToEmptyMap_18 : decode cJ29_addEntryToEmptyMap 18 = .ok (.putfield 101, 3) := dk_181 0 101 (dk_at dksJ29_addEntryToEmptyMap_0 18 rfl rfl)
theorem dJ29_addEntryToEmptyMap_21 : decode cJ29_addEntryToEmptyMap 21 = .ok (.aload_n 0, 1) := dk_42 (dk_at dksJ29_addEntryToEmptyMap_0 21 rfl rfl)
theorem dJ29_addEntryToEmptyMap_22 : decode cJ29_addEntryToEmptyMap 22 = .ok (.iconst 1, 1) := dk_4 (dk_at dksJ29_addEntryToEmptyMap_0 22 rfl rfl)
theorem dJ29_addEntryToEmptyMap_23 : decode cJ29_addEntryToEmptyMap 23 = .ok (.putfield 7, 3) := dk_181 0 7 (dk_at dksJ29_addEntryToEmptyMap_1 0 rfl rfl)
theorem dJ29_addEntryToEmptyMap_26 : decode cJ29_addEntryToEmptyMap 26 = .ok (.aload_n 0, 1) := dk_42 (dk_at dksJ29_addEntryToEmptyMap_1 3 rfl rfl)
theorem dJ29_addEntryToEmptyMap_27 : decode cJ29_addEntryToEmptyMap 27 = .ok (.dup, 1) := dk_89 (dk_at dksJ29_addEntryToEmptyMap_1 4 rfl rfl)
theorem dJ29_addEntryToEmptyMap_28 : decode cJ29_addEntryToEmptyMap 28 = .ok (.getfield 13, 3) := dk_180 0 13 (dk_at dksJ29_addEntryToEmptyMap_1 5 rfl rfl)
theorem dJ29_addEntryToEmptyMap_31 : decode cJ29_addEntryToEmptyMap 31 = .ok (.iconst 1, 1) := dk_4 (dk_at dksJ29_addEntryToEmptyMap_1 8 rfl rfl)
theorem dJ29_addEntryToEmptyMap_32 : decode cJ29_addEntryToEmptyMap 32 = .ok (.iadd, 1) := dk_96 (dk_at dksJ29_addEntryToEmptyMap_1 9 rfl rfl)
theorem dJ29_addEntryToEmptyMap_33 : decode cJ29_addEntryToEmptyMap 33 = .ok (.putfield 13, 3) := dk_181 0 13 (dk_at dksJ29_addEntryToEmptyMap_1 10 rfl rfl)
theorem dJ29_addEntryToEmptyMap_36 : decode cJ29_addEntryToEmptyMap 36 = .ok (.return_, 1) := dk_177 (dk_at dksJ29_addEntryToEmptyMap_1 13 rfl rfl)
abbrev cJ29_compare : ByteArray := prog_67_method_67_code
def yJ29_compare : MethodName := ⟨RJ29, "compare", "(Ljava/lang/Object;Ljava/lang/Object;)I"⟩
def dkwJ29_compare_1 : List UInt8 := [43, 44, 185, 0, 117, 3, 0, 172]
abbrev dktJ29_compare_1 : List UInt8 := dkwJ29_compare_1 ++ []
def dkwJ29_compare_0 : List UInt8 := [42, 180, 0, 16, 199, 0, 16, 43, 192, 0, 99, 44, 185, 0, 107, 2, 0, 167, 0, 14, 42, 180, 0, 16]
abbrev dktJ29_compare_0 : List UInt8 := dkwJ29_compare_0 ++ dktJ29_compare_1
theorem dksJ29_compare_0 : cJ29_compare.data.toList.drop 0 = dktJ29_compare_0 := by decide +kernel
theorem dksJ29_compare_1 : cJ29_compare.data.toList.drop 24 = dktJ29_compare_1 := dk_seg dksJ29_compare_0 24 rfl rfl
theorem dJ29_compare_0 : decode cJ29_compare 0 = .ok (.aload_n 0, 1) := dk_42 (dk_at dksJ29_compare_0 0 rfl rfl)
theorem dJ29_compare_1 : decode cJ29_compare 1 = .ok (.getfield 16, 3) := dk_180 0 16 (dk_at dksJ29_compare_0 1 rfl rfl)
theorem dJ29_compare_4 : decode cJ29_compare 4 = .ok (.ifnonnull 16, 3) := dk_199 0 16 (dk_at dksJ29_compare_0 4 rfl rfl)
theorem dJ29_compare_7 : decode cJ29_compare 7 = .ok (.aload_n 1, 1) := dk_43 (dk_at dksJ29_compare_0 7 rfl rfl)
theorem dJ29_compare_8 : decode cJ29_compare 8 = .ok (.checkcast 99, 3) := dk_192 0 99 (dk_at dksJ29_compare_0 8 rfl rfl)
theorem dJ29_compare_11 : decode cJ29_compare 11 = .ok (.aload_n 2, 1) := dk_44 (dk_at dksJ29_compare_0 11 rfl rfl)
theorem dJ29_compare_12 : decode cJ29_compare 12 = .ok (.invokeinterface 107 2, 5) := by decide +kernel
theorem dJ29_compare_17 : decode cJ29_compare 17 = .ok (.goto 14, 3) := dk_167 0 14 (dk_at dksJ29_compare_0 17 rfl rfl)
theorem dJ29_compare_20 : decode cJ29_compare 20 = .ok (.aload_n 0, 1) := dk_42 (dk_at dksJ29_compare_0 20 rfl rfl)
theorem dJ29_compare_21 : decode cJ29_compare 21 = .ok (.getfield 16, 3) := dk_180 0 16 (dk_at dksJ29_compare_0 21 rfl rfl)
theorem dJ29_compare_24 : decode cJ29_compare 24 = .ok (.aload_n 1, 1) := dk_43 (dk_at dksJ29_compare_1 0 rfl rfl)
theorem dJ29_compare_25 : decode cJ29_compare 25 = .ok (.aload_n 2, 1) := dk_44 (dk_at dksJ29_compare_1 1 rfl rfl)
theorem dJ29_compare_26 : decode cJ29_compare 26 = .ok (.invokeinterface 117 3, 5) := by decide +kernel
theorem dJ29_compare_31 : decode cJ29_compare 31 = .ok (.ireturn, 1) := dk_172 (dk_at dksJ29_compare_1 7 rfl rfl)
abbrev cJ29_addEntry : ByteArray := prog_67_method_29_code
def yJ29_addEntry : MethodName := ⟨RJ29, "addEntry", "(Ljava/lang/Object;Ljava/lang/Object;Ljava/util/TreeMap$Entry;Z)V"⟩
def dkwJ29_addEntry_2 : List UInt8 := [181, 0, 7, 42, 89, 180, 0, 13, 4, 96, 181, 0, 13, 177]
abbrev dktJ29_addEntry_2 : List UInt8 := dkwJ29_addEntry_2 ++ []
def dkwJ29_addEntry_1 : List UInt8 := [167, 0, 9, 45, 25, 5, 181, 0, 114, 42, 25, 5, 182, 0, 170, 42, 89, 180, 0, 7, 4, 96]
abbrev dktJ29_addEntry_1 : List UInt8 := dkwJ29_addEntry_1 ++ dktJ29_addEntry_2
def dkwJ29_addEntry_0 : List UInt8 := [187, 0, 59, 89, 43, 44, 45, 183, 0, 167, 58, 5, 21, 4, 153, 0, 12, 45, 25, 5, 181, 0, 111]
abbrev dktJ29_addEntry_0 : List UInt8 := dkwJ29_addEntry_0 ++ dktJ29_addEntry_1
theorem dksJ29_addEntry_0 : cJ29_addEntry.data.toList.drop 0 = dktJ29_addEntry_0 := by decide +kernel
theorem dksJ29_addEntry_1 : cJ29_addEntry.data.toList.drop 23 = dktJ29_addEntry_1 := dk_seg dksJ29_addEntry_0 23 rfl rfl
theorem dksJ29_addEntry_2 : cJ29_addEntry.data.toList.drop 45 = dktJ29_addEntry_2 := dk_seg dksJ29_addEntry_1 22 rfl rfl
theorem dJ29_addEntry_0 : decode cJ29_addEntry 0 = .ok (.new 59, 3) := dk_187 0 59 (dk_at dksJ29_addEntry_0 0 rfl rfl)
theorem dJ29_addEntry_3 : decode cJ29_addEntry 3 = .ok (.dup, 1) := dk_89 (dk_at dksJ29_addEntry_0 3 rfl rfl)
theorem dJ29_addEntry_4 : decode cJ29_addEntry 4 = .ok (.aload_n 1, 1) := dk_43 (dk_at dksJ29_addEntry_0 4 rfl rfl)
theorem dJ29_addEntry_5 : decode cJ29_addEntry 5 = .ok (.aload_n 2, 1) := dk_44 (dk_at dksJ29_addEntry_0 5 rfl rfl)
theorem dJ29_addEntry_6 : decode cJ29_addEntry 6 = .ok (.aload_n 3, 1) := dk_45 (dk_at dksJ29_addEntry_0 6 rfl rfl)
theorem dJ29_addEntry_7 : decode cJ29_addEntry 7 = .ok (.invokespecial 167, 3) := dk_183 0 167 (dk_at dksJ29_addEntry_0 7 rfl rfl)
theorem dJ29_addEntry_10 : decode cJ29_addEntry 10 = .ok (.astore 5, 2) := dk_58 5 (dk_at dksJ29_addEntry_0 10 rfl rfl)
theorem dJ29_addEntry_12 : decode cJ29_addEntry 12 = .ok (.iload 4, 2) := dk_21 4 (dk_at dksJ29_addEntry_0 12 rfl rfl)
theorem dJ29_addEntry_14 : decode cJ29_addEntry 14 = .ok (.ifCond .eq 12, 3) := dk_153 0 12 (dk_at dksJ29_addEntry_0 14 rfl rfl)
theorem dJ29_addEntry_17 : decode cJ29_addEntry 17 = .ok (.aload_n 3, 1) := dk_45 (dk_at dksJ29_addEntry_0 17 rfl rfl)
theorem dJ29_addEntry_18 : decode cJ29_addEntry 18 = .ok (.aload 5, 2) := dk_25 5 (dk_at dksJ29_addEntry_0 18 rfl rfl)
theorem dJ29_addEntry_20 : decode cJ29_addEntry 20 = .ok (.putfield 111, 3) := dk_181 0 111 (dk_at dksJ29_addEntry_0 20 rfl rfl)
theorem dJ29_addEntry_23 : decode cJ29_addEntry 23 = .ok (.goto 9, 3) := dk_167 0 9 (dk_at dksJ29_addEntry_1 0 rfl rfl)
theorem dJ29_addEntry_26 : decode cJ29_addEntry 26 = .ok (.aload_n 3, 1) := dk_45 (dk_at dksJ29_addEntry_1 3 rfl rfl)
theorem dJ29_addEntry_27 : decode cJ29_addEntry 27 = .ok (.aload 5, 2) := dk_25 5 (dk_at dksJ29_addEntry_1 4 rfl rfl)
theorem dJ29_addEntry_29 : decode cJ29_addEntry 29 = .ok (.putfield 114, 3) := dk_181 0 114 (dk_at dksJ29_addEntry_1 6 rfl rfl)
theorem dJ29_addEntry_32 : decode cJ29_addEntry 32 = .ok (.aload_n 0, 1) := dk_42 (dk_at dksJ29_addEntry_1 9 rfl rfl)
theorem dJ29_addEntry_33 : decode cJ29_addEntry 33 = .ok (.aload 5, 2) := dk_25 5 (dk_at dksJ29_addEntry_1 10 rfl rfl)
theorem dJ29_addEntry_35 : decode cJ29_addEntry 35 = .ok (.invokevirtual 170, 3) := dk_182 0 170 (dk_at dksJ29_addEntry_1 12 rfl rfl)
theorem dJ29_addEntry_38 : decode cJ29_addEntry 38 = .ok (.aload_n 0, 1) := dk_42 (dk_at dksJ29_addEntry_1 15 rfl rfl)
theorem dJ29_addEntry_39 : decode cJ29_addEntry 39 = .ok (.dup, 1) := dk_89 (dk_at dksJ29_addEntry_1 16 rfl rfl)
theorem dJ29_addEntry_40 : decode cJ29_addEntry 40 = .ok (.getfield 7, 3) := dk_180 0 7 (dk_at dksJ29_addEntry_1 17 rfl rfl)
theorem dJ29_addEntry_43 : decode cJ29_addEntry 43 = .ok (.iconst 1, 1) := dk_4 (dk_at dksJ29_addEntry_1 20 rfl rfl)
theorem dJ29_addEntry_44 : decode cJ29_addEntry 44 = .ok (.iadd, 1) := dk_96 (dk_at dksJ29_addEntry_1 21 rfl rfl)
theorem dJ29_addEntry_45 : decode cJ29_addEntry 45 = .ok (.putfield 7, 3) := dk_181 0 7 (dk_at dksJ29_addEntry_2 0 rfl rfl)
theorem dJ29_addEntry_48 : decode cJ29_addEntry 48 = .ok (.aload_n 0, 1) := dk_42 (dk_at dksJ29_addEntry_2 3 rfl rfl)
theorem dJ29_addEntry_49 : decode cJ29_addEntry 49 = .ok (.dup, 1) := dk_89 (dk_at dksJ29_addEntry_2 4 rfl rfl)
theorem dJ29_addEntry_50 : decode cJ29_addEntry 50 = .ok (.getfield 13, 3) := dk_180 0 13 (dk_at dksJ29_addEntry_2 5 rfl rfl)
theorem dJ29_addEntry_53 : decode cJ29_addEntry 53 = .ok (.iconst 1, 1) := dk_4 (dk_at dksJ29_addEntry_2 8 rfl rfl)
theorem dJ29_addEntry_54 : decode cJ29_addEntry 54 = .ok (.iadd, 1) := dk_96 (dk_at dksJ29_addEntry_2 9 rfl rfl)
theorem dJ29_addEntry_55 : decode cJ29_addEntry 55 = .ok (.putfield 13, 3) := dk_181 0 13 (dk_at dksJ29_addEntry_2 10 rfl rfl)
theorem dJ29_addEntry_58 : decode cJ29_addEntry 58 = .ok (.return_, 1) := dk_177 (dk_at dksJ29_addEntry_2 13 rfl rfl)
abbrev cJ29_fixAfterInsertion : ByteArray := prog_67_method_83_code
def yJ29_fixAfterInsertion : MethodName := ⟨RJ29, "fixAfterInsertion", "(Ljava/util/TreeMap$Entry;)V"⟩
def dkwJ29_fixAfterInsertion_11 : List UInt8 := [42, 180, 0, 101, 4, 181, 1, 34, 177]
abbrev dktJ29_fixAfterInsertion_11 : List UInt8 := dkwJ29_fixAfterInsertion_11 ++ []
def dkwJ29_fixAfterInsertion_10 : List UInt8 := [184, 1, 38, 184, 1, 38, 3, 184, 1, 51, 42, 43, 184, 1, 38, 184, 1, 38, 182, 1, 55, 167, 255, 6]
abbrev dktJ29_fixAfterInsertion_10 : List UInt8 := dkwJ29_fixAfterInsertion_10 ++ dktJ29_fixAfterInsertion_11
def dkwJ29_fixAfterInsertion_9 : List UInt8 := [166, 0, 13, 43, 184, 1, 38, 76, 42, 43, 182, 1, 58, 43, 184, 1, 38, 4, 184, 1, 51, 43]
abbrev dktJ29_fixAfterInsertion_9 : List UInt8 := dkwJ29_fixAfterInsertion_9 ++ dktJ29_fixAfterInsertion_10
def dkwJ29_fixAfterInsertion_8 : List UInt8 := [184, 1, 51, 43, 184, 1, 38, 184, 1, 38, 76, 167, 0, 54, 43, 43, 184, 1, 38, 184, 1, 41]
abbrev dktJ29_fixAfterInsertion_8 : List UInt8 := dkwJ29_fixAfterInsertion_8 ++ dktJ29_fixAfterInsertion_9
def dkwJ29_fixAfterInsertion_7 : List UInt8 := [154, 0, 38, 43, 184, 1, 38, 4, 184, 1, 51, 44, 4, 184, 1, 51, 43, 184, 1, 38, 184, 1, 38, 3]
abbrev dktJ29_fixAfterInsertion_7 : List UInt8 := dkwJ29_fixAfterInsertion_7 ++ dktJ29_fixAfterInsertion_8
def dkwJ29_fixAfterInsertion_6 : List UInt8 := [184, 1, 38, 182, 1, 58, 167, 255, 113, 43, 184, 1, 38, 184, 1, 38, 184, 1, 41, 77, 44, 184, 1, 47]
abbrev dktJ29_fixAfterInsertion_6 : List UInt8 := dkwJ29_fixAfterInsertion_6 ++ dktJ29_fixAfterInsertion_7
def dkwJ29_fixAfterInsertion_5 : List UInt8 := [43, 184, 1, 38, 4, 184, 1, 51, 43, 184, 1, 38, 184, 1, 38, 3, 184, 1, 51, 42, 43, 184, 1, 38]
abbrev dktJ29_fixAfterInsertion_5 : List UInt8 := dkwJ29_fixAfterInsertion_5 ++ dktJ29_fixAfterInsertion_6
def dkwJ29_fixAfterInsertion_4 : List UInt8 := [167, 0, 54, 43, 43, 184, 1, 38, 184, 1, 44, 166, 0, 13, 43, 184, 1, 38, 76, 42, 43, 182, 1, 55]
abbrev dktJ29_fixAfterInsertion_4 : List UInt8 := dkwJ29_fixAfterInsertion_4 ++ dktJ29_fixAfterInsertion_5
def dkwJ29_fixAfterInsertion_3 : List UInt8 := [184, 1, 51, 43, 184, 1, 38, 184, 1, 38, 3, 184, 1, 51, 43, 184, 1, 38, 184, 1, 38, 76]
abbrev dktJ29_fixAfterInsertion_3 : List UInt8 := dkwJ29_fixAfterInsertion_3 ++ dktJ29_fixAfterInsertion_4
def dkwJ29_fixAfterInsertion_2 : List UInt8 := [184, 1, 38, 184, 1, 44, 77, 44, 184, 1, 47, 154, 0, 38, 43, 184, 1, 38, 4, 184, 1, 51, 44, 4]
abbrev dktJ29_fixAfterInsertion_2 : List UInt8 := dkwJ29_fixAfterInsertion_2 ++ dktJ29_fixAfterInsertion_3
def dkwJ29_fixAfterInsertion_1 : List UInt8 := [154, 0, 234, 43, 184, 1, 38, 43, 184, 1, 38, 184, 1, 38, 184, 1, 41, 166, 0, 110, 43, 184, 1, 38]
abbrev dktJ29_fixAfterInsertion_1 : List UInt8 := dkwJ29_fixAfterInsertion_1 ++ dktJ29_fixAfterInsertion_2
def dkwJ29_fixAfterInsertion_0 : List UInt8 := [43, 3, 181, 1, 34, 43, 198, 0, 252, 43, 42, 180, 0, 101, 165, 0, 244, 43, 180, 0, 124, 180, 1, 34]
abbrev dktJ29_fixAfterInsertion_0 : List UInt8 := dkwJ29_fixAfterInsertion_0 ++ dktJ29_fixAfterInsertion_1
theorem dksJ29_fixAfterInsertion_0 : cJ29_fixAfterInsertion.data.toList.drop 0 = dktJ29_fixAfterInsertion_0 := by decide +kernel
theorem dksJ29_fixAfterInsertion_1 : cJ29_fixAfterInsertion.data.toList.drop 24 = dktJ29_fixAfterInsertion_1 := dk_seg dksJ29_fixAfterInsertion_0 24 rfl rfl
theorem dksJ29_fixAfterInsertion_2 : cJ29_fixAfterInsertion.data.toList.drop 48 = dktJ29_fixAfterInsertion_2 := dk_seg dksJ29_fixAfterInsertion_1 24 rfl rfl
theorem dksJ29_fixAfterInsertion_3 : cJ29_fixAfterInsertion.data.toList.drop 72 = dktJ29_fixAfterInsertion_3 := dk_seg dksJ29_fixAfterInsertion_2 24 rfl rfl
theorem dksJ29_fixAfterInsertion_4 : cJ29_fixAfterInsertion.data.toList.drop 94 = dktJ29_fixAfterInsertion_4 := dk_seg dksJ29_fixAfterInsertion_3 22 rfl rfl
theorem dksJ29_fixAfterInsertion_5 : cJ29_fixAfterInsertion.data.toList.drop 118 = dktJ29_fixAfterInsertion_5 := dk_seg dksJ29_fixAfterInsertion_4 24 rfl rfl
theorem dksJ29_fixAfterInsertion_6 : cJ29_fixAfterInsertion.data.toList.drop 142 = dktJ29_fixAfterInsertion_6 := dk_seg dksJ29_fixAfterInsertion_5 24 rfl rfl
theorem dksJ29_fixAfterInsertion_7 : cJ29_fixAfterInsertion.data.toList.drop 166 = dktJ29_fixAfterInsertion_7 := dk_seg dksJ29_fixAfterInsertion_6 24 rfl rfl
theorem dksJ29_fixAfterInsertion_8 : cJ29_fixAfterInsertion.data.toList.drop 190 = dktJ29_fixAfterInsertion_8 := dk_seg dksJ29_fixAfterInsertion_7 24 rfl rfl
theorem dksJ29_fixAfterInsertion_9 : cJ29_fixAfterInsertion.data.toList.drop 212 = dktJ29_fixAfterInsertion_9 := dk_seg dksJ29_fixAfterInsertion_8 22 rfl rfl
theorem dksJ29_fixAfterInsertion_10 : cJ29_fixAfterInsertion.data.toList.drop 234 = dktJ29_fixAfterInsertion_10 := dk_seg dksJ29_fixAfterInsertion_9 22 rfl rfl
theorem dksJ29_fixAfterInsertion_11 : cJ29_fixAfterInsertion.data.toList.drop 258 = dktJ29_fixAfterInsertion_11 := dk_seg dksJ29_fixAfterInsertion_10 24 rfl rfl
theorem dJ29_fixAfterInsertion_0 : decode cJ29_fixAfterInsertion 0 = .ok (.aload_n 1, 1) := dk_43 (dk_at dksJ29_fixAfterInsertion_0 0 rfl rfl)
theorem dJ29_fixAfterInsertion_1 : decode cJ29_fixAfterInsertion 1 = .ok (.iconst 0, 1) := dk_3 (dk_at dksJ29_fixAfterInsertion_0 1 rfl rfl)
theorem dJ29_fixAfterInsertion_2 : decode cJ29_fixAfterInsertion 2 = .ok (.putfield 290, 3) := dk_181 1 34 (dk_at dksJ29_fixAfterInsertion_0 2 rfl rfl)
theorem dJ29_fixAfterInsertion_5 : decode cJ29_fixAfterInsertion 5 = .ok (.aload_n 1, 1) := dk_43 (dk_at dksJ29_fixAfterInsertion_0 5 rfl rfl)
theorem dJ29_fixAfterInsertion_6 : decode cJ29_fixAfterInsertion 6 = .ok (.ifnull 252, 3) := dk_198 0 252 (dk_at dksJ29_fixAfterInsertion_0 6 rfl rfl)
theorem dJ29_fixAfterInsertion_9 : decode cJ29_fixAfterInsertion 9 = .ok (.aload_n 1, 1) := dk_43 (dk_at dksJ29_fixAfterInsertion_0 9 rfl rfl)
theorem dJ29_fixAfterInsertion_10 : decode cJ29_fixAfterInsertion 10 = .ok (.aload_n 0, 1) := dk_42 (dk_at dksJ29_fixAfterInsertion_0 10 rfl rfl)
theorem dJ29_fixAfterInsertion_11 : decode cJ29_fixAfterInsertion 11 = .ok (.getfield 101, 3) := dk_180 0 101 (dk_at dksJ29_fixAfterInsertion_0 11 rfl rfl)
theorem dJ29_fixAfterInsertion_14 : decode cJ29_fixAfterInsertion 14 = .ok (.if_acmp .eq 244, 3) := dk_165 0 244 (dk_at dksJ29_fixAfterInsertion_0 14 rfl rfl)
theorem dJ29_fixAfterInsertion_17 : decode cJ29_fixAfterInsertion 17 = .ok (.aload_n 1, 1) := dk_43 (dk_at dksJ29_fixAfterInsertion_0 17 rfl rfl)
theorem dJ29_fixAfterInsertion_18 : decode cJ29_fixAfterInsertion 18 = .ok (.getfield 124, 3) := dk_180 0 124 (dk_at dksJ29_fixAfterInsertion_0 18 rfl rfl)
theorem dJ29_fixAfterInsertion_21 : decode cJ29_fixAfterInsertion 21 = .ok (.getfield 290, 3) := dk_180 1 34 (dk_at dksJ29_fixAfterInsertion_0 21 rfl rfl)
theorem dJ29_fixAfterInsertion_24 : decode cJ29_fixAfterInsertion 24 = .ok (.ifCond .ne 234, 3) := dk_154 0 234 (dk_at dksJ29_fixAfterInsertion_1 0 rfl rfl)
theorem dJ29_fixAfterInsertion_27 : decode cJ29_fixAfterInsertion 27 = .ok (.aload_n 1, 1) := dk_43 (dk_at dksJ29_fixAfterInsertion_1 3 rfl rfl)
theorem dJ29_fixAfterInsertion_28 : decode cJ29_fixAfterInsertion 28 = .ok (.invokestatic 294, 3) := dk_184 1 38 (dk_at dksJ29_fixAfterInsertion_1 4 rfl rfl)
theorem dJ29_fixAfterInsertion_31 : decode cJ29_fixAfterInsertion 31 = .ok (.aload_n 1, 1) := dk_43 (dk_at dksJ29_fixAfterInsertion_1 7 rfl rfl)
theorem dJ29_fixAfterInsertion_32 : decode cJ29_fixAfterInsertion 32 = .ok (.invokestatic 294, 3) := dk_184 1 38 (dk_at dksJ29_fixAfterInsertion_1 8 rfl rfl)
theorem dJ29_fixAfterInsertion_35 : decode cJ29_fixAfterInsertion 35 = .ok (.invokestatic 294, 3) := dk_184 1 38 (dk_at dksJ29_fixAfterInsertion_1 11 rfl rfl)
theorem dJ29_fixAfterInsertion_38 : decode cJ29_fixAfterInsertion 38 = .ok (.invokestatic 297, 3) := dk_184 1 41 (dk_at dksJ29_fixAfterInsertion_1 14 rfl rfl)
theorem dJ29_fixAfterInsertion_41 : decode cJ29_fixAfterInsertion 41 = .ok (.if_acmp .ne 110, 3) := dk_166 0 110 (dk_at dksJ29_fixAfterInsertion_1 17 rfl rfl)
theorem dJ29_fixAfterInsertion_44 : decode cJ29_fixAfterInsertion 44 = .ok (.aload_n 1, 1) := dk_43 (dk_at dksJ29_fixAfterInsertion_1 20 rfl rfl)
theorem dJ29_fixAfterInsertion_45 : decode cJ29_fixAfterInsertion 45 = .ok (.invokestatic 294, 3) := dk_184 1 38 (dk_at dksJ29_fixAfterInsertion_1 21 rfl rfl)
theorem dJ29_fixAfterInsertion_48 : decode cJ29_fixAfterInsertion 48 = .ok (.invokestatic 294, 3) := dk_184 1 38 (dk_at dksJ29_fixAfterInsertion_2 0 rfl rfl)
theorem dJ29_fixAfterInsertion_51 : decode cJ29_fixAfterInsertion 51 = .ok (.invokestatic 300, 3) := dk_184 1 44 (dk_at dksJ29_fixAfterInsertion_2 3 rfl rfl)
theorem dJ29_fixAfterInsertion_54 : decode cJ29_fixAfterInsertion 54 = .ok (.astore_n 2, 1) := dk_77 (dk_at dksJ29_fixAfterInsertion_2 6 rfl rfl)
theorem dJ29_fixAfterInsertion_55 : decode cJ29_fixAfterInsertion 55 = .ok (.aload_n 2, 1) := dk_44 (dk_at dksJ29_fixAfterInsertion_2 7 rfl rfl)
theorem dJ29_fixAfterInsertion_56 : decode cJ29_fixAfterInsertion 56 = .ok (.invokestatic 303, 3) := dk_184 1 47 (dk_at dksJ29_fixAfterInsertion_2 8 rfl rfl)
theorem dJ29_fixAfterInsertion_59 : decode cJ29_fixAfterInsertion 59 = .ok (.ifCond .ne 38, 3) := dk_154 0 38 (dk_at dksJ29_fixAfterInsertion_2 11 rfl rfl)
theorem dJ29_fixAfterInsertion_62 : decode cJ29_fixAfterInsertion 62 = .ok (.aload_n 1, 1) := dk_43 (dk_at dksJ29_fixAfterInsertion_2 14 rfl rfl)
theorem dJ29_fixAfterInsertion_63 : decode cJ29_fixAfterInsertion 63 = .ok (.invokestatic 294, 3) := dk_184 1 38 (dk_at dksJ29_fixAfterInsertion_2 15 rfl rfl)
theorem dJ29_fixAfterInsertion_66 : decode cJ29_fixAfterInsertion 66 = .ok (.iconst 1, 1) := dk_4 (dk_at dksJ29_fixAfterInsertion_2 18 rfl rfl)
theorem dJ29_fixAfterInsertion_67 : decode cJ29_fixAfterInsertion 67 = .ok (.invokestatic 307, 3) := dk_184 1 51 (dk_at dksJ29_fixAfterInsertion_2 19 rfl rfl)
theorem dJ29_fixAfterInsertion_70 : decode cJ29_fixAfterInsertion 70 = .ok (.aload_n 2, 1) := dk_44 (dk_at dksJ29_fixAfterInsertion_2 22 rfl rfl)
theorem dJ29_fixAfterInsertion_71 : decode cJ29_fixAfterInsertion 71 = .ok (.iconst 1, 1) := dk_4 (dk_at dksJ29_fixAfterInsertion_2 23 rfl rfl)
theorem dJ29_fixAfterInsertion_72 : decode cJ29_fixAfterInsertion 72 = .ok (.invokestatic 307, 3) := dk_184 1 51 (dk_at dksJ29_fixAfterInsertion_3 0 rfl rfl)
theorem dJ29_fixAfterInsertion_75 : decode cJ29_fixAfterInsertion 75 = .ok (.aload_n 1, 1) := dk_43 (dk_at dksJ29_fixAfterInsertion_3 3 rfl rfl)
theorem dJ29_fixAfterInsertion_76 : decode cJ29_fixAfterInsertion 76 = .ok (.invokestatic 294, 3) := dk_184 1 38 (dk_at dksJ29_fixAfterInsertion_3 4 rfl rfl)
theorem dJ29_fixAfterInsertion_79 : decode cJ29_fixAfterInsertion 79 = .ok (.invokestatic 294, 3) := dk_184 1 38 (dk_at dksJ29_fixAfterInsertion_3 7 rfl rfl)
theorem dJ29_fixAfterInsertion_82 : decode cJ29_fixAfterInsertion 82 = .ok (.iconst 0, 1) := dk_3 (dk_at dksJ29_fixAfterInsertion_3 10 rfl rfl)
theorem dJ29_fixAfterInsertion_83 : decode cJ29_fixAfterInsertion 83 = .ok (.invokestatic 307, 3) := dk_184 1 51 (dk_at dksJ29_fixAfterInsertion_3 11 rfl rfl)
theorem dJ29_fixAfterInsertion_86 : decode cJ29_fixAfterInsertion 86 = .ok (.aload_n 1, 1) := dk_43 (dk_at dksJ29_fixAfterInsertion_3 14 rfl rfl)
theorem dJ29_fixAfterInsertion_87 : decode cJ29_fixAfterInsertion 87 = .ok (.invokestatic 294, 3) := dk_184 1 38 (dk_at dksJ29_fixAfterInsertion_3 15 rfl rfl)
theorem dJ29_fixAfterInsertion_90 : decode cJ29_fixAfterInsertion 90 = .ok (.invokestatic 294, 3) := dk_184 1 38 (dk_at dksJ29_fixAfterInsertion_3 18 rfl rfl)
theorem dJ29_fixAfterInsertion_93 : decode cJ29_fixAfterInsertion 93 = .ok (.astore_n 1, 1) := dk_76 (dk_at dksJ29_fixAfterInsertion_3 21 rfl rfl)
theorem dJ29_fixAfterInsertion_94 : decode cJ29_fixAfterInsertion 94 = .ok (.goto 54, 3) := dk_167 0 54 (dk_at dksJ29_fixAfterInsertion_4 0 rfl rfl)
theorem dJ29_fixAfterInsertion_97 : decode cJ29_fixAfterInsertion 97 = .ok (.aload_n 1, 1) := dk_43 (dk_at dksJ29_fixAfterInsertion_4 3 rfl rfl)
theorem dJ29_fixAfterInsertion_98 : decode cJ29_fixAfterInsertion 98 = .ok (.aload_n 1, 1) := dk_43 (dk_at dksJ29_fixAfterInsertion_4 4 rfl rfl)
theorem dJ29_fixAfterInsertion_99 : decode cJ29_fixAfterInsertion 99 = .ok (.invokestatic 294, 3) := dk_184 1 38 (dk_at dksJ29_fixAfterInsertion_4 5 rfl rfl)
theorem dJ29_fixAfterInsertion_102 : decode cJ29_fixAfterInsertion 102 = .ok (.invokestatic 300, 3) := dk_184 1 44 (dk_at dksJ29_fixAfterInsertion_4 8 rfl rfl)
theorem dJ29_fixAfterInsertion_105 : decode cJ29_fixAfterInsertion 105 = .ok (.if_acmp .ne 13, 3) := dk_166 0 13 (dk_at dksJ29_fixAfterInsertion_4 11 rfl rfl)
theorem dJ29_fixAfterInsertion_108 : decode cJ29_fixAfterInsertion 108 = .ok (.aload_n 1, 1) := dk_43 (dk_at dksJ29_fixAfterInsertion_4 14 rfl rfl)
theorem dJ29_fixAfterInsertion_109 : decode cJ29_fixAfterInsertion 109 = .ok (.invokestatic 294, 3) := dk_184 1 38 (dk_at dksJ29_fixAfterInsertion_4 15 rfl rfl)
theorem dJ29_fixAfterInsertion_112 : decode cJ29_fixAfterInsertion 112 = .ok (.astore_n 1, 1) := dk_76 (dk_at dksJ29_fixAfterInsertion_4 18 rfl rfl)
theorem dJ29_fixAfterInsertion_113 : decode cJ29_fixAfterInsertion 113 = .ok (.aload_n 0, 1) := dk_42 (dk_at dksJ29_fixAfterInsertion_4 19 rfl rfl)
theorem dJ29_fixAfterInsertion_114 : decode cJ29_fixAfterInsertion 114 = .ok (.aload_n 1, 1) := dk_43 (dk_at dksJ29_fixAfterInsertion_4 20 rfl rfl)
theorem dJ29_fixAfterInsertion_115 : decode cJ29_fixAfterInsertion 115 = .ok (.invokevirtual 311, 3) := dk_182 1 55 (dk_at dksJ29_fixAfterInsertion_4 21 rfl rfl)
theorem dJ29_fixAfterInsertion_118 : decode cJ29_fixAfterInsertion 118 = .ok (.aload_n 1, 1) := dk_43 (dk_at dksJ29_fixAfterInsertion_5 0 rfl rfl)
theorem dJ29_fixAfterInsertion_119 : decode cJ29_fixAfterInsertion 119 = .ok (.invokestatic 294, 3) := dk_184 1 38 (dk_at dksJ29_fixAfterInsertion_5 1 rfl rfl)
theorem dJ29_fixAfterInsertion_122 : decode cJ29_fixAfterInsertion 122 = .ok (.iconst 1, 1) := dk_4 (dk_at dksJ29_fixAfterInsertion_5 4 rfl rfl)
theorem dJ29_fixAfterInsertion_123 : decode cJ29_fixAfterInsertion 123 = .ok (.invokestatic 307, 3) := dk_184 1 51 (dk_at dksJ29_fixAfterInsertion_5 5 rfl rfl)
theorem dJ29_fixAfterInsertion_126 : decode cJ29_fixAfterInsertion 126 = .ok (.aload_n 1, 1) := dk_43 (dk_at dksJ29_fixAfterInsertion_5 8 rfl rfl)
theorem dJ29_fixAfterInsertion_127 : decode cJ29_fixAfterInsertion 127 = .ok (.invokestatic 294, 3) := dk_184 1 38 (dk_at dksJ29_fixAfterInsertion_5 9 rfl rfl)
theorem dJ29_fixAfterInsertion_130 : decode cJ29_fixAfterInsertion 130 = .ok (.invokestatic 294, 3) := dk_184 1 38 (dk_at dksJ29_fixAfterInsertion_5 12 rfl rfl)
theorem dJ29_fixAfterInsertion_133 : decode cJ29_fixAfterInsertion 133 = .ok (.iconst 0, 1) := dk_3 (dk_at dksJ29_fixAfterInsertion_5 15 rfl rfl)
theorem dJ29_fixAfterInsertion_134 : decode cJ29_fixAfterInsertion 134 = .ok (.invokestatic 307, 3) := dk_184 1 51 (dk_at dksJ29_fixAfterInsertion_5 16 rfl rfl)
theorem dJ29_fixAfterInsertion_137 : decode cJ29_fixAfterInsertion 137 = .ok (.aload_n 0, 1) := dk_42 (dk_at dksJ29_fixAfterInsertion_5 19 rfl rfl)
theorem dJ29_fixAfterInsertion_138 : decode cJ29_fixAfterInsertion 138 = .ok (.aload_n 1, 1) := dk_43 (dk_at dksJ29_fixAfterInsertion_5 20 rfl rfl)
theorem dJ29_fixAfterInsertion_139 : decode cJ29_fixAfterInsertion 139 = .ok (.invokestatic 294, 3) := dk_184 1 38 (dk_at dksJ29_fixAfterInsertion_5 21 rfl rfl)
theorem dJ29_fixAfterInsertion_142 : decode cJ29_fixAfterInsertion 142 = .ok (.invokestatic 294, 3) := dk_184 1 38 (dk_at dksJ29_fixAfterInsertion_6 0 rfl rfl)
theorem dJ29_fixAfterInsertion_145 : decode cJ29_fixAfterInsertion 145 = .ok (.invokevirtual 314, 3) := dk_182 1 58 (dk_at dksJ29_fixAfterInsertion_6 3 rfl rfl)
theorem dJ29_fixAfterInsertion_148 : decode cJ29_fixAfterInsertion 148 = .ok (.goto (-143), 3) := dk_167 255 113 (dk_at dksJ29_fixAfterInsertion_6 6 rfl rfl)
theorem dJ29_fixAfterInsertion_151 : decode cJ29_fixAfterInsertion 151 = .ok (.aload_n 1, 1) := dk_43 (dk_at dksJ29_fixAfterInsertion_6 9 rfl rfl)
theorem dJ29_fixAfterInsertion_152 : decode cJ29_fixAfterInsertion 152 = .ok (.invokestatic 294, 3) := dk_184 1 38 (dk_at dksJ29_fixAfterInsertion_6 10 rfl rfl)
theorem dJ29_fixAfterInsertion_155 : decode cJ29_fixAfterInsertion 155 = .ok (.invokestatic 294, 3) := dk_184 1 38 (dk_at dksJ29_fixAfterInsertion_6 13 rfl rfl)
theorem dJ29_fixAfterInsertion_158 : decode cJ29_fixAfterInsertion 158 = .ok (.invokestatic 297, 3) := dk_184 1 41 (dk_at dksJ29_fixAfterInsertion_6 16 rfl rfl)
theorem dJ29_fixAfterInsertion_161 : decode cJ29_fixAfterInsertion 161 = .ok (.astore_n 2, 1) := dk_77 (dk_at dksJ29_fixAfterInsertion_6 19 rfl rfl)
theorem dJ29_fixAfterInsertion_162 : decode cJ29_fixAfterInsertion 162 = .ok (.aload_n 2, 1) := dk_44 (dk_at dksJ29_fixAfterInsertion_6 20 rfl rfl)
theorem dJ29_fixAfterInsertion_163 : decode cJ29_fixAfterInsertion 163 = .ok (.invokestatic 303, 3) := dk_184 1 47 (dk_at dksJ29_fixAfterInsertion_6 21 rfl rfl)
theorem dJ29_fixAfterInsertion_166 : decode cJ29_fixAfterInsertion 166 = .ok (.ifCond .ne 38, 3) := dk_154 0 38 (dk_at dksJ29_fixAfterInsertion_7 0 rfl rfl)
theorem dJ29_fixAfterInsertion_169 : decode cJ29_fixAfterInsertion 169 = .ok (.aload_n 1, 1) := dk_43 (dk_at dksJ29_fixAfterInsertion_7 3 rfl rfl)
theorem dJ29_fixAfterInsertion_170 : decode cJ29_fixAfterInsertion 170 = .ok (.invokestatic 294, 3) := dk_184 1 38 (dk_at dksJ29_fixAfterInsertion_7 4 rfl rfl)
theorem dJ29_fixAfterInsertion_173 : decode cJ29_fixAfterInsertion 173 = .ok (.iconst 1, 1) := dk_4 (dk_at dksJ29_fixAfterInsertion_7 7 rfl rfl)
theorem dJ29_fixAfterInsertion_174 : decode cJ29_fixAfterInsertion 174 = .ok (.invokestatic 307, 3) := dk_184 1 51 (dk_at dksJ29_fixAfterInsertion_7 8 rfl rfl)
theorem dJ29_fixAfterInsertion_177 : decode cJ29_fixAfterInsertion 177 = .ok (.aload_n 2, 1) := dk_44 (dk_at dksJ29_fixAfterInsertion_7 11 rfl rfl)
theorem dJ29_fixAfterInsertion_178 : decode cJ29_fixAfterInsertion 178 = .ok (.iconst 1, 1) := dk_4 (dk_at dksJ29_fixAfterInsertion_7 12 rfl rfl)
theorem dJ29_fixAfterInsertion_179 : decode cJ29_fixAfterInsertion 179 = .ok (.invokestatic 307, 3) := dk_184 1 51 (dk_at dksJ29_fixAfterInsertion_7 13 rfl rfl)
theorem dJ29_fixAfterInsertion_182 : decode cJ29_fixAfterInsertion 182 = .ok (.aload_n 1, 1) := dk_43 (dk_at dksJ29_fixAfterInsertion_7 16 rfl rfl)
theorem dJ29_fixAfterInsertion_183 : decode cJ29_fixAfterInsertion 183 = .ok (.invokestatic 294, 3) := dk_184 1 38 (dk_at dksJ29_fixAfterInsertion_7 17 rfl rfl)
theorem dJ29_fixAfterInsertion_186 : decode cJ29_fixAfterInsertion 186 = .ok (.invokestatic 294, 3) := dk_184 1 38 (dk_at dksJ29_fixAfterInsertion_7 20 rfl rfl)
theorem dJ29_fixAfterInsertion_189 : decode cJ29_fixAfterInsertion 189 = .ok (.iconst 0, 1) := dk_3 (dk_at dksJ29_fixAfterInsertion_7 23 rfl rfl)
theorem dJ29_fixAfterInsertion_190 : decode cJ29_fixAfterInsertion 190 = .ok (.invokestatic 307, 3) := dk_184 1 51 (dk_at dksJ29_fixAfterInsertion_8 0 rfl rfl)
theorem dJ29_fixAfterInsertion_193 : decode cJ29_fixAfterInsertion 193 = .ok (.aload_n 1, 1) := dk_43 (dk_at dksJ29_fixAfterInsertion_8 3 rfl rfl)
theorem dJ29_fixAfterInsertion_194 : decode cJ29_fixAfterInsertion 194 = .ok (.invokestatic 294, 3) := dk_184 1 38 (dk_at dksJ29_fixAfterInsertion_8 4 rfl rfl)
theorem dJ29_fixAfterInsertion_197 : decode cJ29_fixAfterInsertion 197 = .ok (.invokestatic 294, 3) := dk_184 1 38 (dk_at dksJ29_fixAfterInsertion_8 7 rfl rfl)
theorem dJ29_fixAfterInsertion_200 : decode cJ29_fixAfterInsertion 200 = .ok (.astore_n 1, 1) := dk_76 (dk_at dksJ29_fixAfterInsertion_8 10 rfl rfl)
theorem dJ29_fixAfterInsertion_201 : decode cJ29_fixAfterInsertion 201 = .ok (.goto 54, 3) := dk_167 0 54 (dk_at dksJ29_fixAfterInsertion_8 11 rfl rfl)
theorem dJ29_fixAfterInsertion_204 : decode cJ29_fixAfterInsertion 204 = .ok (.aload_n 1, 1) := dk_43 (dk_at dksJ29_fixAfterInsertion_8 14 rfl rfl)
theorem dJ29_fixAfterInsertion_205 : decode cJ29_fixAfterInsertion 205 = .ok (.aload_n 1, 1) := dk_43 (dk_at dksJ29_fixAfterInsertion_8 15 rfl rfl)
theorem dJ29_fixAfterInsertion_206 : decode cJ29_fixAfterInsertion 206 = .ok (.invokestatic 294, 3) := dk_184 1 38 (dk_at dksJ29_fixAfterInsertion_8 16 rfl rfl)
theorem dJ29_fixAfterInsertion_209 : decode cJ29_fixAfterInsertion 209 = .ok (.invokestatic 297, 3) := dk_184 1 41 (dk_at dksJ29_fixAfterInsertion_8 19 rfl rfl)
theorem dJ29_fixAfterInsertion_212 : decode cJ29_fixAfterInsertion 212 = .ok (.if_acmp .ne 13, 3) := dk_166 0 13 (dk_at dksJ29_fixAfterInsertion_9 0 rfl rfl)
theorem dJ29_fixAfterInsertion_215 : decode cJ29_fixAfterInsertion 215 = .ok (.aload_n 1, 1) := dk_43 (dk_at dksJ29_fixAfterInsertion_9 3 rfl rfl)
theorem dJ29_fixAfterInsertion_216 : decode cJ29_fixAfterInsertion 216 = .ok (.invokestatic 294, 3) := dk_184 1 38 (dk_at dksJ29_fixAfterInsertion_9 4 rfl rfl)
theorem dJ29_fixAfterInsertion_219 : decode cJ29_fixAfterInsertion 219 = .ok (.astore_n 1, 1) := dk_76 (dk_at dksJ29_fixAfterInsertion_9 7 rfl rfl)
theorem dJ29_fixAfterInsertion_220 : decode cJ29_fixAfterInsertion 220 = .ok (.aload_n 0, 1) := dk_42 (dk_at dksJ29_fixAfterInsertion_9 8 rfl rfl)
theorem dJ29_fixAfterInsertion_221 : decode cJ29_fixAfterInsertion 221 = .ok (.aload_n 1, 1) := dk_43 (dk_at dksJ29_fixAfterInsertion_9 9 rfl rfl)
theorem dJ29_fixAfterInsertion_222 : decode cJ29_fixAfterInsertion 222 = .ok (.invokevirtual 314, 3) := dk_182 1 58 (dk_at dksJ29_fixAfterInsertion_9 10 rfl rfl)
theorem dJ29_fixAfterInsertion_225 : decode cJ29_fixAfterInsertion 225 = .ok (.aload_n 1, 1) := dk_43 (dk_at dksJ29_fixAfterInsertion_9 13 rfl rfl)
theorem dJ29_fixAfterInsertion_226 : decode cJ29_fixAfterInsertion 226 = .ok (.invokestatic 294, 3) := dk_184 1 38 (dk_at dksJ29_fixAfterInsertion_9 14 rfl rfl)
theorem dJ29_fixAfterInsertion_229 : decode cJ29_fixAfterInsertion 229 = .ok (.iconst 1, 1) := dk_4 (dk_at dksJ29_fixAfterInsertion_9 17 rfl rfl)
theorem dJ29_fixAfterInsertion_230 : decode cJ29_fixAfterInsertion 230 = .ok (.invokestatic 307, 3) := dk_184 1 51 (dk_at dksJ29_fixAfterInsertion_9 18 rfl rfl)
theorem dJ29_fixAfterInsertion_233 : decode cJ29_fixAfterInsertion 233 = .ok (.aload_n 1, 1) := dk_43 (dk_at dksJ29_fixAfterInsertion_9 21 rfl rfl)
theorem dJ29_fixAfterInsertion_234 : decode cJ29_fixAfterInsertion 234 = .ok (.invokestatic 294, 3) := dk_184 1 38 (dk_at dksJ29_fixAfterInsertion_10 0 rfl rfl)
theorem dJ29_fixAfterInsertion_237 : decode cJ29_fixAfterInsertion 237 = .ok (.invokestatic 294, 3) := dk_184 1 38 (dk_at dksJ29_fixAfterInsertion_10 3 rfl rfl)
theorem dJ29_fixAfterInsertion_240 : decode cJ29_fixAfterInsertion 240 = .ok (.iconst 0, 1) := dk_3 (dk_at dksJ29_fixAfterInsertion_10 6 rfl rfl)
theorem dJ29_fixAfterInsertion_241 : decode cJ29_fixAfterInsertion 241 = .ok (.invokestatic 307, 3) := dk_184 1 51 (dk_at dksJ29_fixAfterInsertion_10 7 rfl rfl)
theorem dJ29_fixAfterInsertion_244 : decode cJ29_fixAfterInsertion 244 = .ok (.aload_n 0, 1) := dk_42 (dk_at dksJ29_fixAfterInsertion_10 10 rfl rfl)
theorem dJ29_fixAfterInsertion_245 : decode cJ29_fixAfterInsertion 245 = .ok (.aload_n 1, 1) := dk_43 (dk_at dksJ29_fixAfterInsertion_10 11 rfl rfl)
theorem dJ29_fixAfterInsertion_246 : decode cJ29_fixAfterInsertion 246 = .ok (.invokestatic 294, 3) := dk_184 1 38 (dk_at dksJ29_fixAfterInsertion_10 12 rfl rfl)
theorem dJ29_fixAfterInsertion_249 : decode cJ29_fixAfterInsertion 249 = .ok (.invokestatic 294, 3) := dk_184 1 38 (dk_at dksJ29_fixAfterInsertion_10 15 rfl rfl)
theorem dJ29_fixAfterInsertion_252 : decode cJ29_fixAfterInsertion 252 = .ok (.invokevirtual 311, 3) := dk_182 1 55 (dk_at dksJ29_fixAfterInsertion_10 18 rfl rfl)
theorem dJ29_fixAfterInsertion_255 : decode cJ29_fixAfterInsertion 255 = .ok (.goto (-250), 3) := dk_167 255 6 (dk_at dksJ29_fixAfterInsertion_10 21 rfl rfl)
theorem dJ29_fixAfterInsertion_258 : decode cJ29_fixAfterInsertion 258 = .ok (.aload_n 0, 1) := dk_42 (dk_at dksJ29_fixAfterInsertion_11 0 rfl rfl)
theorem dJ29_fixAfterInsertion_259 : decode cJ29_fixAfterInsertion 259 = .ok (.getfield 101, 3) := dk_180 0 101 (dk_at dksJ29_fixAfterInsertion_11 1 rfl rfl)
theorem dJ29_fixAfterInsertion_262 : decode cJ29_fixAfterInsertion 262 = .ok (.iconst 1, 1) := dk_4 (dk_at dksJ29_fixAfterInsertion_11 4 rfl rfl)
theorem dJ29_fixAfterInsertion_263 : decode cJ29_fixAfterInsertion 263 = .ok (.putfield 290, 3) := dk_181 1 34 (dk_at dksJ29_fixAfterInsertion_11 5 rfl rfl)
theorem dJ29_fixAfterInsertion_266 : decode cJ29_fixAfterInsertion 266 = .ok (.return_, 1) := dk_177 (dk_at dksJ29_fixAfterInsertion_11 8 rfl rfl)
abbrev cJ29_parentOf : ByteArray := prog_67_method_77_code
def yJ29_parentOf : MethodName := ⟨RJ29, "parentOf", "(Ljava/util/TreeMap$Entry;)Ljava/util/TreeMap$Entry;"⟩
def dkwJ29_parentOf_0 : List UInt8 := [42, 199, 0, 7, 1, 167, 0, 7, 42, 180, 0, 124, 176]
abbrev dktJ29_parentOf_0 : List UInt8 := dkwJ29_parentOf_0 ++ []
theorem dksJ29_parentOf_0 : cJ29_parentOf.data.toList.drop 0 = dktJ29_parentOf_0 := by decide +kernel
theorem dJ29_parentOf_0 : decode cJ29_parentOf 0 = .ok (.aload_n 0, 1) := dk_42 (dk_at dksJ29_parentOf_0 0 rfl rfl)
theorem dJ29_parentOf_1 : decode cJ29_parentOf 1 = .ok (.ifnonnull 7, 3) := dk_199 0 7 (dk_at dksJ29_parentOf_0 1 rfl rfl)
theorem dJ29_parentOf_4 : decode cJ29_parentOf 4 = .ok (.aconst_null, 1) := dk_1 (dk_at dksJ29_parentOf_0 4 rfl rfl)
theorem dJ29_parentOf_5 : decode cJ29_parentOf 5 = .ok (.goto 7, 3) := dk_167 0 7 (dk_at dksJ29_parentOf_0 5 rfl rfl)
theorem dJ29_parentOf_8 : decode cJ29_parentOf 8 = .ok (.aload_n 0, 1) := dk_42 (dk_at dksJ29_parentOf_0 8 rfl rfl)
theorem dJ29_parentOf_9 : decode cJ29_parentOf 9 = .ok (.getfield 124, 3) := dk_180 0 124 (dk_at dksJ29_parentOf_0 9 rfl rfl)
theorem dJ29_parentOf_12 : decode cJ29_parentOf 12 = .ok (.areturn, 1) := dk_176 (dk_at dksJ29_parentOf_0 12 rfl rfl)
abbrev cJ29_leftOf : ByteArray := prog_67_method_79_code
def yJ29_leftOf : MethodName := ⟨RJ29, "leftOf", "(Ljava/util/TreeMap$Entry;)Ljava/util/TreeMap$Entry;"⟩
def dkwJ29_leftOf_0 : List UInt8 := [42, 199, 0, 7, 1, 167, 0, 7, 42, 180, 0, 111, 176]
abbrev dktJ29_leftOf_0 : List UInt8 := dkwJ29_leftOf_0 ++ []
theorem dksJ29_leftOf_0 : cJ29_leftOf.data.toList.drop 0 = dktJ29_leftOf_0 := by decide +kernel
theorem dJ29_leftOf_0 : decode cJ29_leftOf 0 = .ok (.aload_n 0, 1) := dk_42 (dk_at dksJ29_leftOf_0 0 rfl rfl)
theorem dJ29_leftOf_1 : decode cJ29_leftOf 1 = .ok (.ifnonnull 7, 3) := dk_199 0 7 (dk_at dksJ29_leftOf_0 1 rfl rfl)
theorem dJ29_leftOf_4 : decode cJ29_leftOf 4 = .ok (.aconst_null, 1) := dk_1 (dk_at dksJ29_leftOf_0 4 rfl rfl)
theorem dJ29_leftOf_5 : decode cJ29_leftOf 5 = .ok (.goto 7, 3) := dk_167 0 7 (dk_at dksJ29_leftOf_0 5 rfl rfl)
theorem dJ29_leftOf_8 : decode cJ29_leftOf 8 = .ok (.aload_n 0, 1) := dk_42 (dk_at dksJ29_leftOf_0 8 rfl rfl)
theorem dJ29_leftOf_9 : decode cJ29_leftOf 9 = .ok (.getfield 111, 3) := dk_180 0 111 (dk_at dksJ29_leftOf_0 9 rfl rfl)
theorem dJ29_leftOf_12 : decode cJ29_leftOf 12 = .ok (.areturn, 1) := dk_176 (dk_at dksJ29_leftOf_0 12 rfl rfl)
abbrev cJ29_rightOf : ByteArray := prog_67_method_80_code
def yJ29_rightOf : MethodName := ⟨RJ29, "rightOf", "(Ljava/util/TreeMap$Entry;)Ljava/util/TreeMap$Entry;"⟩
def dkwJ29_rightOf_0 : List UInt8 := [42, 199, 0, 7, 1, 167, 0, 7, 42, 180, 0, 114, 176]
abbrev dktJ29_rightOf_0 : List UInt8 := dkwJ29_rightOf_0 ++ []
theorem dksJ29_rightOf_0 : cJ29_rightOf.data.toList.drop 0 = dktJ29_rightOf_0 := by decide +kernel
theorem dJ29_rightOf_0 : decode cJ29_rightOf 0 = .ok (.aload_n 0, 1) := dk_42 (dk_at dksJ29_rightOf_0 0 rfl rfl)
theorem dJ29_rightOf_1 : decode cJ29_rightOf 1 = .ok (.ifnonnull 7, 3) := dk_199 0 7 (dk_at dksJ29_rightOf_0 1 rfl rfl)
theorem dJ29_rightOf_4 : decode cJ29_rightOf 4 = .ok (.aconst_null, 1) := dk_1 (dk_at dksJ29_rightOf_0 4 rfl rfl)
theorem dJ29_rightOf_5 : decode cJ29_rightOf 5 = .ok (.goto 7, 3) := dk_167 0 7 (dk_at dksJ29_rightOf_0 5 rfl rfl)
theorem dJ29_rightOf_8 : decode cJ29_rightOf 8 = .ok (.aload_n 0, 1) := dk_42 (dk_at dksJ29_rightOf_0 8 rfl rfl)
theorem dJ29_rightOf_9 : decode cJ29_rightOf 9 = .ok (.getfield 114, 3) := dk_180 0 114 (dk_at dksJ29_rightOf_0 9 rfl rfl)
theorem dJ29_rightOf_12 : decode cJ29_rightOf 12 = .ok (.areturn, 1) := dk_176 (dk_at dksJ29_rightOf_0 12 rfl rfl)
abbrev cJ29_colorOf : ByteArray := prog_67_method_76_code
def yJ29_colorOf : MethodName := ⟨RJ29, "colorOf", "(Ljava/util/TreeMap$Entry;)Z"⟩
def dkwJ29_colorOf_0 : List UInt8 := [42, 199, 0, 7, 4, 167, 0, 7, 42, 180, 1, 34, 172]
abbrev dktJ29_colorOf_0 : List UInt8 := dkwJ29_colorOf_0 ++ []
theorem dksJ29_colorOf_0 : cJ29_colorOf.data.toList.drop 0 = dktJ29_colorOf_0 := by decide +kernel
theorem dJ29_colorOf_0 : decode cJ29_colorOf 0 = .ok (.aload_n 0, 1) := dk_42 (dk_at dksJ29_colorOf_0 0 rfl rfl)
theorem dJ29_colorOf_1 : decode cJ29_colorOf 1 = .ok (.ifnonnull 7, 3) := dk_199 0 7 (dk_at dksJ29_colorOf_0 1 rfl rfl)
theorem dJ29_colorOf_4 : decode cJ29_colorOf 4 = .ok (.iconst 1, 1) := dk_4 (dk_at dksJ29_colorOf_0 4 rfl rfl)
theorem dJ29_colorOf_5 : decode cJ29_colorOf 5 = .ok (.goto 7, 3) := dk_167 0 7 (dk_at dksJ29_colorOf_0 5 rfl rfl)
theorem dJ29_colorOf_8 : decode cJ29_colorOf 8 = .ok (.aload_n 0, 1) := dk_42 (dk_at dksJ29_colorOf_0 8 rfl rfl)
theorem dJ29_colorOf_9 : decode cJ29_colorOf 9 = .ok (.getfield 290, 3) := dk_180 1 34 (dk_at dksJ29_colorOf_0 9 rfl rfl)
theorem dJ29_colorOf_12 : decode cJ29_colorOf 12 = .ok (.ireturn, 1) := dk_172 (dk_at dksJ29_colorOf_0 12 rfl rfl)
abbrev cJ29_setColor : ByteArray := prog_67_method_78_code
def yJ29_setColor : MethodName := ⟨RJ29, "setColor", "(Ljava/util/TreeMap$Entry;Z)V"⟩
def dkwJ29_setColor_0 : List UInt8 := [42, 198, 0, 8, 42, 27, 181, 1, 34, 177]
abbrev dktJ29_setColor_0 : List UInt8 := dkwJ29_setColor_0 ++ []
theorem dksJ29_setColor_0 : cJ29_setColor.data.toList.drop 0 = dktJ29_setColor_0 := by decide +kernel
theorem dJ29_setColor_0 : decode cJ29_setColor 0 = .ok (.aload_n 0, 1) := dk_42 (dk_at dksJ29_setColor_0 0 rfl rfl)
theorem dJ29_setColor_1 : decode cJ29_setColor 1 = .ok (.ifnull 8, 3) := dk_198 0 8 (dk_at dksJ29_setColor_0 1 rfl rfl)
theorem dJ29_setColor_4 : decode cJ29_setColor 4 = .ok (.aload_n 0, 1) := dk_42 (dk_at dksJ29_setColor_0 4 rfl rfl)
theorem dJ29_setColor_5 : decode cJ29_setColor 5 = .ok (.iload_n 1, 1) := dk_27 (dk_at dksJ29_setColor_0 5 rfl rfl)
theorem dJ29_setColor_6 : decode cJ29_setColor 6 = .ok (.putfield 290, 3) := dk_181 1 34 (dk_at dksJ29_setColor_0 6 rfl rfl)
theorem dJ29_setColor_9 : decode cJ29_setColor 9 = .ok (.return_, 1) := dk_177 (dk_at dksJ29_setColor_0 9 rfl rfl)
abbrev cJ29_rotateLeft : ByteArray := prog_67_method_81_code
def yJ29_rotateLeft : MethodName := ⟨RJ29, "rotateLeft", "(Ljava/util/TreeMap$Entry;)V"⟩
def dkwJ29_rotateLeft_4 : List UInt8 := [177]
abbrev dktJ29_rotateLeft_4 : List UInt8 := dkwJ29_rotateLeft_4 ++ []
def dkwJ29_rotateLeft_3 : List UInt8 := [181, 0, 111, 167, 0, 11, 43, 180, 0, 124, 44, 181, 0, 114, 44, 43, 181, 0, 111, 43, 44, 181, 0, 124]
abbrev dktJ29_rotateLeft_3 : List UInt8 := dkwJ29_rotateLeft_3 ++ dktJ29_rotateLeft_4
def dkwJ29_rotateLeft_2 : List UInt8 := [44, 181, 0, 101, 167, 0, 33, 43, 180, 0, 124, 180, 0, 111, 43, 166, 0, 14, 43, 180, 0, 124, 44]
abbrev dktJ29_rotateLeft_2 : List UInt8 := dkwJ29_rotateLeft_2 ++ dktJ29_rotateLeft_3
def dkwJ29_rotateLeft_1 : List UInt8 := [44, 180, 0, 111, 43, 181, 0, 124, 44, 43, 180, 0, 124, 181, 0, 124, 43, 180, 0, 124, 199, 0, 11, 42]
abbrev dktJ29_rotateLeft_1 : List UInt8 := dkwJ29_rotateLeft_1 ++ dktJ29_rotateLeft_2
def dkwJ29_rotateLeft_0 : List UInt8 := [43, 198, 0, 94, 43, 180, 0, 114, 77, 43, 44, 180, 0, 111, 181, 0, 114, 44, 180, 0, 111, 198, 0, 11]
abbrev dktJ29_rotateLeft_0 : List UInt8 := dkwJ29_rotateLeft_0 ++ dktJ29_rotateLeft_1
theorem dksJ29_rotateLeft_0 : cJ29_rotateLeft.data.toList.drop 0 = dktJ29_rotateLeft_0 := by decide +kernel
theorem dksJ29_rotateLeft_1 : cJ29_rotateLeft.data.toList.drop 24 = dktJ29_rotateLeft_1 := dk_seg dksJ29_rotateLeft_0 24 rfl rfl
theorem dksJ29_rotateLeft_2 : cJ29_rotateLeft.data.toList.drop 48 = dktJ29_rotateLeft_2 := dk_seg dksJ29_rotateLeft_1 24 rfl rfl
theorem dksJ29_rotateLeft_3 : cJ29_rotateLeft.data.toList.drop 71 = dktJ29_rotateLeft_3 := dk_seg dksJ29_rotateLeft_2 23 rfl rfl
theorem dksJ29_rotateLeft_4 : cJ29_rotateLeft.data.toList.drop 95 = dktJ29_rotateLeft_4 := dk_seg dksJ29_rotateLeft_3 24 rfl rfl
theorem dJ29_rotateLeft_0 : decode cJ29_rotateLeft 0 = .ok (.aload_n 1, 1) := dk_43 (dk_at dksJ29_rotateLeft_0 0 rfl rfl)
theorem dJ29_rotateLeft_1 : decode cJ29_rotateLeft 1 = .ok (.ifnull 94, 3) := dk_198 0 94 (dk_at dksJ29_rotateLeft_0 1 rfl rfl)
theorem dJ29_rotateLeft_4 : decode cJ29_rotateLeft 4 = .ok (.aload_n 1, 1) := dk_43 (dk_at dksJ29_rotateLeft_0 4 rfl rfl)
theorem dJ29_rotateLeft_5 : decode cJ29_rotateLeft 5 = .ok (.getfield 114, 3) := dk_180 0 114 (dk_at dksJ29_rotateLeft_0 5 rfl rfl)
theorem dJ29_rotateLeft_8 : decode cJ29_rotateLeft 8 = .ok (.astore_n 2, 1) := dk_77 (dk_at dksJ29_rotateLeft_0 8 rfl rfl)
theorem dJ29_rotateLeft_9 : decode cJ29_rotateLeft 9 = .ok (.aload_n 1, 1) := dk_43 (dk_at dksJ29_rotateLeft_0 9 rfl rfl)
theorem dJ29_rotateLeft_10 : decode cJ29_rotateLeft 10 = .ok (.aload_n 2, 1) := dk_44 (dk_at dksJ29_rotateLeft_0 10 rfl rfl)
theorem dJ29_rotateLeft_11 : decode cJ29_rotateLeft 11 = .ok (.getfield 111, 3) := dk_180 0 111 (dk_at dksJ29_rotateLeft_0 11 rfl rfl)
theorem dJ29_rotateLeft_14 : decode cJ29_rotateLeft 14 = .ok (.putfield 114, 3) := dk_181 0 114 (dk_at dksJ29_rotateLeft_0 14 rfl rfl)
theorem dJ29_rotateLeft_17 : decode cJ29_rotateLeft 17 = .ok (.aload_n 2, 1) := dk_44 (dk_at dksJ29_rotateLeft_0 17 rfl rfl)
theorem dJ29_rotateLeft_18 : decode cJ29_rotateLeft 18 = .ok (.getfield 111, 3) := dk_180 0 111 (dk_at dksJ29_rotateLeft_0 18 rfl rfl)
theorem dJ29_rotateLeft_21 : decode cJ29_rotateLeft 21 = .ok (.ifnull 11, 3) := dk_198 0 11 (dk_at dksJ29_rotateLeft_0 21 rfl rfl)
theorem dJ29_rotateLeft_24 : decode cJ29_rotateLeft 24 = .ok (.aload_n 2, 1) := dk_44 (dk_at dksJ29_rotateLeft_1 0 rfl rfl)
theorem dJ29_rotateLeft_25 : decode cJ29_rotateLeft 25 = .ok (.getfield 111, 3) := dk_180 0 111 (dk_at dksJ29_rotateLeft_1 1 rfl rfl)
theorem dJ29_rotateLeft_28 : decode cJ29_rotateLeft 28 = .ok (.aload_n 1, 1) := dk_43 (dk_at dksJ29_rotateLeft_1 4 rfl rfl)
theorem dJ29_rotateLeft_29 : decode cJ29_rotateLeft 29 = .ok (.putfield 124, 3) := dk_181 0 124 (dk_at dksJ29_rotateLeft_1 5 rfl rfl)
theorem dJ29_rotateLeft_32 : decode cJ29_rotateLeft 32 = .ok (.aload_n 2, 1) := dk_44 (dk_at dksJ29_rotateLeft_1 8 rfl rfl)
theorem dJ29_rotateLeft_33 : decode cJ29_rotateLeft 33 = .ok (.aload_n 1, 1) := dk_43 (dk_at dksJ29_rotateLeft_1 9 rfl rfl)
theorem dJ29_rotateLeft_34 : decode cJ29_rotateLeft 34 = .ok (.getfield 124, 3) := dk_180 0 124 (dk_at dksJ29_rotateLeft_1 10 rfl rfl)
theorem dJ29_rotateLeft_37 : decode cJ29_rotateLeft 37 = .ok (.putfield 124, 3) := dk_181 0 124 (dk_at dksJ29_rotateLeft_1 13 rfl rfl)
theorem dJ29_rotateLeft_40 : decode cJ29_rotateLeft 40 = .ok (.aload_n 1, 1) := dk_43 (dk_at dksJ29_rotateLeft_1 16 rfl rfl)
theorem dJ29_rotateLeft_41 : decode cJ29_rotateLeft 41 = .ok (.getfield 124, 3) := dk_180 0 124 (dk_at dksJ29_rotateLeft_1 17 rfl rfl)
theorem dJ29_rotateLeft_44 : decode cJ29_rotateLeft 44 = .ok (.ifnonnull 11, 3) := dk_199 0 11 (dk_at dksJ29_rotateLeft_1 20 rfl rfl)
theorem dJ29_rotateLeft_47 : decode cJ29_rotateLeft 47 = .ok (.aload_n 0, 1) := dk_42 (dk_at dksJ29_rotateLeft_1 23 rfl rfl)
theorem dJ29_rotateLeft_48 : decode cJ29_rotateLeft 48 = .ok (.aload_n 2, 1) := dk_44 (dk_at dksJ29_rotateLeft_2 0 rfl rfl)
theorem dJ29_rotateLeft_49 : decode cJ29_rotateLeft 49 = .ok (.putfield 101, 3) := dk_181 0 101 (dk_at dksJ29_rotateLeft_2 1 rfl rfl)
theorem dJ29_rotateLeft_52 : decode cJ29_rotateLeft 52 = .ok (.goto 33, 3) := dk_167 0 33 (dk_at dksJ29_rotateLeft_2 4 rfl rfl)
theorem dJ29_rotateLeft_55 : decode cJ29_rotateLeft 55 = .ok (.aload_n 1, 1) := dk_43 (dk_at dksJ29_rotateLeft_2 7 rfl rfl)
theorem dJ29_rotateLeft_56 : decode cJ29_rotateLeft 56 = .ok (.getfield 124, 3) := dk_180 0 124 (dk_at dksJ29_rotateLeft_2 8 rfl rfl)
theorem dJ29_rotateLeft_59 : decode cJ29_rotateLeft 59 = .ok (.getfield 111, 3) := dk_180 0 111 (dk_at dksJ29_rotateLeft_2 11 rfl rfl)
theorem dJ29_rotateLeft_62 : decode cJ29_rotateLeft 62 = .ok (.aload_n 1, 1) := dk_43 (dk_at dksJ29_rotateLeft_2 14 rfl rfl)
theorem dJ29_rotateLeft_63 : decode cJ29_rotateLeft 63 = .ok (.if_acmp .ne 14, 3) := dk_166 0 14 (dk_at dksJ29_rotateLeft_2 15 rfl rfl)
theorem dJ29_rotateLeft_66 : decode cJ29_rotateLeft 66 = .ok (.aload_n 1, 1) := dk_43 (dk_at dksJ29_rotateLeft_2 18 rfl rfl)
theorem dJ29_rotateLeft_67 : decode cJ29_rotateLeft 67 = .ok (.getfield 124, 3) := dk_180 0 124 (dk_at dksJ29_rotateLeft_2 19 rfl rfl)
theorem dJ29_rotateLeft_70 : decode cJ29_rotateLeft 70 = .ok (.aload_n 2, 1) := dk_44 (dk_at dksJ29_rotateLeft_2 22 rfl rfl)
theorem dJ29_rotateLeft_71 : decode cJ29_rotateLeft 71 = .ok (.putfield 111, 3) := dk_181 0 111 (dk_at dksJ29_rotateLeft_3 0 rfl rfl)
theorem dJ29_rotateLeft_74 : decode cJ29_rotateLeft 74 = .ok (.goto 11, 3) := dk_167 0 11 (dk_at dksJ29_rotateLeft_3 3 rfl rfl)
theorem dJ29_rotateLeft_77 : decode cJ29_rotateLeft 77 = .ok (.aload_n 1, 1) := dk_43 (dk_at dksJ29_rotateLeft_3 6 rfl rfl)
theorem dJ29_rotateLeft_78 : decode cJ29_rotateLeft 78 = .ok (.getfield 124, 3) := dk_180 0 124 (dk_at dksJ29_rotateLeft_3 7 rfl rfl)
theorem dJ29_rotateLeft_81 : decode cJ29_rotateLeft 81 = .ok (.aload_n 2, 1) := dk_44 (dk_at dksJ29_rotateLeft_3 10 rfl rfl)
theorem dJ29_rotateLeft_82 : decode cJ29_rotateLeft 82 = .ok (.putfield 114, 3) := dk_181 0 114 (dk_at dksJ29_rotateLeft_3 11 rfl rfl)
theorem dJ29_rotateLeft_85 : decode cJ29_rotateLeft 85 = .ok (.aload_n 2, 1) := dk_44 (dk_at dksJ29_rotateLeft_3 14 rfl rfl)
theorem dJ29_rotateLeft_86 : decode cJ29_rotateLeft 86 = .ok (.aload_n 1, 1) := dk_43 (dk_at dksJ29_rotateLeft_3 15 rfl rfl)
theorem dJ29_rotateLeft_87 : decode cJ29_rotateLeft 87 = .ok (.putfield 111, 3) := dk_181 0 111 (dk_at dksJ29_rotateLeft_3 16 rfl rfl)
theorem dJ29_rotateLeft_90 : decode cJ29_rotateLeft 90 = .ok (.aload_n 1, 1) := dk_43 (dk_at dksJ29_rotateLeft_3 19 rfl rfl)
theorem dJ29_rotateLeft_91 : decode cJ29_rotateLeft 91 = .ok (.aload_n 2, 1) := dk_44 (dk_at dksJ29_rotateLeft_3 20 rfl rfl)
theorem dJ29_rotateLeft_92 : decode cJ29_rotateLeft 92 = .ok (.putfield 124, 3) := dk_181 0 124 (dk_at dksJ29_rotateLeft_3 21 rfl rfl)
theorem dJ29_rotateLeft_95 : decode cJ29_rotateLeft 95 = .ok (.return_, 1) := dk_177 (dk_at dksJ29_rotateLeft_4 0 rfl rfl)
abbrev cJ29_rotateRight : ByteArray := prog_67_method_82_code
def yJ29_rotateRight : MethodName := ⟨RJ29, "rotateRight", "(Ljava/util/TreeMap$Entry;)V"⟩
def dkwJ29_rotateRight_4 : List UInt8 := [177]
abbrev dktJ29_rotateRight_4 : List UInt8 := dkwJ29_rotateRight_4 ++ []
def dkwJ29_rotateRight_3 : List UInt8 := [181, 0, 114, 167, 0, 11, 43, 180, 0, 124, 44, 181, 0, 111, 44, 43, 181, 0, 114, 43, 44, 181, 0, 124]
abbrev dktJ29_rotateRight_3 : List UInt8 := dkwJ29_rotateRight_3 ++ dktJ29_rotateRight_4
def dkwJ29_rotateRight_2 : List UInt8 := [44, 181, 0, 101, 167, 0, 33, 43, 180, 0, 124, 180, 0, 114, 43, 166, 0, 14, 43, 180, 0, 124, 44]
abbrev dktJ29_rotateRight_2 : List UInt8 := dkwJ29_rotateRight_2 ++ dktJ29_rotateRight_3
def dkwJ29_rotateRight_1 : List UInt8 := [44, 180, 0, 114, 43, 181, 0, 124, 44, 43, 180, 0, 124, 181, 0, 124, 43, 180, 0, 124, 199, 0, 11, 42]
abbrev dktJ29_rotateRight_1 : List UInt8 := dkwJ29_rotateRight_1 ++ dktJ29_rotateRight_2
def dkwJ29_rotateRight_0 : List UInt8 := [43, 198, 0, 94, 43, 180, 0, 111, 77, 43, 44, 180, 0, 114, 181, 0, 111, 44, 180, 0, 114, 198, 0, 11]
abbrev dktJ29_rotateRight_0 : List UInt8 := dkwJ29_rotateRight_0 ++ dktJ29_rotateRight_1
theorem dksJ29_rotateRight_0 : cJ29_rotateRight.data.toList.drop 0 = dktJ29_rotateRight_0 := by decide +kernel
theorem dksJ29_rotateRight_1 : cJ29_rotateRight.data.toList.drop 24 = dktJ29_rotateRight_1 := dk_seg dksJ29_rotateRight_0 24 rfl rfl
theorem dksJ29_rotateRight_2 : cJ29_rotateRight.data.toList.drop 48 = dktJ29_rotateRight_2 := dk_seg dksJ29_rotateRight_1 24 rfl rfl
theorem dksJ29_rotateRight_3 : cJ29_rotateRight.data.toList.drop 71 = dktJ29_rotateRight_3 := dk_seg dksJ29_rotateRight_2 23 rfl rfl
theorem dksJ29_rotateRight_4 : cJ29_rotateRight.data.toList.drop 95 = dktJ29_rotateRight_4 := dk_seg dksJ29_rotateRight_3 24 rfl rfl
theorem dJ29_rotateRight_0 : decode cJ29_rotateRight 0 = .ok (.aload_n 1, 1) := dk_43 (dk_at dksJ29_rotateRight_0 0 rfl rfl)
theorem dJ29_rotateRight_1 : decode cJ29_rotateRight 1 = .ok (.ifnull 94, 3) := dk_198 0 94 (dk_at dksJ29_rotateRight_0 1 rfl rfl)
theorem dJ29_rotateRight_4 : decode cJ29_rotateRight 4 = .ok (.aload_n 1, 1) := dk_43 (dk_at dksJ29_rotateRight_0 4 rfl rfl)
theorem dJ29_rotateRight_5 : decode cJ29_rotateRight 5 = .ok (.getfield 111, 3) := dk_180 0 111 (dk_at dksJ29_rotateRight_0 5 rfl rfl)
theorem dJ29_rotateRight_8 : decode cJ29_rotateRight 8 = .ok (.astore_n 2, 1) := dk_77 (dk_at dksJ29_rotateRight_0 8 rfl rfl)
theorem dJ29_rotateRight_9 : decode cJ29_rotateRight 9 = .ok (.aload_n 1, 1) := dk_43 (dk_at dksJ29_rotateRight_0 9 rfl rfl)
theorem dJ29_rotateRight_10 : decode cJ29_rotateRight 10 = .ok (.aload_n 2, 1) := dk_44 (dk_at dksJ29_rotateRight_0 10 rfl rfl)
theorem dJ29_rotateRight_11 : decode cJ29_rotateRight 11 = .ok (.getfield 114, 3) := dk_180 0 114 (dk_at dksJ29_rotateRight_0 11 rfl rfl)
theorem dJ29_rotateRight_14 : decode cJ29_rotateRight 14 = .ok (.putfield 111, 3) := dk_181 0 111 (dk_at dksJ29_rotateRight_0 14 rfl rfl)
theorem dJ29_rotateRight_17 : decode cJ29_rotateRight 17 = .ok (.aload_n 2, 1) := dk_44 (dk_at dksJ29_rotateRight_0 17 rfl rfl)
theorem dJ29_rotateRight_18 : decode cJ29_rotateRight 18 = .ok (.getfield 114, 3) := dk_180 0 114 (dk_at dksJ29_rotateRight_0 18 rfl rfl)
theorem dJ29_rotateRight_21 : decode cJ29_rotateRight 21 = .ok (.ifnull 11, 3) := dk_198 0 11 (dk_at dksJ29_rotateRight_0 21 rfl rfl)
theorem dJ29_rotateRight_24 : decode cJ29_rotateRight 24 = .ok (.aload_n 2, 1) := dk_44 (dk_at dksJ29_rotateRight_1 0 rfl rfl)
theorem dJ29_rotateRight_25 : decode cJ29_rotateRight 25 = .ok (.getfield 114, 3) := dk_180 0 114 (dk_at dksJ29_rotateRight_1 1 rfl rfl)
theorem dJ29_rotateRight_28 : decode cJ29_rotateRight 28 = .ok (.aload_n 1, 1) := dk_43 (dk_at dksJ29_rotateRight_1 4 rfl rfl)
theorem dJ29_rotateRight_29 : decode cJ29_rotateRight 29 = .ok (.putfield 124, 3) := dk_181 0 124 (dk_at dksJ29_rotateRight_1 5 rfl rfl)
theorem dJ29_rotateRight_32 : decode cJ29_rotateRight 32 = .ok (.aload_n 2, 1) := dk_44 (dk_at dksJ29_rotateRight_1 8 rfl rfl)
theorem dJ29_rotateRight_33 : decode cJ29_rotateRight 33 = .ok (.aload_n 1, 1) := dk_43 (dk_at dksJ29_rotateRight_1 9 rfl rfl)
theorem dJ29_rotateRight_34 : decode cJ29_rotateRight 34 = .ok (.getfield 124, 3) := dk_180 0 124 (dk_at dksJ29_rotateRight_1 10 rfl rfl)
theorem dJ29_rotateRight_37 : decode cJ29_rotateRight 37 = .ok (.putfield 124, 3) := dk_181 0 124 (dk_at dksJ29_rotateRight_1 13 rfl rfl)
theorem dJ29_rotateRight_40 : decode cJ29_rotateRight 40 = .ok (.aload_n 1, 1) := dk_43 (dk_at dksJ29_rotateRight_1 16 rfl rfl)
theorem dJ29_rotateRight_41 : decode cJ29_rotateRight 41 = .ok (.getfield 124, 3) := dk_180 0 124 (dk_at dksJ29_rotateRight_1 17 rfl rfl)
theorem dJ29_rotateRight_44 : decode cJ29_rotateRight 44 = .ok (.ifnonnull 11, 3) := dk_199 0 11 (dk_at dksJ29_rotateRight_1 20 rfl rfl)
theorem dJ29_rotateRight_47 : decode cJ29_rotateRight 47 = .ok (.aload_n 0, 1) := dk_42 (dk_at dksJ29_rotateRight_1 23 rfl rfl)
theorem dJ29_rotateRight_48 : decode cJ29_rotateRight 48 = .ok (.aload_n 2, 1) := dk_44 (dk_at dksJ29_rotateRight_2 0 rfl rfl)
theorem dJ29_rotateRight_49 : decode cJ29_rotateRight 49 = .ok (.putfield 101, 3) := dk_181 0 101 (dk_at dksJ29_rotateRight_2 1 rfl rfl)
theorem dJ29_rotateRight_52 : decode cJ29_rotateRight 52 = .ok (.goto 33, 3) := dk_167 0 33 (dk_at dksJ29_rotateRight_2 4 rfl rfl)
theorem dJ29_rotateRight_55 : decode cJ29_rotateRight 55 = .ok (.aload_n 1, 1) := dk_43 (dk_at dksJ29_rotateRight_2 7 rfl rfl)
theorem dJ29_rotateRight_56 : decode cJ29_rotateRight 56 = .ok (.getfield 124, 3) := dk_180 0 124 (dk_at dksJ29_rotateRight_2 8 rfl rfl)
theorem dJ29_rotateRight_59 : decode cJ29_rotateRight 59 = .ok (.getfield 114, 3) := dk_180 0 114 (dk_at dksJ29_rotateRight_2 11 rfl rfl)
theorem dJ29_rotateRight_62 : decode cJ29_rotateRight 62 = .ok (.aload_n 1, 1) := dk_43 (dk_at dksJ29_rotateRight_2 14 rfl rfl)
theorem dJ29_rotateRight_63 : decode cJ29_rotateRight 63 = .ok (.if_acmp .ne 14, 3) := dk_166 0 14 (dk_at dksJ29_rotateRight_2 15 rfl rfl)
theorem dJ29_rotateRight_66 : decode cJ29_rotateRight 66 = .ok (.aload_n 1, 1) := dk_43 (dk_at dksJ29_rotateRight_2 18 rfl rfl)
theorem dJ29_rotateRight_67 : decode cJ29_rotateRight 67 = .ok (.getfield 124, 3) := dk_180 0 124 (dk_at dksJ29_rotateRight_2 19 rfl rfl)
theorem dJ29_rotateRight_70 : decode cJ29_rotateRight 70 = .ok (.aload_n 2, 1) := dk_44 (dk_at dksJ29_rotateRight_2 22 rfl rfl)
theorem dJ29_rotateRight_71 : decode cJ29_rotateRight 71 = .ok (.putfield 114, 3) := dk_181 0 114 (dk_at dksJ29_rotateRight_3 0 rfl rfl)
theorem dJ29_rotateRight_74 : decode cJ29_rotateRight 74 = .ok (.goto 11, 3) := dk_167 0 11 (dk_at dksJ29_rotateRight_3 3 rfl rfl)
theorem dJ29_rotateRight_77 : decode cJ29_rotateRight 77 = .ok (.aload_n 1, 1) := dk_43 (dk_at dksJ29_rotateRight_3 6 rfl rfl)
theorem dJ29_rotateRight_78 : decode cJ29_rotateRight 78 = .ok (.getfield 124, 3) := dk_180 0 124 (dk_at dksJ29_rotateRight_3 7 rfl rfl)
theorem dJ29_rotateRight_81 : decode cJ29_rotateRight 81 = .ok (.aload_n 2, 1) := dk_44 (dk_at dksJ29_rotateRight_3 10 rfl rfl)
theorem dJ29_rotateRight_82 : decode cJ29_rotateRight 82 = .ok (.putfield 111, 3) := dk_181 0 111 (dk_at dksJ29_rotateRight_3 11 rfl rfl)
theorem dJ29_rotateRight_85 : decode cJ29_rotateRight 85 = .ok (.aload_n 2, 1) := dk_44 (dk_at dksJ29_rotateRight_3 14 rfl rfl)
theorem dJ29_rotateRight_86 : decode cJ29_rotateRight 86 = .ok (.aload_n 1, 1) := dk_43 (dk_at dksJ29_rotateRight_3 15 rfl rfl)
theorem dJ29_rotateRight_87 : decode cJ29_rotateRight 87 = .ok (.putfield 114, 3) := dk_181 0 114 (dk_at dksJ29_rotateRight_3 16 rfl rfl)
theorem dJ29_rotateRight_90 : decode cJ29_rotateRight 90 = .ok (.aload_n 1, 1) := dk_43 (dk_at dksJ29_rotateRight_3 19 rfl rfl)
theorem dJ29_rotateRight_91 : decode cJ29_rotateRight 91 = .ok (.aload_n 2, 1) := dk_44 (dk_at dksJ29_rotateRight_3 20 rfl rfl)
theorem dJ29_rotateRight_92 : decode cJ29_rotateRight 92 = .ok (.putfield 124, 3) := dk_181 0 124 (dk_at dksJ29_rotateRight_3 21 rfl rfl)
theorem dJ29_rotateRight_95 : decode cJ29_rotateRight 95 = .ok (.return_, 1) := dk_177 (dk_at dksJ29_rotateRight_4 0 rfl rfl)
abbrev cJ29_keySet : ByteArray := prog_67_method_49_code
def yJ29_keySet : MethodName := ⟨RJ29, "keySet", "()Ljava/util/Set;"⟩
theorem dJ29_keySet_0 : decode cJ29_keySet 0 = .ok (.aload_n 0, 1) := by decide +kernel
theorem dJ29_keySet_1 : decode cJ29_keySet 1 = .ok (.invokevirtual 219, 3) := by decide +kernel
theorem dJ29_keySet_4 : decode cJ29_keySet 4 = .ok (.areturn, 1) := by decide +kernel
abbrev cJ29_navigableKeySet : ByteArray := prog_67_method_50_code
def yJ29_navigableKeySet : MethodName := ⟨RJ29, "navigableKeySet", "()Ljava/util/NavigableSet;"⟩
def dkwJ29_navigableKeySet_1 : List UInt8 := [181, 0, 191, 176]
abbrev dktJ29_navigableKeySet_1 : List UInt8 := dkwJ29_navigableKeySet_1 ++ []
def dkwJ29_navigableKeySet_0 : List UInt8 := [42, 180, 0, 191, 76, 43, 198, 0, 7, 43, 167, 0, 16, 42, 187, 0, 222, 89, 42, 183, 0, 224, 90]
abbrev dktJ29_navigableKeySet_0 : List UInt8 := dkwJ29_navigableKeySet_0 ++ dktJ29_navigableKeySet_1
theorem dksJ29_navigableKeySet_0 : cJ29_navigableKeySet.data.toList.drop 0 = dktJ29_navigableKeySet_0 := by decide +kernel
theorem dksJ29_navigableKeySet_1 : cJ29_navigableKeySet.data.toList.drop 23 = dktJ29_navigableKeySet_1 := dk_seg dksJ29_navigableKeySet_0 23 rfl rfl
theorem dJ29_navigableKeySet_0 : decode cJ29_navigableKeySet 0 = .ok (.aload_n 0, 1) := dk_42 (dk_at dksJ29_navigableKeySet_0 0 rfl rfl)
theorem dJ29_navigableKeySet_1 : decode cJ29_navigableKeySet 1 = .ok (.getfield 191, 3) := dk_180 0 191 (dk_at dksJ29_navigableKeySet_0 1 rfl rfl)
theorem dJ29_navigableKeySet_4 : decode cJ29_navigableKeySet 4 = .ok (.astore_n 1, 1) := dk_76 (dk_at dksJ29_navigableKeySet_0 4 rfl rfl)
theorem dJ29_navigableKeySet_5 : decode cJ29_navigableKeySet 5 = .ok (.aload_n 1, 1) := dk_43 (dk_at dksJ29_navigableKeySet_0 5 rfl rfl)
theorem dJ29_navigableKeySet_6 : decode cJ29_navigableKeySet 6 = .ok (.ifnull 7, 3) := dk_198 0 7 (dk_at dksJ29_navigableKeySet_0 6 rfl rfl)
theorem dJ29_navigableKeySet_9 : decode cJ29_navigableKeySet 9 = .ok (.aload_n 1, 1) := dk_43 (dk_at dksJ29_navigableKeySet_0 9 rfl rfl)
theorem dJ29_navigableKeySet_10 : decode cJ29_navigableKeySet 10 = .ok (.goto 16, 3) := dk_167 0 16 (dk_at dksJ29_navigableKeySet_0 10 rfl rfl)
theorem dJ29_navigableKeySet_13 : decode cJ29_navigableKeySet 13 = .ok (.aload_n 0, 1) := dk_42 (dk_at dksJ29_navigableKeySet_0 13 rfl rfl)
theorem dJ29_navigableKeySet_14 : decode cJ29_navigableKeySet 14 = .ok (.new 222, 3) := dk_187 0 222 (dk_at dksJ29_navigableKeySet_0 14 rfl rfl)
theorem dJ29_navigableKeySet_17 : decode cJ29_navigableKeySet 17 = .ok (.dup, 1) := dk_89 (dk_at dksJ29_navigableKeySet_0 17 rfl rfl)
theorem dJ29_navigableKeySet_18 : decode cJ29_navigableKeySet 18 = .ok (.aload_n 0, 1) := dk_42 (dk_at dksJ29_navigableKeySet_0 18 rfl rfl)
theorem dJ29_navigableKeySet_19 : decode cJ29_navigableKeySet 19 = .ok (.invokespecial 224, 3) := dk_183 0 224 (dk_at dksJ29_navigableKeySet_0 19 rfl rfl)
theorem dJ29_navigableKeySet_22 : decode cJ29_navigableKeySet 22 = .ok (.dup_x1, 1) := dk_90 (dk_at dksJ29_navigableKeySet_0 22 rfl rfl)
theorem dJ29_navigableKeySet_23 : decode cJ29_navigableKeySet 23 = .ok (.putfield 191, 3) := dk_181 0 191 (dk_at dksJ29_navigableKeySet_1 0 rfl rfl)
theorem dJ29_navigableKeySet_26 : decode cJ29_navigableKeySet 26 = .ok (.areturn, 1) := dk_176 (dk_at dksJ29_navigableKeySet_1 3 rfl rfl)
abbrev cJ29_keyIterator : ByteArray := prog_67_method_65_code
def yJ29_keyIterator : MethodName := ⟨RJ29, "keyIterator", "()Ljava/util/Iterator;"⟩
def dkwJ29_keyIterator_0 : List UInt8 := [187, 1, 13, 89, 42, 42, 182, 0, 54, 183, 1, 15, 176]
abbrev dktJ29_keyIterator_0 : List UInt8 := dkwJ29_keyIterator_0 ++ []
theorem dksJ29_keyIterator_0 : cJ29_keyIterator.data.toList.drop 0 = dktJ29_keyIterator_0 := by decide +kernel
theorem dJ29_keyIterator_0 : decode cJ29_keyIterator 0 = .ok (.new 269, 3) := dk_187 1 13 (dk_at dksJ29_keyIterator_0 0 rfl rfl)
theorem dJ29_keyIterator_3 : decode cJ29_keyIterator 3 = .ok (.dup, 1) := dk_89 (dk_at dksJ29_keyIterator_0 3 rfl rfl)
theorem dJ29_keyIterator_4 : decode cJ29_keyIterator 4 = .ok (.aload_n 0, 1) := dk_42 (dk_at dksJ29_keyIterator_0 4 rfl rfl)
theorem dJ29_keyIterator_5 : decode cJ29_keyIterator 5 = .ok (.aload_n 0, 1) := dk_42 (dk_at dksJ29_keyIterator_0 5 rfl rfl)
theorem dJ29_keyIterator_6 : decode cJ29_keyIterator 6 = .ok (.invokevirtual 54, 3) := dk_182 0 54 (dk_at dksJ29_keyIterator_0 6 rfl rfl)
theorem dJ29_keyIterator_9 : decode cJ29_keyIterator 9 = .ok (.invokespecial 271, 3) := dk_183 1 15 (dk_at dksJ29_keyIterator_0 9 rfl rfl)
theorem dJ29_keyIterator_12 : decode cJ29_keyIterator 12 = .ok (.areturn, 1) := dk_176 (dk_at dksJ29_keyIterator_0 12 rfl rfl)
abbrev cJ29_getFirstEntry : ByteArray := prog_67_method_72_code
def yJ29_getFirstEntry : MethodName := ⟨RJ29, "getFirstEntry", "()Ljava/util/TreeMap$Entry;"⟩
def dkwJ29_getFirstEntry_1 : List UInt8 := [43, 176]
abbrev dktJ29_getFirstEntry_1 : List UInt8 := dkwJ29_getFirstEntry_1 ++ []
def dkwJ29_getFirstEntry_0 : List UInt8 := [42, 180, 0, 101, 76, 43, 198, 0, 18, 43, 180, 0, 111, 198, 0, 11, 43, 180, 0, 111, 76, 167, 255, 244]
abbrev dktJ29_getFirstEntry_0 : List UInt8 := dkwJ29_getFirstEntry_0 ++ dktJ29_getFirstEntry_1
theorem dksJ29_getFirstEntry_0 : cJ29_getFirstEntry.data.toList.drop 0 = dktJ29_getFirstEntry_0 := by decide +kernel
theorem dksJ29_getFirstEntry_1 : cJ29_getFirstEntry.data.toList.drop 24 = dktJ29_getFirstEntry_1 := dk_seg dksJ29_getFirstEntry_0 24 rfl rfl
theorem dJ29_getFirstEntry_0 : decode cJ29_getFirstEntry 0 = .ok (.aload_n 0, 1) := dk_42 (dk_at dksJ29_getFirstEntry_0 0 rfl rfl)
theorem dJ29_getFirstEntry_1 : decode cJ29_getFirstEntry 1 = .ok (.getfield 101, 3) := dk_180 0 101 (dk_at dksJ29_getFirstEntry_0 1 rfl rfl)
theorem dJ29_getFirstEntry_4 : decode cJ29_getFirstEntry 4 = .ok (.astore_n 1, 1) := dk_76 (dk_at dksJ29_getFirstEntry_0 4 rfl rfl)
theorem dJ29_getFirstEntry_5 : decode cJ29_getFirstEntry 5 = .ok (.aload_n 1, 1) := dk_43 (dk_at dksJ29_getFirstEntry_0 5 rfl rfl)
theorem dJ29_getFirstEntry_6 : decode cJ29_getFirstEntry 6 = .ok (.ifnull 18, 3) := dk_198 0 18 (dk_at dksJ29_getFirstEntry_0 6 rfl rfl)
theorem dJ29_getFirstEntry_9 : decode cJ29_getFirstEntry 9 = .ok (.aload_n 1, 1) := dk_43 (dk_at dksJ29_getFirstEntry_0 9 rfl rfl)
theorem dJ29_getFirstEntry_10 : decode cJ29_getFirstEntry 10 = .ok (.getfield 111, 3) := dk_180 0 111 (dk_at dksJ29_getFirstEntry_0 10 rfl rfl)
theorem dJ29_getFirstEntry_13 : decode cJ29_getFirstEntry 13 = .ok (.ifnull 11, 3) := dk_198 0 11 (dk_at dksJ29_getFirstEntry_0 13 rfl rfl)
theorem dJ29_getFirstEntry_16 : decode cJ29_getFirstEntry 16 = .ok (.aload_n 1, 1) := dk_43 (dk_at dksJ29_getFirstEntry_0 16 rfl rfl)
theorem dJ29_getFirstEntry_17 : decode cJ29_getFirstEntry 17 = .ok (.getfield 111, 3) := dk_180 0 111 (dk_at dksJ29_getFirstEntry_0 17 rfl rfl)
theorem dJ29_getFirstEntry_20 : decode cJ29_getFirstEntry 20 = .ok (.astore_n 1, 1) := dk_76 (dk_at dksJ29_getFirstEntry_0 20 rfl rfl)
theorem dJ29_getFirstEntry_21 : decode cJ29_getFirstEntry 21 = .ok (.goto (-12), 3) := dk_167 255 244 (dk_at dksJ29_getFirstEntry_0 21 rfl rfl)
theorem dJ29_getFirstEntry_24 : decode cJ29_getFirstEntry 24 = .ok (.aload_n 1, 1) := dk_43 (dk_at dksJ29_getFirstEntry_1 0 rfl rfl)
theorem dJ29_getFirstEntry_25 : decode cJ29_getFirstEntry 25 = .ok (.areturn, 1) := dk_176 (dk_at dksJ29_getFirstEntry_1 1 rfl rfl)
theorem q117 : (Jvm.Cond.initialized "java/util/TreeMap") ∈ lw_all := lw_g (lw_at lw_m1 42 rfl) rfl
theorem q222 : (Jvm.Cond.selects "java/util/TreeMap" ({ cls := "java/lang/Object", name := "getClass", desc := "()Ljava/lang/Class;" } : Jvm.MethodName) ({ cls := "java/lang/Object", name := "getClass", desc := "()Ljava/lang/Class;" } : Jvm.MethodName)) ∈ lw_all := lw_g (lw_at lw_m1 147 rfl) rfl
theorem q846 : (Jvm.Cond.static ({ cls := "java/util/TreeMap", name := "successor", desc := "(Ljava/util/TreeMap$Entry;)Ljava/util/TreeMap$Entry;" } : Jvm.MethodName)) ∈ lw_all := lw_g (lw_at lw_m4 51 rfl) rfl
theorem q847 : (Jvm.Cond.code ({ cls := "java/util/TreeMap", name := "successor", desc := "(Ljava/util/TreeMap$Entry;)Ljava/util/TreeMap$Entry;" } : Jvm.MethodName) prog_67_method_74_code (3 : Nat) (Option.some (Jvm.ClassFile.FieldType.object "java/util/TreeMap$Entry"))) ∈ lw_all := lw_g (lw_at lw_m4 52 rfl) rfl
theorem q1655 : (Jvm.Cond.castable "java/util/TreeMap" "java/util/NavigableMap") ∈ lw_tbl := lw_at lw_m7 140 rfl
theorem q1656 : (Jvm.Cond.selects "java/util/TreeMap" ({ cls := "java/util/Map", name := "size", desc := "()I" } : Jvm.MethodName) ({ cls := "java/util/TreeMap", name := "size", desc := "()I" } : Jvm.MethodName)) ∈ lw_all := lw_g (lw_at lw_m7 141 rfl) rfl
theorem q1657 : (Jvm.Cond.unhidden "java/util/TreeMap" "size" "()I") ∈ lw_tbl := lw_at lw_m7 142 rfl
theorem q1658 : (Jvm.Cond.instanceMethod ({ cls := "java/util/TreeMap", name := "size", desc := "()I" } : Jvm.MethodName)) ∈ lw_all := lw_g (lw_at lw_m7 143 rfl) rfl
theorem q1659 : (Jvm.Cond.publicMethod ({ cls := "java/util/TreeMap", name := "size", desc := "()I" } : Jvm.MethodName)) ∈ lw_tbl := lw_at lw_m7 144 rfl
theorem q1660 : (Jvm.Cond.code ({ cls := "java/util/TreeMap", name := "size", desc := "()I" } : Jvm.MethodName) prog_67_method_5_code (1 : Nat) (Option.some Jvm.ClassFile.FieldType.int)) ∈ lw_all := lw_g (lw_at lw_m7 145 rfl) rfl
theorem q1683 : (Jvm.Cond.instantiable "java/util/TreeMap" (9 : Nat)) ∈ lw_all := lw_g (lw_at lw_m7 168 rfl) rfl
theorem q1685 : (Jvm.Cond.instanceMethod ({ cls := "java/util/TreeMap", name := "<init>", desc := "()V" } : Jvm.MethodName)) ∈ lw_all := lw_g (lw_at lw_m7 170 rfl) rfl
theorem q1686 : (Jvm.Cond.code ({ cls := "java/util/TreeMap", name := "<init>", desc := "()V" } : Jvm.MethodName) prog_67_method_1_code (1 : Nat) (Option.none : Option Jvm.ClassFile.FieldType)) ∈ lw_all := lw_g (lw_at lw_m7 171 rfl) rfl
theorem q1687 : (Jvm.Cond.methodLink "java/util/TreeMap" (1 : Nat) ({ cls := "java/util/AbstractMap", name := "<init>", desc := "()V" } : Jvm.MethodName)) ∈ lw_all := lw_g (lw_at lw_m7 172 rfl) rfl
theorem q1691 : (Jvm.Cond.fieldLink "java/util/TreeMap" (16 : Nat) "java/util/TreeMap" "comparator" "Ljava/util/Comparator;") ∈ lw_all := lw_g (lw_at lw_m7 176 rfl) rfl
theorem q1692 : (Jvm.Cond.fieldLink "java/util/TreeMap" (101 : Nat) "java/util/TreeMap" "root" "Ljava/util/TreeMap$Entry;") ∈ lw_all := lw_g (lw_at lw_m7 177 rfl) rfl
theorem q1693 : (Jvm.Cond.fieldLink "java/util/TreeMap" (7 : Nat) "java/util/TreeMap" "size" "I") ∈ lw_all := lw_g (lw_at lw_m7 178 rfl) rfl
theorem q1694 : (Jvm.Cond.fieldLink "java/util/TreeMap" (13 : Nat) "java/util/TreeMap" "modCount" "I") ∈ lw_all := lw_g (lw_at lw_m7 179 rfl) rfl
theorem q1696 : (Jvm.Cond.fieldLink "java/util/TreeMap" (191 : Nat) "java/util/TreeMap" "navigableKeySet" "Ljava/util/TreeMap$KeySet;") ∈ lw_all := lw_g (lw_at lw_m7 181 rfl) rfl
theorem q1697 : (Jvm.Cond.laysFinal "java/util/TreeMap" "java/util/TreeMap" "comparator" "Ljava/util/Comparator;") ∈ lw_all := lw_g (lw_at lw_m7 182 rfl) rfl
theorem q1698 : (Jvm.Cond.soleField "java/util/TreeMap" "comparator") ∈ lw_all := lw_g (lw_at lw_m7 183 rfl) rfl
theorem q1699 : (Jvm.Cond.lays "java/util/TreeMap" "java/util/TreeMap" "root" "Ljava/util/TreeMap$Entry;") ∈ lw_all := lw_g (lw_at lw_m7 184 rfl) rfl
theorem q1700 : (Jvm.Cond.soleField "java/util/TreeMap" "root") ∈ lw_all := lw_g (lw_at lw_m7 185 rfl) rfl
theorem q1701 : (Jvm.Cond.lays "java/util/TreeMap" "java/util/TreeMap" "size" "I") ∈ lw_all := lw_g (lw_at lw_m7 186 rfl) rfl
theorem q1702 : (Jvm.Cond.soleField "java/util/TreeMap" "size") ∈ lw_all := lw_g (lw_at lw_m7 187 rfl) rfl
theorem q1703 : (Jvm.Cond.lays "java/util/TreeMap" "java/util/TreeMap" "modCount" "I") ∈ lw_all := lw_g (lw_at lw_m7 188 rfl) rfl
theorem q1704 : (Jvm.Cond.soleField "java/util/TreeMap" "modCount") ∈ lw_all := lw_g (lw_at lw_m7 189 rfl) rfl
theorem q1705 : (Jvm.Cond.lays "java/util/TreeMap" "java/util/TreeMap" "entrySet" "Ljava/util/TreeMap$EntrySet;") ∈ lw_all := lw_g (lw_at lw_m7 190 rfl) rfl
theorem q1706 : (Jvm.Cond.soleField "java/util/TreeMap" "entrySet") ∈ lw_all := lw_g (lw_at lw_m7 191 rfl) rfl
theorem q1707 : (Jvm.Cond.lays "java/util/TreeMap" "java/util/TreeMap" "navigableKeySet" "Ljava/util/TreeMap$KeySet;") ∈ lw_all := lw_g (lw_at lw_m7 192 rfl) rfl
theorem q1708 : (Jvm.Cond.soleField "java/util/TreeMap" "navigableKeySet") ∈ lw_all := lw_g (lw_at lw_m7 193 rfl) rfl
theorem q1709 : (Jvm.Cond.lays "java/util/TreeMap" "java/util/TreeMap" "descendingMap" "Ljava/util/NavigableMap;") ∈ lw_all := lw_g (lw_at lw_m7 194 rfl) rfl
theorem q1710 : (Jvm.Cond.soleField "java/util/TreeMap" "descendingMap") ∈ lw_all := lw_g (lw_at lw_m7 195 rfl) rfl
theorem q1711 : (Jvm.Cond.lays "java/util/TreeMap" "java/util/AbstractMap" "keySet" "Ljava/util/Set;") ∈ lw_all := lw_g (lw_at lw_m7 196 rfl) rfl
theorem q1713 : (Jvm.Cond.lays "java/util/TreeMap" "java/util/AbstractMap" "values" "Ljava/util/Collection;") ∈ lw_all := lw_g (lw_at lw_m7 198 rfl) rfl
theorem q1715 : (Jvm.Cond.superclass "java/util/TreeMap" "java/util/AbstractMap") ∈ lw_all := lw_g (lw_at lw_m7 200 rfl) rfl
theorem q1736 : (Jvm.Cond.instanceMethod ({ cls := "java/util/TreeMap", name := "containsKey", desc := "(Ljava/lang/Object;)Z" } : Jvm.MethodName)) ∈ lw_all := lw_g (lw_at lw_m7 221 rfl) rfl
theorem q1737 : (Jvm.Cond.selects "java/util/TreeMap" ({ cls := "java/util/TreeMap", name := "containsKey", desc := "(Ljava/lang/Object;)Z" } : Jvm.MethodName) ({ cls := "java/util/TreeMap", name := "containsKey", desc := "(Ljava/lang/Object;)Z" } : Jvm.MethodName)) ∈ lw_all := lw_g (lw_at lw_m7 222 rfl) rfl
theorem q1738 : (Jvm.Cond.code ({ cls := "java/util/TreeMap", name := "containsKey", desc := "(Ljava/lang/Object;)Z" } : Jvm.MethodName) prog_67_method_6_code (2 : Nat) (Option.some Jvm.ClassFile.FieldType.boolean)) ∈ lw_all := lw_g (lw_at lw_m7 223 rfl) rfl
theorem q1739 : (Jvm.Cond.methodLink "java/util/TreeMap" (50 : Nat) ({ cls := "java/util/TreeMap", name := "getEntry", desc := "(Ljava/lang/Object;)Ljava/util/TreeMap$Entry;" } : Jvm.MethodName)) ∈ lw_all := lw_g (lw_at lw_m7 224 rfl) rfl
theorem q1740 : (Jvm.Cond.instanceMethod ({ cls := "java/util/TreeMap", name := "getEntry", desc := "(Ljava/lang/Object;)Ljava/util/TreeMap$Entry;" } : Jvm.MethodName)) ∈ lw_all := lw_g (lw_at lw_m7 225 rfl) rfl
theorem q1741 : (Jvm.Cond.selects "java/util/TreeMap" ({ cls := "java/util/TreeMap", name := "getEntry", desc := "(Ljava/lang/Object;)Ljava/util/TreeMap$Entry;" } : Jvm.MethodName) ({ cls := "java/util/TreeMap", name := "getEntry", desc := "(Ljava/lang/Object;)Ljava/util/TreeMap$Entry;" } : Jvm.MethodName)) ∈ lw_all := lw_g (lw_at lw_m7 226 rfl) rfl
theorem q1742 : (Jvm.Cond.code ({ cls := "java/util/TreeMap", name := "getEntry", desc := "(Ljava/lang/Object;)Ljava/util/TreeMap$Entry;" } : Jvm.MethodName) prog_67_method_15_code (5 : Nat) (Option.some (Jvm.ClassFile.FieldType.object "java/util/TreeMap$Entry"))) ∈ lw_all := lw_g (lw_at lw_m7 227 rfl) rfl
theorem q1743 : (Jvm.Cond.methodLink "java/util/TreeMap" (92 : Nat) ({ cls := "java/util/TreeMap", name := "getEntryUsingComparator", desc := "(Ljava/lang/Object;)Ljava/util/TreeMap$Entry;" } : Jvm.MethodName)) ∈ lw_all := lw_g (lw_at lw_m7 228 rfl) rfl
theorem q1744 : (Jvm.Cond.instanceMethod ({ cls := "java/util/TreeMap", name := "getEntryUsingComparator", desc := "(Ljava/lang/Object;)Ljava/util/TreeMap$Entry;" } : Jvm.MethodName)) ∈ lw_all := lw_g (lw_at lw_m7 229 rfl) rfl
theorem q1745 : (Jvm.Cond.selects "java/util/TreeMap" ({ cls := "java/util/TreeMap", name := "getEntryUsingComparator", desc := "(Ljava/lang/Object;)Ljava/util/TreeMap$Entry;" } : Jvm.MethodName) ({ cls := "java/util/TreeMap", name := "getEntryUsingComparator", desc := "(Ljava/lang/Object;)Ljava/util/TreeMap$Entry;" } : Jvm.MethodName)) ∈ lw_all := lw_g (lw_at lw_m7 230 rfl) rfl
theorem q1746 : (Jvm.Cond.code ({ cls := "java/util/TreeMap", name := "getEntryUsingComparator", desc := "(Ljava/lang/Object;)Ljava/util/TreeMap$Entry;" } : Jvm.MethodName) prog_67_method_16_code (6 : Nat) (Option.some (Jvm.ClassFile.FieldType.object "java/util/TreeMap$Entry"))) ∈ lw_all := lw_g (lw_at lw_m7 231 rfl) rfl
theorem q1747 : (Jvm.Cond.interfaceEntry "java/util/TreeMap" (117 : Nat)) ∈ lw_tbl := lw_at lw_m7 232 rfl
theorem q1748 : (Jvm.Cond.methodLink "java/util/TreeMap" (117 : Nat) ({ cls := "java/util/Comparator", name := "compare", desc := "(Ljava/lang/Object;Ljava/lang/Object;)I" } : Jvm.MethodName)) ∈ lw_all := lw_g (lw_at lw_m7 233 rfl) rfl
theorem q1749 : (Jvm.Cond.methodLink "java/util/TreeMap" (95 : Nat) ({ cls := "java/util/Objects", name := "requireNonNull", desc := "(Ljava/lang/Object;)Ljava/lang/Object;" } : Jvm.MethodName)) ∈ lw_all := lw_g (lw_at lw_m7 234 rfl) rfl
theorem q1752 : (Jvm.Cond.classLink "java/util/TreeMap" (99 : Nat) "java/lang/Comparable") ∈ lw_all := lw_g (lw_at lw_m7 237 rfl) rfl
theorem q1753 : (Jvm.Cond.interfaceEntry "java/util/TreeMap" (107 : Nat)) ∈ lw_tbl := lw_at lw_m7 238 rfl
theorem q1754 : (Jvm.Cond.methodLink "java/util/TreeMap" (107 : Nat) ({ cls := "java/lang/Comparable", name := "compareTo", desc := "(Ljava/lang/Object;)I" } : Jvm.MethodName)) ∈ lw_all := lw_g (lw_at lw_m7 239 rfl) rfl
theorem q1756 : (Jvm.Cond.instanceMethod ({ cls := "java/util/TreeMap", name := "get", desc := "(Ljava/lang/Object;)Ljava/lang/Object;" } : Jvm.MethodName)) ∈ lw_all := lw_g (lw_at lw_m8 1 rfl) rfl
theorem q1757 : (Jvm.Cond.selects "java/util/TreeMap" ({ cls := "java/util/TreeMap", name := "get", desc := "(Ljava/lang/Object;)Ljava/lang/Object;" } : Jvm.MethodName) ({ cls := "java/util/TreeMap", name := "get", desc := "(Ljava/lang/Object;)Ljava/lang/Object;" } : Jvm.MethodName)) ∈ lw_all := lw_g (lw_at lw_m8 2 rfl) rfl
theorem q1758 : (Jvm.Cond.code ({ cls := "java/util/TreeMap", name := "get", desc := "(Ljava/lang/Object;)Ljava/lang/Object;" } : Jvm.MethodName) prog_67_method_8_code (3 : Nat) (Option.some (Jvm.ClassFile.FieldType.object "java/lang/Object"))) ∈ lw_all := lw_g (lw_at lw_m8 3 rfl) rfl
theorem q1765 : (Jvm.Cond.instanceMethod ({ cls := "java/util/TreeMap", name := "put", desc := "(Ljava/lang/Object;Ljava/lang/Object;)Ljava/lang/Object;" } : Jvm.MethodName)) ∈ lw_all := lw_g (lw_at lw_m8 10 rfl) rfl
theorem q1766 : (Jvm.Cond.selects "java/util/TreeMap" ({ cls := "java/util/TreeMap", name := "put", desc := "(Ljava/lang/Object;Ljava/lang/Object;)Ljava/lang/Object;" } : Jvm.MethodName) ({ cls := "java/util/TreeMap", name := "put", desc := "(Ljava/lang/Object;Ljava/lang/Object;)Ljava/lang/Object;" } : Jvm.MethodName)) ∈ lw_all := lw_g (lw_at lw_m8 11 rfl) rfl
theorem q1767 : (Jvm.Cond.code ({ cls := "java/util/TreeMap", name := "put", desc := "(Ljava/lang/Object;Ljava/lang/Object;)Ljava/lang/Object;" } : Jvm.MethodName) prog_67_method_21_code (3 : Nat) (Option.some (Jvm.ClassFile.FieldType.object "java/lang/Object"))) ∈ lw_all := lw_g (lw_at lw_m8 12 rfl) rfl
theorem q1768 : (Jvm.Cond.methodLink "java/util/TreeMap" (127 : Nat) ({ cls := "java/util/TreeMap", name := "put", desc := "(Ljava/lang/Object;Ljava/lang/Object;Z)Ljava/lang/Object;" } : Jvm.MethodName)) ∈ lw_all := lw_g (lw_at lw_m8 13 rfl) rfl
theorem q1769 : (Jvm.Cond.privateMethod ({ cls := "java/util/TreeMap", name := "put", desc := "(Ljava/lang/Object;Ljava/lang/Object;Z)Ljava/lang/Object;" } : Jvm.MethodName)) ∈ lw_tbl := lw_at lw_m8 14 rfl
theorem q1770 : (Jvm.Cond.instanceMethod ({ cls := "java/util/TreeMap", name := "put", desc := "(Ljava/lang/Object;Ljava/lang/Object;Z)Ljava/lang/Object;" } : Jvm.MethodName)) ∈ lw_all := lw_g (lw_at lw_m8 15 rfl) rfl
theorem q1771 : (Jvm.Cond.code ({ cls := "java/util/TreeMap", name := "put", desc := "(Ljava/lang/Object;Ljava/lang/Object;Z)Ljava/lang/Object;" } : Jvm.MethodName) prog_67_method_31_code (10 : Nat) (Option.some (Jvm.ClassFile.FieldType.object "java/lang/Object"))) ∈ lw_all := lw_g (lw_at lw_m8 16 rfl) rfl
theorem q1772 : (Jvm.Cond.methodLink "java/util/TreeMap" (135 : Nat) ({ cls := "java/util/TreeMap", name := "addEntryToEmptyMap", desc := "(Ljava/lang/Object;Ljava/lang/Object;)V" } : Jvm.MethodName)) ∈ lw_all := lw_g (lw_at lw_m8 17 rfl) rfl
theorem q1773 : (Jvm.Cond.privateMethod ({ cls := "java/util/TreeMap", name := "addEntryToEmptyMap", desc := "(Ljava/lang/Object;Ljava/lang/Object;)V" } : Jvm.MethodName)) ∈ lw_tbl := lw_at lw_m8 18 rfl
theorem q1774 : (Jvm.Cond.instanceMethod ({ cls := "java/util/TreeMap", name := "addEntryToEmptyMap", desc := "(Ljava/lang/Object;Ljava/lang/Object;)V" } : Jvm.MethodName)) ∈ lw_all := lw_g (lw_at lw_m8 19 rfl) rfl
theorem q1775 : (Jvm.Cond.code ({ cls := "java/util/TreeMap", name := "addEntryToEmptyMap", desc := "(Ljava/lang/Object;Ljava/lang/Object;)V" } : Jvm.MethodName) prog_67_method_30_code (3 : Nat) (Option.none : Option Jvm.ClassFile.FieldType)) ∈ lw_all := lw_g (lw_at lw_m8 20 rfl) rfl
theorem q1776 : (Jvm.Cond.methodLink "java/util/TreeMap" (123 : Nat) ({ cls := "java/util/TreeMap", name := "compare", desc := "(Ljava/lang/Object;Ljava/lang/Object;)I" } : Jvm.MethodName)) ∈ lw_all := lw_g (lw_at lw_m8 21 rfl) rfl
theorem q1777 : (Jvm.Cond.instanceMethod ({ cls := "java/util/TreeMap", name := "compare", desc := "(Ljava/lang/Object;Ljava/lang/Object;)I" } : Jvm.MethodName)) ∈ lw_all := lw_g (lw_at lw_m8 22 rfl) rfl
theorem q1778 : (Jvm.Cond.selects "java/util/TreeMap" ({ cls := "java/util/TreeMap", name := "compare", desc := "(Ljava/lang/Object;Ljava/lang/Object;)I" } : Jvm.MethodName) ({ cls := "java/util/TreeMap", name := "compare", desc := "(Ljava/lang/Object;Ljava/lang/Object;)I" } : Jvm.MethodName)) ∈ lw_all := lw_g (lw_at lw_m8 23 rfl) rfl
theorem q1779 : (Jvm.Cond.code ({ cls := "java/util/TreeMap", name := "compare", desc := "(Ljava/lang/Object;Ljava/lang/Object;)I" } : Jvm.MethodName) prog_67_method_67_code (3 : Nat) (Option.some Jvm.ClassFile.FieldType.int)) ∈ lw_all := lw_g (lw_at lw_m8 24 rfl) rfl
theorem q1780 : (Jvm.Cond.classLink "java/util/TreeMap" (59 : Nat) "java/util/TreeMap$Entry") ∈ lw_all := lw_g (lw_at lw_m8 25 rfl) rfl
theorem q1782 : (Jvm.Cond.methodLink "java/util/TreeMap" (167 : Nat) ({ cls := "java/util/TreeMap$Entry", name := "<init>", desc := "(Ljava/lang/Object;Ljava/lang/Object;Ljava/util/TreeMap$Entry;)V" } : Jvm.MethodName)) ∈ lw_all := lw_g (lw_at lw_m8 27 rfl) rfl
theorem q1788 : (Jvm.Cond.fieldLink "java/util/TreeMap" (105 : Nat) "java/util/TreeMap$Entry" "key" "Ljava/lang/Object;") ∈ lw_all := lw_g (lw_at lw_m8 33 rfl) rfl
theorem q1790 : (Jvm.Cond.fieldLink "java/util/TreeMap" (58 : Nat) "java/util/TreeMap$Entry" "value" "Ljava/lang/Object;") ∈ lw_all := lw_g (lw_at lw_m8 35 rfl) rfl
theorem q1791 : (Jvm.Cond.fieldLink "java/util/TreeMap" (111 : Nat) "java/util/TreeMap$Entry" "left" "Ljava/util/TreeMap$Entry;") ∈ lw_all := lw_g (lw_at lw_m8 36 rfl) rfl
theorem q1792 : (Jvm.Cond.fieldLink "java/util/TreeMap" (114 : Nat) "java/util/TreeMap$Entry" "right" "Ljava/util/TreeMap$Entry;") ∈ lw_all := lw_g (lw_at lw_m8 37 rfl) rfl
theorem q1794 : (Jvm.Cond.fieldLink "java/util/TreeMap" (124 : Nat) "java/util/TreeMap$Entry" "parent" "Ljava/util/TreeMap$Entry;") ∈ lw_all := lw_g (lw_at lw_m8 39 rfl) rfl
theorem q1796 : (Jvm.Cond.fieldLink "java/util/TreeMap" (290 : Nat) "java/util/TreeMap$Entry" "color" "Z") ∈ lw_all := lw_g (lw_at lw_m8 41 rfl) rfl
theorem q1810 : (Jvm.Cond.methodLink "java/util/TreeMap" (139 : Nat) ({ cls := "java/util/TreeMap", name := "addEntry", desc := "(Ljava/lang/Object;Ljava/lang/Object;Ljava/util/TreeMap$Entry;Z)V" } : Jvm.MethodName)) ∈ lw_all := lw_g (lw_at lw_m8 55 rfl) rfl
theorem q1811 : (Jvm.Cond.privateMethod ({ cls := "java/util/TreeMap", name := "addEntry", desc := "(Ljava/lang/Object;Ljava/lang/Object;Ljava/util/TreeMap$Entry;Z)V" } : Jvm.MethodName)) ∈ lw_tbl := lw_at lw_m8 56 rfl
theorem q1812 : (Jvm.Cond.instanceMethod ({ cls := "java/util/TreeMap", name := "addEntry", desc := "(Ljava/lang/Object;Ljava/lang/Object;Ljava/util/TreeMap$Entry;Z)V" } : Jvm.MethodName)) ∈ lw_all := lw_g (lw_at lw_m8 57 rfl) rfl
theorem q1813 : (Jvm.Cond.code ({ cls := "java/util/TreeMap", name := "addEntry", desc := "(Ljava/lang/Object;Ljava/lang/Object;Ljava/util/TreeMap$Entry;Z)V" } : Jvm.MethodName) prog_67_method_29_code (6 : Nat) (Option.none : Option Jvm.ClassFile.FieldType)) ∈ lw_all := lw_g (lw_at lw_m8 58 rfl) rfl
theorem q1814 : (Jvm.Cond.methodLink "java/util/TreeMap" (170 : Nat) ({ cls := "java/util/TreeMap", name := "fixAfterInsertion", desc := "(Ljava/util/TreeMap$Entry;)V" } : Jvm.MethodName)) ∈ lw_all := lw_g (lw_at lw_m8 59 rfl) rfl
theorem q1815 : (Jvm.Cond.privateMethod ({ cls := "java/util/TreeMap", name := "fixAfterInsertion", desc := "(Ljava/util/TreeMap$Entry;)V" } : Jvm.MethodName)) ∈ lw_tbl := lw_at lw_m8 60 rfl
theorem q1816 : (Jvm.Cond.instanceMethod ({ cls := "java/util/TreeMap", name := "fixAfterInsertion", desc := "(Ljava/util/TreeMap$Entry;)V" } : Jvm.MethodName)) ∈ lw_all := lw_g (lw_at lw_m8 61 rfl) rfl
theorem q1817 : (Jvm.Cond.code ({ cls := "java/util/TreeMap", name := "fixAfterInsertion", desc := "(Ljava/util/TreeMap$Entry;)V" } : Jvm.MethodName) prog_67_method_83_code (3 : Nat) (Option.none : Option Jvm.ClassFile.FieldType)) ∈ lw_all := lw_g (lw_at lw_m8 62 rfl) rfl
theorem q1818 : (Jvm.Cond.methodLink "java/util/TreeMap" (294 : Nat) ({ cls := "java/util/TreeMap", name := "parentOf", desc := "(Ljava/util/TreeMap$Entry;)Ljava/util/TreeMap$Entry;" } : Jvm.MethodName)) ∈ lw_all := lw_g (lw_at lw_m8 63 rfl) rfl
theorem q1819 : (Jvm.Cond.static ({ cls := "java/util/TreeMap", name := "parentOf", desc := "(Ljava/util/TreeMap$Entry;)Ljava/util/TreeMap$Entry;" } : Jvm.MethodName)) ∈ lw_all := lw_g (lw_at lw_m8 64 rfl) rfl
theorem q1820 : (Jvm.Cond.code ({ cls := "java/util/TreeMap", name := "parentOf", desc := "(Ljava/util/TreeMap$Entry;)Ljava/util/TreeMap$Entry;" } : Jvm.MethodName) prog_67_method_77_code (1 : Nat) (Option.some (Jvm.ClassFile.FieldType.object "java/util/TreeMap$Entry"))) ∈ lw_all := lw_g (lw_at lw_m8 65 rfl) rfl
theorem q1821 : (Jvm.Cond.methodLink "java/util/TreeMap" (297 : Nat) ({ cls := "java/util/TreeMap", name := "leftOf", desc := "(Ljava/util/TreeMap$Entry;)Ljava/util/TreeMap$Entry;" } : Jvm.MethodName)) ∈ lw_all := lw_g (lw_at lw_m8 66 rfl) rfl
theorem q1822 : (Jvm.Cond.static ({ cls := "java/util/TreeMap", name := "leftOf", desc := "(Ljava/util/TreeMap$Entry;)Ljava/util/TreeMap$Entry;" } : Jvm.MethodName)) ∈ lw_all := lw_g (lw_at lw_m8 67 rfl) rfl
theorem q1823 : (Jvm.Cond.code ({ cls := "java/util/TreeMap", name := "leftOf", desc := "(Ljava/util/TreeMap$Entry;)Ljava/util/TreeMap$Entry;" } : Jvm.MethodName) prog_67_method_79_code (1 : Nat) (Option.some (Jvm.ClassFile.FieldType.object "java/util/TreeMap$Entry"))) ∈ lw_all := lw_g (lw_at lw_m8 68 rfl) rfl
theorem q1824 : (Jvm.Cond.methodLink "java/util/TreeMap" (300 : Nat) ({ cls := "java/util/TreeMap", name := "rightOf", desc := "(Ljava/util/TreeMap$Entry;)Ljava/util/TreeMap$Entry;" } : Jvm.MethodName)) ∈ lw_all := lw_g (lw_at lw_m8 69 rfl) rfl
theorem q1825 : (Jvm.Cond.static ({ cls := "java/util/TreeMap", name := "rightOf", desc := "(Ljava/util/TreeMap$Entry;)Ljava/util/TreeMap$Entry;" } : Jvm.MethodName)) ∈ lw_all := lw_g (lw_at lw_m8 70 rfl) rfl
theorem q1826 : (Jvm.Cond.code ({ cls := "java/util/TreeMap", name := "rightOf", desc := "(Ljava/util/TreeMap$Entry;)Ljava/util/TreeMap$Entry;" } : Jvm.MethodName) prog_67_method_80_code (1 : Nat) (Option.some (Jvm.ClassFile.FieldType.object "java/util/TreeMap$Entry"))) ∈ lw_all := lw_g (lw_at lw_m8 71 rfl) rfl
theorem q1827 : (Jvm.Cond.methodLink "java/util/TreeMap" (303 : Nat) ({ cls := "java/util/TreeMap", name := "colorOf", desc := "(Ljava/util/TreeMap$Entry;)Z" } : Jvm.MethodName)) ∈ lw_all := lw_g (lw_at lw_m8 72 rfl) rfl
theorem q1828 : (Jvm.Cond.static ({ cls := "java/util/TreeMap", name := "colorOf", desc := "(Ljava/util/TreeMap$Entry;)Z" } : Jvm.MethodName)) ∈ lw_all := lw_g (lw_at lw_m8 73 rfl) rfl
theorem q1829 : (Jvm.Cond.code ({ cls := "java/util/TreeMap", name := "colorOf", desc := "(Ljava/util/TreeMap$Entry;)Z" } : Jvm.MethodName) prog_67_method_76_code (1 : Nat) (Option.some Jvm.ClassFile.FieldType.boolean)) ∈ lw_all := lw_g (lw_at lw_m8 74 rfl) rfl
theorem q1830 : (Jvm.Cond.methodLink "java/util/TreeMap" (307 : Nat) ({ cls := "java/util/TreeMap", name := "setColor", desc := "(Ljava/util/TreeMap$Entry;Z)V" } : Jvm.MethodName)) ∈ lw_all := lw_g (lw_at lw_m8 75 rfl) rfl
theorem q1831 : (Jvm.Cond.static ({ cls := "java/util/TreeMap", name := "setColor", desc := "(Ljava/util/TreeMap$Entry;Z)V" } : Jvm.MethodName)) ∈ lw_all := lw_g (lw_at lw_m8 76 rfl) rfl
theorem q1832 : (Jvm.Cond.code ({ cls := "java/util/TreeMap", name := "setColor", desc := "(Ljava/util/TreeMap$Entry;Z)V" } : Jvm.MethodName) prog_67_method_78_code (2 : Nat) (Option.none : Option Jvm.ClassFile.FieldType)) ∈ lw_all := lw_g (lw_at lw_m8 77 rfl) rfl
theorem q1833 : (Jvm.Cond.methodLink "java/util/TreeMap" (311 : Nat) ({ cls := "java/util/TreeMap", name := "rotateLeft", desc := "(Ljava/util/TreeMap$Entry;)V" } : Jvm.MethodName)) ∈ lw_all := lw_g (lw_at lw_m8 78 rfl) rfl
theorem q1834 : (Jvm.Cond.privateMethod ({ cls := "java/util/TreeMap", name := "rotateLeft", desc := "(Ljava/util/TreeMap$Entry;)V" } : Jvm.MethodName)) ∈ lw_tbl := lw_at lw_m8 79 rfl
theorem q1835 : (Jvm.Cond.instanceMethod ({ cls := "java/util/TreeMap", name := "rotateLeft", desc := "(Ljava/util/TreeMap$Entry;)V" } : Jvm.MethodName)) ∈ lw_all := lw_g (lw_at lw_m8 80 rfl) rfl
theorem q1836 : (Jvm.Cond.code ({ cls := "java/util/TreeMap", name := "rotateLeft", desc := "(Ljava/util/TreeMap$Entry;)V" } : Jvm.MethodName) prog_67_method_81_code (3 : Nat) (Option.none : Option Jvm.ClassFile.FieldType)) ∈ lw_all := lw_g (lw_at lw_m8 81 rfl) rfl
theorem q1837 : (Jvm.Cond.methodLink "java/util/TreeMap" (314 : Nat) ({ cls := "java/util/TreeMap", name := "rotateRight", desc := "(Ljava/util/TreeMap$Entry;)V" } : Jvm.MethodName)) ∈ lw_all := lw_g (lw_at lw_m8 82 rfl) rfl
theorem q1838 : (Jvm.Cond.privateMethod ({ cls := "java/util/TreeMap", name := "rotateRight", desc := "(Ljava/util/TreeMap$Entry;)V" } : Jvm.MethodName)) ∈ lw_tbl := lw_at lw_m8 83 rfl
theorem q1839 : (Jvm.Cond.instanceMethod ({ cls := "java/util/TreeMap", name := "rotateRight", desc := "(Ljava/util/TreeMap$Entry;)V" } : Jvm.MethodName)) ∈ lw_all := lw_g (lw_at lw_m8 84 rfl) rfl
theorem q1840 : (Jvm.Cond.code ({ cls := "java/util/TreeMap", name := "rotateRight", desc := "(Ljava/util/TreeMap$Entry;)V" } : Jvm.MethodName) prog_67_method_82_code (3 : Nat) (Option.none : Option Jvm.ClassFile.FieldType)) ∈ lw_all := lw_g (lw_at lw_m8 85 rfl) rfl
theorem q1843 : (Jvm.Cond.instanceMethod ({ cls := "java/util/TreeMap", name := "keySet", desc := "()Ljava/util/Set;" } : Jvm.MethodName)) ∈ lw_all := lw_g (lw_at lw_m8 88 rfl) rfl
theorem q1844 : (Jvm.Cond.selects "java/util/TreeMap" ({ cls := "java/util/TreeMap", name := "keySet", desc := "()Ljava/util/Set;" } : Jvm.MethodName) ({ cls := "java/util/TreeMap", name := "keySet", desc := "()Ljava/util/Set;" } : Jvm.MethodName)) ∈ lw_all := lw_g (lw_at lw_m8 89 rfl) rfl
theorem q1845 : (Jvm.Cond.code ({ cls := "java/util/TreeMap", name := "keySet", desc := "()Ljava/util/Set;" } : Jvm.MethodName) prog_67_method_49_code (1 : Nat) (Option.some (Jvm.ClassFile.FieldType.object "java/util/Set"))) ∈ lw_all := lw_g (lw_at lw_m8 90 rfl) rfl
theorem q1846 : (Jvm.Cond.methodLink "java/util/TreeMap" (219 : Nat) ({ cls := "java/util/TreeMap", name := "navigableKeySet", desc := "()Ljava/util/NavigableSet;" } : Jvm.MethodName)) ∈ lw_all := lw_g (lw_at lw_m8 91 rfl) rfl
theorem q1847 : (Jvm.Cond.instanceMethod ({ cls := "java/util/TreeMap", name := "navigableKeySet", desc := "()Ljava/util/NavigableSet;" } : Jvm.MethodName)) ∈ lw_all := lw_g (lw_at lw_m8 92 rfl) rfl
theorem q1848 : (Jvm.Cond.selects "java/util/TreeMap" ({ cls := "java/util/TreeMap", name := "navigableKeySet", desc := "()Ljava/util/NavigableSet;" } : Jvm.MethodName) ({ cls := "java/util/TreeMap", name := "navigableKeySet", desc := "()Ljava/util/NavigableSet;" } : Jvm.MethodName)) ∈ lw_all := lw_g (lw_at lw_m8 93 rfl) rfl
theorem q1849 : (Jvm.Cond.code ({ cls := "java/util/TreeMap", name := "navigableKeySet", desc := "()Ljava/util/NavigableSet;" } : Jvm.MethodName) prog_67_method_50_code (2 : Nat) (Option.some (Jvm.ClassFile.FieldType.object "java/util/NavigableSet"))) ∈ lw_all := lw_g (lw_at lw_m8 94 rfl) rfl
theorem q1850 : (Jvm.Cond.classLink "java/util/TreeMap" (222 : Nat) "java/util/TreeMap$KeySet") ∈ lw_all := lw_g (lw_at lw_m8 95 rfl) rfl
theorem q1852 : (Jvm.Cond.methodLink "java/util/TreeMap" (224 : Nat) ({ cls := "java/util/TreeMap$KeySet", name := "<init>", desc := "(Ljava/util/NavigableMap;)V" } : Jvm.MethodName)) ∈ lw_all := lw_g (lw_at lw_m8 97 rfl) rfl
theorem q1875 : (Jvm.Cond.instanceMethod ({ cls := "java/util/TreeMap", name := "keyIterator", desc := "()Ljava/util/Iterator;" } : Jvm.MethodName)) ∈ lw_all := lw_g (lw_at lw_m8 120 rfl) rfl
theorem q1876 : (Jvm.Cond.selects "java/util/TreeMap" ({ cls := "java/util/TreeMap", name := "keyIterator", desc := "()Ljava/util/Iterator;" } : Jvm.MethodName) ({ cls := "java/util/TreeMap", name := "keyIterator", desc := "()Ljava/util/Iterator;" } : Jvm.MethodName)) ∈ lw_all := lw_g (lw_at lw_m8 121 rfl) rfl
theorem q1877 : (Jvm.Cond.code ({ cls := "java/util/TreeMap", name := "keyIterator", desc := "()Ljava/util/Iterator;" } : Jvm.MethodName) prog_67_method_65_code (1 : Nat) (Option.some (Jvm.ClassFile.FieldType.object "java/util/Iterator"))) ∈ lw_all := lw_g (lw_at lw_m8 122 rfl) rfl
theorem q1878 : (Jvm.Cond.classLink "java/util/TreeMap" (269 : Nat) "java/util/TreeMap$KeyIterator") ∈ lw_all := lw_g (lw_at lw_m8 123 rfl) rfl
theorem q1880 : (Jvm.Cond.methodLink "java/util/TreeMap" (54 : Nat) ({ cls := "java/util/TreeMap", name := "getFirstEntry", desc := "()Ljava/util/TreeMap$Entry;" } : Jvm.MethodName)) ∈ lw_all := lw_g (lw_at lw_m8 125 rfl) rfl
theorem q1881 : (Jvm.Cond.instanceMethod ({ cls := "java/util/TreeMap", name := "getFirstEntry", desc := "()Ljava/util/TreeMap$Entry;" } : Jvm.MethodName)) ∈ lw_all := lw_g (lw_at lw_m8 126 rfl) rfl
theorem q1882 : (Jvm.Cond.selects "java/util/TreeMap" ({ cls := "java/util/TreeMap", name := "getFirstEntry", desc := "()Ljava/util/TreeMap$Entry;" } : Jvm.MethodName) ({ cls := "java/util/TreeMap", name := "getFirstEntry", desc := "()Ljava/util/TreeMap$Entry;" } : Jvm.MethodName)) ∈ lw_all := lw_g (lw_at lw_m8 127 rfl) rfl
theorem q1883 : (Jvm.Cond.code ({ cls := "java/util/TreeMap", name := "getFirstEntry", desc := "()Ljava/util/TreeMap$Entry;" } : Jvm.MethodName) prog_67_method_72_code (2 : Nat) (Option.some (Jvm.ClassFile.FieldType.object "java/util/TreeMap$Entry"))) ∈ lw_all := lw_g (lw_at lw_m8 128 rfl) rfl
theorem q1884 : (Jvm.Cond.methodLink "java/util/TreeMap" (271 : Nat) ({ cls := "java/util/TreeMap$KeyIterator", name := "<init>", desc := "(Ljava/util/TreeMap;Ljava/util/TreeMap$Entry;)V" } : Jvm.MethodName)) ∈ lw_all := lw_g (lw_at lw_m8 129 rfl) rfl
theorem q2407 : (Jvm.Cond.selects "java/util/TreeMap" ({ cls := "java/util/TreeMap", name := "size", desc := "()I" } : Jvm.MethodName) ({ cls := "java/util/TreeMap", name := "size", desc := "()I" } : Jvm.MethodName)) ∈ lw_all := lw_g (lw_at lw_m10 172 rfl) rfl
theorem q2432 : (Jvm.Cond.castable "java/util/TreeMap" "java/lang/Object") ∈ lw_tbl := lw_at lw_m10 197 rfl
theorem in_J29 : ∀ w ∈ wsJ290, w ∈ lw_all := lw_in wsJ290 [1711, 1713, 1697, 1699, 1701, 1703, 1705, 1707, 1709] (by decide +kernel) (by decide +kernel)

/-! java/util/TreeMap$Entry -/
set_option maxRecDepth 100000
def RJ30 : String := "java/util/TreeMap$Entry"
def TJ30 : u_T := fun k => match k with
  | 0 => ("java/util/TreeMap$Entry", "key", "Ljava/lang/Object;", false)
  | 1 => ("java/util/TreeMap$Entry", "value", "Ljava/lang/Object;", false)
  | 2 => ("java/util/TreeMap$Entry", "left", "Ljava/util/TreeMap$Entry;", false)
  | 3 => ("java/util/TreeMap$Entry", "right", "Ljava/util/TreeMap$Entry;", false)
  | 4 => ("java/util/TreeMap$Entry", "parent", "Ljava/util/TreeMap$Entry;", false)
  | _ => ("java/util/TreeMap$Entry", "color", "Z", false)
def tyJ30 : Nat → FieldType := fun k => match k with
  | 0 => .object "java/lang/Object"
  | 1 => .object "java/lang/Object"
  | 2 => .object "java/util/TreeMap$Entry"
  | 3 => .object "java/util/TreeMap$Entry"
  | 4 => .object "java/util/TreeMap$Entry"
  | _ => .boolean
abbrev wsJ300 : List Cond := u_ws RJ30 TJ30 6
theorem nmJ30 : ∀ a, a < 6 → ∀ b, b < 6 → a ≠ b → (TJ30 a).2.1 ≠ (TJ30 b).2.1 := by decide +kernel
theorem tyJ30_ok : ∀ k, k < 6 → parseFieldDescriptor (TJ30 k).2.2.1 = some (tyJ30 k) := by decide +kernel
abbrev cJ30_init : ByteArray := prog_68_method_1_code
def yJ30_init : MethodName := ⟨RJ30, "<init>", "(Ljava/lang/Object;Ljava/lang/Object;Ljava/util/TreeMap$Entry;)V"⟩
def dkwJ30_init_1 : List UInt8 := [177]
abbrev dktJ30_init_1 : List UInt8 := dkwJ30_init_1 ++ []
def dkwJ30_init_0 : List UInt8 := [42, 183, 0, 3, 42, 4, 181, 0, 9, 42, 43, 181, 0, 15, 42, 44, 181, 0, 19, 42, 45, 181, 0, 22]
abbrev dktJ30_init_0 : List UInt8 := dkwJ30_init_0 ++ dktJ30_init_1
theorem dksJ30_init_0 : cJ30_init.data.toList.drop 0 = dktJ30_init_0 := by decide +kernel
theorem dksJ30_init_1 : cJ30_init.data.toList.drop 24 = dktJ30_init_1 := dk_seg dksJ30_init_0 24 rfl rfl
theorem dJ30_init_0 : decode cJ30_init 0 = .ok (.aload_n 0, 1) := dk_42 (dk_at dksJ30_init_0 0 rfl rfl)
theorem dJ30_init_1 : decode cJ30_init 1 = .ok (.invokespecial 3, 3) := dk_183 0 3 (dk_at dksJ30_init_0 1 rfl rfl)
theorem dJ30_init_4 : decode cJ30_init 4 = .ok (.aload_n 0, 1) := dk_42 (dk_at dksJ30_init_0 4 rfl rfl)
theorem dJ30_init_5 : decode cJ30_init 5 = .ok (.iconst 1, 1) := dk_4 (dk_at dksJ30_init_0 5 rfl rfl)
theorem dJ30_init_6 : decode cJ30_init 6 = .ok (.putfield 9, 3) := dk_181 0 9 (dk_at dksJ30_init_0 6 rfl rfl)
theorem dJ30_init_9 : decode cJ30_init 9 = .ok (.aload_n 0, 1) := dk_42 (dk_at dksJ30_init_0 9 rfl rfl)
theorem dJ30_init_10 : decode cJ30_init 10 = .ok (.aload_n 1, 1) := dk_43 (dk_at dksJ30_init_0 10 rfl rfl)
theorem dJ30_init_11 : decode cJ30_init 11 = .ok (.putfield 15, 3) := dk_181 0 15 (dk_at dksJ30_init_0 11 rfl rfl)
theorem dJ30_init_14 : decode cJ30_init 14 = .ok (.aload_n 0, 1) := dk_42 (dk_at dksJ30_init_0 14 rfl rfl)
theorem dJ30_init_15 : decode cJ30_init 15 = .ok (.aload_n 2, 1) := dk_44 (dk_at dksJ30_init_0 15 rfl rfl)
theorem dJ30_init_16 : decode cJ30_init 16 = .ok (.putfield 19, 3) := dk_181 0 19 (dk_at dksJ30_init_0 16 rfl rfl)
theorem dJ30_init_19 : decode cJ30_init 19 = .ok (.aload_n 0, 1) := dk_42 (dk_at dksJ30_init_0 19 rfl rfl)
theorem dJ30_init_20 : decode cJ30_init 20 = .ok (.aload_n 3, 1) := dk_45 (dk_at dksJ30_init_0 20 rfl rfl)
theorem dJ30_init_21 : decode cJ30_init 21 = .ok (.putfield 22, 3) := dk_181 0 22 (dk_at dksJ30_init_0 21 rfl rfl)
theorem dJ30_init_24 : decode cJ30_init 24 = .ok (.return_, 1) := dk_177 (dk_at dksJ30_init_1 0 rfl rfl)
theorem q119 : (Jvm.Cond.initialized "java/util/TreeMap$Entry") ∈ lw_all := lw_g (lw_at lw_m1 44 rfl) rfl
theorem q223 : (Jvm.Cond.selects "java/util/TreeMap$Entry" ({ cls := "java/lang/Object", name := "getClass", desc := "()Ljava/lang/Class;" } : Jvm.MethodName) ({ cls := "java/lang/Object", name := "getClass", desc := "()Ljava/lang/Class;" } : Jvm.MethodName)) ∈ lw_all := lw_g (lw_at lw_m1 148 rfl) rfl
theorem q1781 : (Jvm.Cond.instantiable "java/util/TreeMap$Entry" (6 : Nat)) ∈ lw_all := lw_g (lw_at lw_m8 26 rfl) rfl
theorem q1783 : (Jvm.Cond.instanceMethod ({ cls := "java/util/TreeMap$Entry", name := "<init>", desc := "(Ljava/lang/Object;Ljava/lang/Object;Ljava/util/TreeMap$Entry;)V" } : Jvm.MethodName)) ∈ lw_all := lw_g (lw_at lw_m8 28 rfl) rfl
theorem q1784 : (Jvm.Cond.code ({ cls := "java/util/TreeMap$Entry", name := "<init>", desc := "(Ljava/lang/Object;Ljava/lang/Object;Ljava/util/TreeMap$Entry;)V" } : Jvm.MethodName) prog_68_method_1_code (4 : Nat) (Option.none : Option Jvm.ClassFile.FieldType)) ∈ lw_all := lw_g (lw_at lw_m8 29 rfl) rfl
theorem q1785 : (Jvm.Cond.methodLink "java/util/TreeMap$Entry" (3 : Nat) ({ cls := "java/lang/Object", name := "<init>", desc := "()V" } : Jvm.MethodName)) ∈ lw_all := lw_g (lw_at lw_m8 30 rfl) rfl
theorem q1786 : (Jvm.Cond.fieldLink "java/util/TreeMap$Entry" (15 : Nat) "java/util/TreeMap$Entry" "key" "Ljava/lang/Object;") ∈ lw_all := lw_g (lw_at lw_m8 31 rfl) rfl
theorem q1789 : (Jvm.Cond.fieldLink "java/util/TreeMap$Entry" (19 : Nat) "java/util/TreeMap$Entry" "value" "Ljava/lang/Object;") ∈ lw_all := lw_g (lw_at lw_m8 34 rfl) rfl
theorem q1793 : (Jvm.Cond.fieldLink "java/util/TreeMap$Entry" (22 : Nat) "java/util/TreeMap$Entry" "parent" "Ljava/util/TreeMap$Entry;") ∈ lw_all := lw_g (lw_at lw_m8 38 rfl) rfl
theorem q1795 : (Jvm.Cond.fieldLink "java/util/TreeMap$Entry" (9 : Nat) "java/util/TreeMap$Entry" "color" "Z") ∈ lw_all := lw_g (lw_at lw_m8 40 rfl) rfl
theorem q1797 : (Jvm.Cond.lays "java/util/TreeMap$Entry" "java/util/TreeMap$Entry" "key" "Ljava/lang/Object;") ∈ lw_all := lw_g (lw_at lw_m8 42 rfl) rfl
theorem q1798 : (Jvm.Cond.soleField "java/util/TreeMap$Entry" "key") ∈ lw_all := lw_g (lw_at lw_m8 43 rfl) rfl
theorem q1799 : (Jvm.Cond.lays "java/util/TreeMap$Entry" "java/util/TreeMap$Entry" "value" "Ljava/lang/Object;") ∈ lw_all := lw_g (lw_at lw_m8 44 rfl) rfl
theorem q1800 : (Jvm.Cond.soleField "java/util/TreeMap$Entry" "value") ∈ lw_all := lw_g (lw_at lw_m8 45 rfl) rfl
theorem q1801 : (Jvm.Cond.lays "java/util/TreeMap$Entry" "java/util/TreeMap$Entry" "left" "Ljava/util/TreeMap$Entry;") ∈ lw_all := lw_g (lw_at lw_m8 46 rfl) rfl
theorem q1802 : (Jvm.Cond.soleField "java/util/TreeMap$Entry" "left") ∈ lw_all := lw_g (lw_at lw_m8 47 rfl) rfl
theorem q1803 : (Jvm.Cond.lays "java/util/TreeMap$Entry" "java/util/TreeMap$Entry" "right" "Ljava/util/TreeMap$Entry;") ∈ lw_all := lw_g (lw_at lw_m8 48 rfl) rfl
theorem q1804 : (Jvm.Cond.soleField "java/util/TreeMap$Entry" "right") ∈ lw_all := lw_g (lw_at lw_m8 49 rfl) rfl
theorem q1805 : (Jvm.Cond.lays "java/util/TreeMap$Entry" "java/util/TreeMap$Entry" "parent" "Ljava/util/TreeMap$Entry;") ∈ lw_all := lw_g (lw_at lw_m8 50 rfl) rfl
theorem q1806 : (Jvm.Cond.soleField "java/util/TreeMap$Entry" "parent") ∈ lw_all := lw_g (lw_at lw_m8 51 rfl) rfl
theorem q1807 : (Jvm.Cond.lays "java/util/TreeMap$Entry" "java/util/TreeMap$Entry" "color" "Z") ∈ lw_all := lw_g (lw_at lw_m8 52 rfl) rfl
theorem q1808 : (Jvm.Cond.soleField "java/util/TreeMap$Entry" "color") ∈ lw_all := lw_g (lw_at lw_m8 53 rfl) rfl
theorem q1809 : (Jvm.Cond.superclass "java/util/TreeMap$Entry" "java/lang/Object") ∈ lw_all := lw_g (lw_at lw_m8 54 rfl) rfl
theorem q2434 : (Jvm.Cond.castable "java/util/TreeMap$Entry" "java/lang/Object") ∈ lw_tbl := lw_at lw_m10 199 rfl
theorem in_J30 : ∀ w ∈ wsJ300, w ∈ lw_all := lw_in wsJ300 [1797, 1799, 1801, 1803, 1805, 1807] (by decide +kernel) (by decide +kernel)

/-! java/util/AbstractSet -/
set_option maxRecDepth 100000
def RJ31 : String := "java/util/AbstractSet"
abbrev cJ31_init : ByteArray := prog_43_method_1_code
def yJ31_init : MethodName := ⟨RJ31, "<init>", "()V"⟩
theorem dJ31_init_0 : decode cJ31_init 0 = .ok (.aload_n 0, 1) := by decide +kernel
theorem dJ31_init_1 : decode cJ31_init 1 = .ok (.invokespecial 1, 3) := by decide +kernel
theorem dJ31_init_4 : decode cJ31_init 4 = .ok (.return_, 1) := by decide +kernel
theorem q120 : (Jvm.Cond.initialized "java/util/AbstractSet") ∈ lw_all := lw_g (lw_at lw_m1 45 rfl) rfl
theorem q1856 : (Jvm.Cond.instanceMethod ({ cls := "java/util/AbstractSet", name := "<init>", desc := "()V" } : Jvm.MethodName)) ∈ lw_all := lw_g (lw_at lw_m8 101 rfl) rfl
theorem q1857 : (Jvm.Cond.code ({ cls := "java/util/AbstractSet", name := "<init>", desc := "()V" } : Jvm.MethodName) prog_43_method_1_code (1 : Nat) (Option.none : Option Jvm.ClassFile.FieldType)) ∈ lw_all := lw_g (lw_at lw_m8 102 rfl) rfl
theorem q1858 : (Jvm.Cond.methodLink "java/util/AbstractSet" (1 : Nat) ({ cls := "java/util/AbstractCollection", name := "<init>", desc := "()V" } : Jvm.MethodName)) ∈ lw_all := lw_g (lw_at lw_m8 103 rfl) rfl

/-! java/util/TreeMap$KeySet -/
set_option maxRecDepth 100000
def RJ32 : String := "java/util/TreeMap$KeySet"
def TJ32 : u_T := fun k => match k with
  | _ => ("java/util/TreeMap$KeySet", "m", "Ljava/util/NavigableMap;", true)
def tyJ32 : Nat → FieldType := fun k => match k with
  | _ => .object "java/util/NavigableMap"
abbrev wsJ320 : List Cond := u_ws RJ32 TJ32 1
theorem nmJ32 : ∀ a, a < 1 → ∀ b, b < 1 → a ≠ b → (TJ32 a).2.1 ≠ (TJ32 b).2.1 := by decide +kernel
theorem tyJ32_ok : ∀ k, k < 1 → parseFieldDescriptor (TJ32 k).2.2.1 = some (tyJ32 k) := by decide +kernel
abbrev cJ32_size : ByteArray := prog_70_method_4_code
def yJ32_size : MethodName := ⟨RJ32, "size", "()I"⟩
def dkwJ32_size_0 : List UInt8 := [42, 180, 0, 7, 185, 0, 26, 1, 0, 172]
abbrev dktJ32_size_0 : List UInt8 := dkwJ32_size_0 ++ []
theorem dksJ32_size_0 : cJ32_size.data.toList.drop 0 = dktJ32_size_0 := by decide +kernel
theorem dJ32_size_0 : decode cJ32_size 0 = .ok (.aload_n 0, 1) := dk_42 (dk_at dksJ32_size_0 0 rfl rfl)
theorem dJ32_size_1 : decode cJ32_size 1 = .ok (.getfield 7, 3) := dk_180 0 7 (dk_at dksJ32_size_0 1 rfl rfl)
theorem dJ32_size_4 : decode cJ32_size 4 = .ok (.invokeinterface 26 1, 5) := by decide +kernel
theorem dJ32_size_9 : decode cJ32_size 9 = .ok (.ireturn, 1) := dk_172 (dk_at dksJ32_size_0 9 rfl rfl)
abbrev cJ32_init : ByteArray := prog_70_method_1_code
def yJ32_init : MethodName := ⟨RJ32, "<init>", "(Ljava/util/NavigableMap;)V"⟩
def dkwJ32_init_0 : List UInt8 := [42, 183, 0, 1, 42, 43, 181, 0, 7, 177]
abbrev dktJ32_init_0 : List UInt8 := dkwJ32_init_0 ++ []
theorem dksJ32_init_0 : cJ32_init.data.toList.drop 0 = dktJ32_init_0 := by decide +kernel
theorem dJ32_init_0 : decode cJ32_init 0 = .ok (.aload_n 0, 1) := dk_42 (dk_at dksJ32_init_0 0 rfl rfl)
theorem dJ32_init_1 : decode cJ32_init 1 = .ok (.invokespecial 1, 3) := dk_183 0 1 (dk_at dksJ32_init_0 1 rfl rfl)
theorem dJ32_init_4 : decode cJ32_init 4 = .ok (.aload_n 0, 1) := dk_42 (dk_at dksJ32_init_0 4 rfl rfl)
theorem dJ32_init_5 : decode cJ32_init 5 = .ok (.aload_n 1, 1) := dk_43 (dk_at dksJ32_init_0 5 rfl rfl)
theorem dJ32_init_6 : decode cJ32_init 6 = .ok (.putfield 7, 3) := dk_181 0 7 (dk_at dksJ32_init_0 6 rfl rfl)
theorem dJ32_init_9 : decode cJ32_init 9 = .ok (.return_, 1) := dk_177 (dk_at dksJ32_init_0 9 rfl rfl)
abbrev cJ32_iterator : ByteArray := prog_70_method_2_code
def yJ32_iterator : MethodName := ⟨RJ32, "iterator", "()Ljava/util/Iterator;"⟩
def dkwJ32_iterator_1 : List UInt8 := [180, 0, 7, 192, 0, 19, 182, 0, 21, 176]
abbrev dktJ32_iterator_1 : List UInt8 := dkwJ32_iterator_1 ++ []
def dkwJ32_iterator_0 : List UInt8 := [42, 180, 0, 7, 193, 0, 13, 153, 0, 14, 42, 180, 0, 7, 192, 0, 13, 182, 0, 15, 176, 42]
abbrev dktJ32_iterator_0 : List UInt8 := dkwJ32_iterator_0 ++ dktJ32_iterator_1
theorem dksJ32_iterator_0 : cJ32_iterator.data.toList.drop 0 = dktJ32_iterator_0 := by decide +kernel
theorem dksJ32_iterator_1 : cJ32_iterator.data.toList.drop 22 = dktJ32_iterator_1 := dk_seg dksJ32_iterator_0 22 rfl rfl
theorem dJ32_iterator_0 : decode cJ32_iterator 0 = .ok (.aload_n 0, 1) := dk_42 (dk_at dksJ32_iterator_0 0 rfl rfl)
theorem dJ32_iterator_1 : decode cJ32_iterator 1 = .ok (.getfield 7, 3) := dk_180 0 7 (dk_at dksJ32_iterator_0 1 rfl rfl)
theorem dJ32_iterator_4 : decode cJ32_iterator 4 = .ok (.instanceof 13, 3) := dk_193 0 13 (dk_at dksJ32_iterator_0 4 rfl rfl)
theorem dJ32_iterator_7 : decode cJ32_iterator 7 = .ok (.ifCond .eq 14, 3) := dk_153 0 14 (dk_at dksJ32_iterator_0 7 rfl rfl)
theorem dJ32_iterator_10 : decode cJ32_iterator 10 = .ok (.aload_n 0, 1) := dk_42 (dk_at dksJ32_iterator_0 10 rfl rfl)
theorem dJ32_iterator_11 : decode cJ32_iterator 11 = .ok (.getfield 7, 3) := dk_180 0 7 (dk_at dksJ32_iterator_0 11 rfl rfl)
theorem dJ32_iterator_14 : decode cJ32_iterator 14 = .ok (.checkcast 13, 3) := dk_192 0 13 (dk_at dksJ32_iterator_0 14 rfl rfl)
theorem dJ32_iterator_17 : decode cJ32_iterator 17 = .ok (.invokevirtual 15, 3) := dk_182 0 15 (dk_at dksJ32_iterator_0 17 rfl rfl)
theorem dJ32_iterator_20 : decode cJ32_iterator 20 = .ok (.areturn, 1) := dk_176 (dk_at dksJ32_iterator_0 20 rfl rfl)
theorem dJ32_iterator_21 : decode cJ32_iterator 21 = .ok (.aload_n 0, 1) := dk_42 (dk_at dksJ32_iterator_0 21 rfl rfl)
theorem dJ32_iterator_22 : decode cJ32_iterator 22 = .ok (.getfield 7, 3) := dk_180 0 7 (dk_at dksJ32_iterator_1 0 rfl rfl)
theorem dJ32_iterator_25 : decode cJ32_iterator 25 = .ok (.checkcast 19, 3) := dk_192 0 19 (dk_at dksJ32_iterator_1 3 rfl rfl)
theorem dJ32_iterator_28 : decode cJ32_iterator 28 = .ok (.invokevirtual 21, 3) := dk_182 0 21 (dk_at dksJ32_iterator_1 6 rfl rfl)
theorem dJ32_iterator_31 : decode cJ32_iterator 31 = .ok (.areturn, 1) := dk_176 (dk_at dksJ32_iterator_1 9 rfl rfl)
theorem q121 : (Jvm.Cond.initialized "java/util/TreeMap$KeySet") ∈ lw_all := lw_g (lw_at lw_m1 46 rfl) rfl
theorem q225 : (Jvm.Cond.selects "java/util/TreeMap$KeySet" ({ cls := "java/lang/Object", name := "getClass", desc := "()Ljava/lang/Class;" } : Jvm.MethodName) ({ cls := "java/lang/Object", name := "getClass", desc := "()Ljava/lang/Class;" } : Jvm.MethodName)) ∈ lw_all := lw_g (lw_at lw_m1 150 rfl) rfl
theorem q1649 : (Jvm.Cond.selects "java/util/TreeMap$KeySet" ({ cls := "java/util/AbstractCollection", name := "size", desc := "()I" } : Jvm.MethodName) ({ cls := "java/util/TreeMap$KeySet", name := "size", desc := "()I" } : Jvm.MethodName)) ∈ lw_all := lw_g (lw_at lw_m7 134 rfl) rfl
theorem q1650 : (Jvm.Cond.instanceMethod ({ cls := "java/util/TreeMap$KeySet", name := "size", desc := "()I" } : Jvm.MethodName)) ∈ lw_all := lw_g (lw_at lw_m7 135 rfl) rfl
theorem q1651 : (Jvm.Cond.code ({ cls := "java/util/TreeMap$KeySet", name := "size", desc := "()I" } : Jvm.MethodName) prog_70_method_4_code (1 : Nat) (Option.some Jvm.ClassFile.FieldType.int)) ∈ lw_all := lw_g (lw_at lw_m7 136 rfl) rfl
theorem q1652 : (Jvm.Cond.interfaceEntry "java/util/TreeMap$KeySet" (26 : Nat)) ∈ lw_tbl := lw_at lw_m7 137 rfl
theorem q1851 : (Jvm.Cond.instantiable "java/util/TreeMap$KeySet" (1 : Nat)) ∈ lw_all := lw_g (lw_at lw_m8 96 rfl) rfl
theorem q1853 : (Jvm.Cond.instanceMethod ({ cls := "java/util/TreeMap$KeySet", name := "<init>", desc := "(Ljava/util/NavigableMap;)V" } : Jvm.MethodName)) ∈ lw_all := lw_g (lw_at lw_m8 98 rfl) rfl
theorem q1854 : (Jvm.Cond.code ({ cls := "java/util/TreeMap$KeySet", name := "<init>", desc := "(Ljava/util/NavigableMap;)V" } : Jvm.MethodName) prog_70_method_1_code (2 : Nat) (Option.none : Option Jvm.ClassFile.FieldType)) ∈ lw_all := lw_g (lw_at lw_m8 99 rfl) rfl
theorem q1855 : (Jvm.Cond.methodLink "java/util/TreeMap$KeySet" (1 : Nat) ({ cls := "java/util/AbstractSet", name := "<init>", desc := "()V" } : Jvm.MethodName)) ∈ lw_all := lw_g (lw_at lw_m8 100 rfl) rfl
theorem q1859 : (Jvm.Cond.fieldLink "java/util/TreeMap$KeySet" (7 : Nat) "java/util/TreeMap$KeySet" "m" "Ljava/util/NavigableMap;") ∈ lw_all := lw_g (lw_at lw_m8 104 rfl) rfl
theorem q1860 : (Jvm.Cond.laysFinal "java/util/TreeMap$KeySet" "java/util/TreeMap$KeySet" "m" "Ljava/util/NavigableMap;") ∈ lw_all := lw_g (lw_at lw_m8 105 rfl) rfl
theorem q1861 : (Jvm.Cond.soleField "java/util/TreeMap$KeySet" "m") ∈ lw_all := lw_g (lw_at lw_m8 106 rfl) rfl
theorem q1862 : (Jvm.Cond.superclass "java/util/TreeMap$KeySet" "java/util/AbstractSet") ∈ lw_all := lw_g (lw_at lw_m8 107 rfl) rfl
theorem q1867 : (Jvm.Cond.castable "java/util/TreeMap$KeySet" "java/util/Set") ∈ lw_tbl := lw_at lw_m8 112 rfl
theorem q1868 : (Jvm.Cond.selects "java/util/TreeMap$KeySet" ({ cls := "java/util/Set", name := "iterator", desc := "()Ljava/util/Iterator;" } : Jvm.MethodName) ({ cls := "java/util/TreeMap$KeySet", name := "iterator", desc := "()Ljava/util/Iterator;" } : Jvm.MethodName)) ∈ lw_all := lw_g (lw_at lw_m8 113 rfl) rfl
theorem q1869 : (Jvm.Cond.unhidden "java/util/TreeMap$KeySet" "iterator" "()Ljava/util/Iterator;") ∈ lw_tbl := lw_at lw_m8 114 rfl
theorem q1870 : (Jvm.Cond.instanceMethod ({ cls := "java/util/TreeMap$KeySet", name := "iterator", desc := "()Ljava/util/Iterator;" } : Jvm.MethodName)) ∈ lw_all := lw_g (lw_at lw_m8 115 rfl) rfl
theorem q1871 : (Jvm.Cond.publicMethod ({ cls := "java/util/TreeMap$KeySet", name := "iterator", desc := "()Ljava/util/Iterator;" } : Jvm.MethodName)) ∈ lw_tbl := lw_at lw_m8 116 rfl
theorem q1872 : (Jvm.Cond.code ({ cls := "java/util/TreeMap$KeySet", name := "iterator", desc := "()Ljava/util/Iterator;" } : Jvm.MethodName) prog_70_method_2_code (1 : Nat) (Option.some (Jvm.ClassFile.FieldType.object "java/util/Iterator"))) ∈ lw_all := lw_g (lw_at lw_m8 117 rfl) rfl
theorem q1873 : (Jvm.Cond.classLink "java/util/TreeMap$KeySet" (13 : Nat) "java/util/TreeMap") ∈ lw_all := lw_g (lw_at lw_m8 118 rfl) rfl
theorem q1874 : (Jvm.Cond.methodLink "java/util/TreeMap$KeySet" (15 : Nat) ({ cls := "java/util/TreeMap", name := "keyIterator", desc := "()Ljava/util/Iterator;" } : Jvm.MethodName)) ∈ lw_all := lw_g (lw_at lw_m8 119 rfl) rfl
theorem q1904 : (Jvm.Cond.classLink "java/util/TreeMap$KeySet" (19 : Nat) "java/util/TreeMap$NavigableSubMap") ∈ lw_all := lw_g (lw_at lw_m8 149 rfl) rfl
theorem q1905 : (Jvm.Cond.methodLink "java/util/TreeMap$KeySet" (21 : Nat) ({ cls := "java/util/TreeMap$NavigableSubMap", name := "keyIterator", desc := "()Ljava/util/Iterator;" } : Jvm.MethodName)) ∈ lw_all := lw_g (lw_at lw_m8 150 rfl) rfl
theorem q2435 : (Jvm.Cond.castable "java/util/TreeMap$KeySet" "java/lang/Object") ∈ lw_tbl := lw_at lw_m10 200 rfl
theorem in_J32 : ∀ w ∈ wsJ320, w ∈ lw_all := lw_in wsJ320 [1860] (by decide +kernel) (by decide +kernel)

/-! java/util/TreeMap$PrivateEntryIterator -/
set_option maxRecDepth 100000
def RJ33 : String := "java/util/TreeMap$PrivateEntryIterator"
abbrev cJ33_hasNext : ByteArray := prog_72_method_2_code
def yJ33_hasNext : MethodName := ⟨RJ33, "hasNext", "()Z"⟩
def dkwJ33_hasNext_0 : List UInt8 := [42, 180, 0, 26, 198, 0, 7, 4, 167, 0, 4, 3, 172]
abbrev dktJ33_hasNext_0 : List UInt8 := dkwJ33_hasNext_0 ++ []
theorem dksJ33_hasNext_0 : cJ33_hasNext.data.toList.drop 0 = dktJ33_hasNext_0 := by decide +kernel
theorem dJ33_hasNext_0 : decode cJ33_hasNext 0 = .ok (.aload_n 0, 1) := dk_42 (dk_at dksJ33_hasNext_0 0 rfl rfl)
theorem dJ33_hasNext_1 : decode cJ33_hasNext 1 = .ok (.getfield 26, 3) := dk_180 0 26 (dk_at dksJ33_hasNext_0 1 rfl rfl)
theorem dJ33_hasNext_4 : decode cJ33_hasNext 4 = .ok (.ifnull 7, 3) := dk_198 0 7 (dk_at dksJ33_hasNext_0 4 rfl rfl)
theorem dJ33_hasNext_7 : decode cJ33_hasNext 7 = .ok (.iconst 1, 1) := dk_4 (dk_at dksJ33_hasNext_0 7 rfl rfl)
theorem dJ33_hasNext_8 : decode cJ33_hasNext 8 = .ok (.goto 4, 3) := dk_167 0 4 (dk_at dksJ33_hasNext_0 8 rfl rfl)
theorem dJ33_hasNext_11 : decode cJ33_hasNext 11 = .ok (.iconst 0, 1) := dk_3 (dk_at dksJ33_hasNext_0 11 rfl rfl)
theorem dJ33_hasNext_12 : decode cJ33_hasNext 12 = .ok (.ireturn, 1) := dk_172 (dk_at dksJ33_hasNext_0 12 rfl rfl)
abbrev cJ33_nextEntry : ByteArray := prog_72_method_3_code
def yJ33_nextEntry : MethodName := ⟨RJ33, "nextEntry", "()Ljava/util/TreeMap$Entry;"⟩
def dkwJ33_nextEntry_2 : List UInt8 := [43, 181, 0, 22, 43, 176]
abbrev dktJ33_nextEntry_2 : List UInt8 := dkwJ33_nextEntry_2 ++ []
def dkwJ33_nextEntry_1 : List UInt8 := [42, 180, 0, 19, 159, 0, 11, 187, 0, 32, 89, 183, 0, 34, 191, 42, 43, 184, 0, 35, 181, 0, 26, 42]
abbrev dktJ33_nextEntry_1 : List UInt8 := dkwJ33_nextEntry_1 ++ dktJ33_nextEntry_2
def dkwJ33_nextEntry_0 : List UInt8 := [42, 180, 0, 26, 76, 43, 199, 0, 11, 187, 0, 29, 89, 183, 0, 31, 191, 42, 180, 0, 1, 180, 0, 13]
abbrev dktJ33_nextEntry_0 : List UInt8 := dkwJ33_nextEntry_0 ++ dktJ33_nextEntry_1
theorem dksJ33_nextEntry_0 : cJ33_nextEntry.data.toList.drop 0 = dktJ33_nextEntry_0 := by decide +kernel
theorem dksJ33_nextEntry_1 : cJ33_nextEntry.data.toList.drop 24 = dktJ33_nextEntry_1 := dk_seg dksJ33_nextEntry_0 24 rfl rfl
theorem dksJ33_nextEntry_2 : cJ33_nextEntry.data.toList.drop 48 = dktJ33_nextEntry_2 := dk_seg dksJ33_nextEntry_1 24 rfl rfl
theorem dJ33_nextEntry_0 : decode cJ33_nextEntry 0 = .ok (.aload_n 0, 1) := dk_42 (dk_at dksJ33_nextEntry_0 0 rfl rfl)
theorem dJ33_nextEntry_1 : decode cJ33_nextEntry 1 = .ok (.getfield 26, 3) := dk_180 0 26 (dk_at dksJ33_nextEntry_0 1 rfl rfl)
theorem dJ33_nextEntry_4 : decode cJ33_nextEntry 4 = .ok (.astore_n 1, 1) := dk_76 (dk_at dksJ33_nextEntry_0 4 rfl rfl)
theorem dJ33_nextEntry_5 : decode cJ33_nextEntry 5 = .ok (.aload_n 1, 1) := dk_43 (dk_at dksJ33_nextEntry_0 5 rfl rfl)
theorem dJ33_nextEntry_6 : decode cJ33_nextEntry 6 = .ok (.ifnonnull 11, 3) := dk_199 0 11 (dk_at dksJ33_nextEntry_0 6 rfl rfl)
theorem dJ33_nextEntry_9 : decode cJ33_nextEntry 9 = .ok (.new 29, 3) := dk_187 0 29 (dk_at dksJ33_nextEntry_0 9 rfl rfl)
theorem dJ33_nextEntry_12 : decode cJ33_nextEntry 12 = .ok (.dup, 1) := dk_89 (dk_at dksJ33_nextEntry_0 12 rfl rfl)
theorem dJ33_nextEntry_13 : decode cJ33_nextEntry 13 = .ok (.invokespecial 31, 3) := dk_183 0 31 (dk_at dksJ33_nextEntry_0 13 rfl rfl)
theorem dJ33_nextEntry_16 : decode cJ33_nextEntry 16 = .ok (.athrow, 1) := dk_191 (dk_at dksJ33_nextEntry_0 16 rfl rfl)
theorem dJ33_nextEntry_17 : decode cJ33_nextEntry 17 = .ok (.aload_n 0, 1) := dk_42 (dk_at dksJ33_nextEntry_0 17 rfl rfl)
theorem dJ33_nextEntry_18 : decode cJ33_nextEntry 18 = .ok (.getfield 1, 3) := dk_180 0 1 (dk_at dksJ33_nextEntry_0 18 rfl rfl)
theorem dJ33_nextEntry_21 : decode cJ33_nextEntry 21 = .ok (.getfield 13, 3) := dk_180 0 13 (dk_at dksJ33_nextEntry_0 21 rfl rfl)
theorem dJ33_nextEntry_24 : decode cJ33_nextEntry 24 = .ok (.aload_n 0, 1) := dk_42 (dk_at dksJ33_nextEntry_1 0 rfl rfl)
theorem dJ33_nextEntry_25 : decode cJ33_nextEntry 25 = .ok (.getfield 19, 3) := dk_180 0 19 (dk_at dksJ33_nextEntry_1 1 rfl rfl)
theorem dJ33_nextEntry_28 : decode cJ33_nextEntry 28 = .ok (.if_icmp .eq 11, 3) := dk_159 0 11 (dk_at dksJ33_nextEntry_1 4 rfl rfl)
theorem dJ33_nextEntry_31 : decode cJ33_nextEntry 31 = .ok (.new 32, 3) := dk_187 0 32 (dk_at dksJ33_nextEntry_1 7 rfl rfl)
theorem dJ33_nextEntry_34 : decode cJ33_nextEntry 34 = .ok (.dup, 1) := dk_89 (dk_at dksJ33_nextEntry_1 10 rfl rfl)
theorem dJ33_nextEntry_35 : decode cJ33_nextEntry 35 = .ok (.invokespecial 34, 3) := dk_183 0 34 (dk_at dksJ33_nextEntry_1 11 rfl rfl)
theorem dJ33_nextEntry_38 : decode cJ33_nextEntry 38 = .ok (.athrow, 1) := dk_191 (dk_at dksJ33_nextEntry_1 14 rfl rfl)
theorem dJ33_nextEntry_39 : decode cJ33_nextEntry 39 = .ok (.aload_n 0, 1) := dk_42 (dk_at dksJ33_nextEntry_1 15 rfl rfl)
theorem dJ33_nextEntry_40 : decode cJ33_nextEntry 40 = .ok (.aload_n 1, 1) := dk_43 (dk_at dksJ33_nextEntry_1 16 rfl rfl)
theorem dJ33_nextEntry_41 : decode cJ33_nextEntry 41 = .ok (.invokestatic 35, 3) := dk_184 0 35 (dk_at dksJ33_nextEntry_1 17 rfl rfl)
theorem dJ33_nextEntry_44 : decode cJ33_nextEntry 44 = .ok (.putfield 26, 3) := dk_181 0 26 (dk_at dksJ33_nextEntry_1 20 rfl rfl)
theorem dJ33_nextEntry_47 : decode cJ33_nextEntry 47 = .ok (.aload_n 0, 1) := dk_42 (dk_at dksJ33_nextEntry_1 23 rfl rfl)
theorem dJ33_nextEntry_48 : decode cJ33_nextEntry 48 = .ok (.aload_n 1, 1) := dk_43 (dk_at dksJ33_nextEntry_2 0 rfl rfl)
theorem dJ33_nextEntry_49 : decode cJ33_nextEntry 49 = .ok (.putfield 22, 3) := dk_181 0 22 (dk_at dksJ33_nextEntry_2 1 rfl rfl)
theorem dJ33_nextEntry_52 : decode cJ33_nextEntry 52 = .ok (.aload_n 1, 1) := dk_43 (dk_at dksJ33_nextEntry_2 4 rfl rfl)
theorem dJ33_nextEntry_53 : decode cJ33_nextEntry 53 = .ok (.areturn, 1) := dk_176 (dk_at dksJ33_nextEntry_2 5 rfl rfl)
abbrev cJ33_init : ByteArray := prog_72_method_1_code
def yJ33_init : MethodName := ⟨RJ33, "<init>", "(Ljava/util/TreeMap;Ljava/util/TreeMap$Entry;)V"⟩
def dkwJ33_init_1 : List UInt8 := [181, 0, 26, 177]
abbrev dktJ33_init_1 : List UInt8 := dkwJ33_init_1 ++ []
def dkwJ33_init_0 : List UInt8 := [42, 43, 181, 0, 1, 42, 183, 0, 7, 42, 43, 180, 0, 13, 181, 0, 19, 42, 1, 181, 0, 22, 42, 44]
abbrev dktJ33_init_0 : List UInt8 := dkwJ33_init_0 ++ dktJ33_init_1
theorem dksJ33_init_0 : cJ33_init.data.toList.drop 0 = dktJ33_init_0 := by decide +kernel
theorem dksJ33_init_1 : cJ33_init.data.toList.drop 24 = dktJ33_init_1 := dk_seg dksJ33_init_0 24 rfl rfl
theorem dJ33_init_0 : decode cJ33_init 0 = .ok (.aload_n 0, 1) := dk_42 (dk_at dksJ33_init_0 0 rfl rfl)
theorem dJ33_init_1 : decode cJ33_init 1 = .ok (.aload_n 1, 1) := dk_43 (dk_at dksJ33_init_0 1 rfl rfl)
theorem dJ33_init_2 : decode cJ33_init 2 = .ok (.putfield 1, 3) := dk_181 0 1 (dk_at dksJ33_init_0 2 rfl rfl)
theorem dJ33_init_5 : decode cJ33_init 5 = .ok (.aload_n 0, 1) := dk_42 (dk_at dksJ33_init_0 5 rfl rfl)
theorem dJ33_init_6 : decode cJ33_init 6 = .ok (.invokespecial 7, 3) := dk_183 0 7 (dk_at dksJ33_init_0 6 rfl rfl)
theorem dJ33_init_9 : decode cJ33_init 9 = .ok (.aload_n 0, 1) := dk_42 (dk_at dksJ33_init_0 9 rfl rfl)
theorem dJ33_init_10 : decode cJ33_init 10 = .ok (.aload_n 1, 1) := dk_43 (dk_at dksJ33_init_0 10 rfl rfl)
theorem dJ33_init_11 : decode cJ33_init 11 = .ok (.getfield 13, 3) := dk_180 0 13 (dk_at dksJ33_init_0 11 rfl rfl)
theorem dJ33_init_14 : decode cJ33_init 14 = .ok (.putfield 19, 3) := dk_181 0 19 (dk_at dksJ33_init_0 14 rfl rfl)
theorem dJ33_init_17 : decode cJ33_init 17 = .ok (.aload_n 0, 1) := dk_42 (dk_at dksJ33_init_0 17 rfl rfl)
theorem dJ33_init_18 : decode cJ33_init 18 = .ok (.aconst_null, 1) := dk_1 (dk_at dksJ33_init_0 18 rfl rfl)
theorem dJ33_init_19 : decode cJ33_init 19 = .ok (.putfield 22, 3) := dk_181 0 22 (dk_at dksJ33_init_0 19 rfl rfl)
theorem dJ33_init_22 : decode cJ33_init 22 = .ok (.aload_n 0, 1) := dk_42 (dk_at dksJ33_init_0 22 rfl rfl)
theorem dJ33_init_23 : decode cJ33_init 23 = .ok (.aload_n 2, 1) := dk_44 (dk_at dksJ33_init_0 23 rfl rfl)
theorem dJ33_init_24 : decode cJ33_init 24 = .ok (.putfield 26, 3) := dk_181 0 26 (dk_at dksJ33_init_1 0 rfl rfl)
theorem dJ33_init_27 : decode cJ33_init 27 = .ok (.return_, 1) := dk_177 (dk_at dksJ33_init_1 3 rfl rfl)
theorem q122 : (Jvm.Cond.initialized "java/util/TreeMap$PrivateEntryIterator") ∈ lw_all := lw_g (lw_at lw_m1 47 rfl) rfl
theorem q818 : (Jvm.Cond.instanceMethod ({ cls := "java/util/TreeMap$PrivateEntryIterator", name := "hasNext", desc := "()Z" } : Jvm.MethodName)) ∈ lw_all := lw_g (lw_at lw_m4 23 rfl) rfl
theorem q819 : (Jvm.Cond.publicMethod ({ cls := "java/util/TreeMap$PrivateEntryIterator", name := "hasNext", desc := "()Z" } : Jvm.MethodName)) ∈ lw_tbl := lw_at lw_m4 24 rfl
theorem q820 : (Jvm.Cond.code ({ cls := "java/util/TreeMap$PrivateEntryIterator", name := "hasNext", desc := "()Z" } : Jvm.MethodName) prog_72_method_2_code (1 : Nat) (Option.some Jvm.ClassFile.FieldType.boolean)) ∈ lw_all := lw_g (lw_at lw_m4 25 rfl) rfl
theorem q841 : (Jvm.Cond.declares ({ cls := "java/util/TreeMap$PrivateEntryIterator", name := "nextEntry", desc := "()Ljava/util/TreeMap$Entry;" } : Jvm.MethodName)) ∈ lw_tbl := lw_at lw_m4 46 rfl
theorem q843 : (Jvm.Cond.instanceMethod ({ cls := "java/util/TreeMap$PrivateEntryIterator", name := "nextEntry", desc := "()Ljava/util/TreeMap$Entry;" } : Jvm.MethodName)) ∈ lw_all := lw_g (lw_at lw_m4 48 rfl) rfl
theorem q844 : (Jvm.Cond.code ({ cls := "java/util/TreeMap$PrivateEntryIterator", name := "nextEntry", desc := "()Ljava/util/TreeMap$Entry;" } : Jvm.MethodName) prog_72_method_3_code (2 : Nat) (Option.some (Jvm.ClassFile.FieldType.object "java/util/TreeMap$Entry"))) ∈ lw_all := lw_g (lw_at lw_m4 49 rfl) rfl
theorem q845 : (Jvm.Cond.methodLink "java/util/TreeMap$PrivateEntryIterator" (35 : Nat) ({ cls := "java/util/TreeMap", name := "successor", desc := "(Ljava/util/TreeMap$Entry;)Ljava/util/TreeMap$Entry;" } : Jvm.MethodName)) ∈ lw_all := lw_g (lw_at lw_m4 50 rfl) rfl
theorem q1695 : (Jvm.Cond.fieldLinkNest "java/util/TreeMap$PrivateEntryIterator" (13 : Nat) "java/util/TreeMap" "modCount" "I" "java/util/TreeMap") ∈ lw_tbl := lw_at lw_m7 180 rfl
theorem q1888 : (Jvm.Cond.instanceMethod ({ cls := "java/util/TreeMap$PrivateEntryIterator", name := "<init>", desc := "(Ljava/util/TreeMap;Ljava/util/TreeMap$Entry;)V" } : Jvm.MethodName)) ∈ lw_all := lw_g (lw_at lw_m8 133 rfl) rfl
theorem q1889 : (Jvm.Cond.code ({ cls := "java/util/TreeMap$PrivateEntryIterator", name := "<init>", desc := "(Ljava/util/TreeMap;Ljava/util/TreeMap$Entry;)V" } : Jvm.MethodName) prog_72_method_1_code (3 : Nat) (Option.none : Option Jvm.ClassFile.FieldType)) ∈ lw_all := lw_g (lw_at lw_m8 134 rfl) rfl
theorem q1890 : (Jvm.Cond.methodLink "java/util/TreeMap$PrivateEntryIterator" (7 : Nat) ({ cls := "java/lang/Object", name := "<init>", desc := "()V" } : Jvm.MethodName)) ∈ lw_all := lw_g (lw_at lw_m8 135 rfl) rfl
theorem q1891 : (Jvm.Cond.fieldLink "java/util/TreeMap$PrivateEntryIterator" (26 : Nat) "java/util/TreeMap$PrivateEntryIterator" "next" "Ljava/util/TreeMap$Entry;") ∈ lw_all := lw_g (lw_at lw_m8 136 rfl) rfl
theorem q1892 : (Jvm.Cond.fieldLink "java/util/TreeMap$PrivateEntryIterator" (22 : Nat) "java/util/TreeMap$PrivateEntryIterator" "lastReturned" "Ljava/util/TreeMap$Entry;") ∈ lw_all := lw_g (lw_at lw_m8 137 rfl) rfl
theorem q1893 : (Jvm.Cond.fieldLink "java/util/TreeMap$PrivateEntryIterator" (19 : Nat) "java/util/TreeMap$PrivateEntryIterator" "expectedModCount" "I") ∈ lw_all := lw_g (lw_at lw_m8 138 rfl) rfl
theorem q1894 : (Jvm.Cond.fieldLink "java/util/TreeMap$PrivateEntryIterator" (1 : Nat) "java/util/TreeMap$PrivateEntryIterator" "this$0" "Ljava/util/TreeMap;") ∈ lw_all := lw_g (lw_at lw_m8 139 rfl) rfl
theorem q1896 : (Jvm.Cond.soleField "java/util/TreeMap$PrivateEntryIterator" "next") ∈ lw_all := lw_g (lw_at lw_m8 141 rfl) rfl
theorem q1898 : (Jvm.Cond.soleField "java/util/TreeMap$PrivateEntryIterator" "lastReturned") ∈ lw_all := lw_g (lw_at lw_m8 143 rfl) rfl
theorem q1900 : (Jvm.Cond.soleField "java/util/TreeMap$PrivateEntryIterator" "expectedModCount") ∈ lw_all := lw_g (lw_at lw_m8 145 rfl) rfl
theorem q1902 : (Jvm.Cond.soleField "java/util/TreeMap$PrivateEntryIterator" "this$0") ∈ lw_all := lw_g (lw_at lw_m8 147 rfl) rfl

/-! java/util/TreeMap$KeyIterator -/
set_option maxRecDepth 100000
def RJ34 : String := "java/util/TreeMap$KeyIterator"
def TJ34 : u_T := fun k => match k with
  | 0 => ("java/util/TreeMap$PrivateEntryIterator", "next", "Ljava/util/TreeMap$Entry;", false)
  | 1 => ("java/util/TreeMap$PrivateEntryIterator", "lastReturned", "Ljava/util/TreeMap$Entry;", false)
  | 2 => ("java/util/TreeMap$PrivateEntryIterator", "expectedModCount", "I", false)
  | _ => ("java/util/TreeMap$PrivateEntryIterator", "this$0", "Ljava/util/TreeMap;", true)
def tyJ34 : Nat → FieldType := fun k => match k with
  | 0 => .object "java/util/TreeMap$Entry"
  | 1 => .object "java/util/TreeMap$Entry"
  | 2 => .int
  | _ => .object "java/util/TreeMap"
abbrev wsJ340 : List Cond := u_ws RJ34 TJ34 4
theorem nmJ34 : ∀ a, a < 4 → ∀ b, b < 4 → a ≠ b → (TJ34 a).2.1 ≠ (TJ34 b).2.1 := by decide +kernel
theorem tyJ34_ok : ∀ k, k < 4 → parseFieldDescriptor (TJ34 k).2.2.1 = some (tyJ34 k) := by decide +kernel
abbrev cJ34_next : ByteArray := prog_69_method_2_code
def yJ34_next : MethodName := ⟨RJ34, "next", "()Ljava/lang/Object;"⟩
def dkwJ34_next_0 : List UInt8 := [42, 182, 0, 7, 180, 0, 13, 176]
abbrev dktJ34_next_0 : List UInt8 := dkwJ34_next_0 ++ []
theorem dksJ34_next_0 : cJ34_next.data.toList.drop 0 = dktJ34_next_0 := by decide +kernel
theorem dJ34_next_0 : decode cJ34_next 0 = .ok (.aload_n 0, 1) := dk_42 (dk_at dksJ34_next_0 0 rfl rfl)
theorem dJ34_next_1 : decode cJ34_next 1 = .ok (.invokevirtual 7, 3) := dk_182 0 7 (dk_at dksJ34_next_0 1 rfl rfl)
theorem dJ34_next_4 : decode cJ34_next 4 = .ok (.getfield 13, 3) := dk_180 0 13 (dk_at dksJ34_next_0 4 rfl rfl)
theorem dJ34_next_7 : decode cJ34_next 7 = .ok (.areturn, 1) := dk_176 (dk_at dksJ34_next_0 7 rfl rfl)
abbrev cJ34_init : ByteArray := prog_69_method_1_code
def yJ34_init : MethodName := ⟨RJ34, "<init>", "(Ljava/util/TreeMap;Ljava/util/TreeMap$Entry;)V"⟩
def dkwJ34_init_0 : List UInt8 := [42, 43, 44, 183, 0, 1, 177]
abbrev dktJ34_init_0 : List UInt8 := dkwJ34_init_0 ++ []
theorem dksJ34_init_0 : cJ34_init.data.toList.drop 0 = dktJ34_init_0 := by decide +kernel
theorem dJ34_init_0 : decode cJ34_init 0 = .ok (.aload_n 0, 1) := dk_42 (dk_at dksJ34_init_0 0 rfl rfl)
theorem dJ34_init_1 : decode cJ34_init 1 = .ok (.aload_n 1, 1) := dk_43 (dk_at dksJ34_init_0 1 rfl rfl)
theorem dJ34_init_2 : decode cJ34_init 2 = .ok (.aload_n 2, 1) := dk_44 (dk_at dksJ34_init_0 2 rfl rfl)
theorem dJ34_init_3 : decode cJ34_init 3 = .ok (.invokespecial 1, 3) := dk_183 0 1 (dk_at dksJ34_init_0 3 rfl rfl)
theorem dJ34_init_6 : decode cJ34_init 6 = .ok (.return_, 1) := dk_177 (dk_at dksJ34_init_0 6 rfl rfl)
theorem q123 : (Jvm.Cond.initialized "java/util/TreeMap$KeyIterator") ∈ lw_all := lw_g (lw_at lw_m1 48 rfl) rfl
theorem q224 : (Jvm.Cond.selects "java/util/TreeMap$KeyIterator" ({ cls := "java/lang/Object", name := "getClass", desc := "()Ljava/lang/Class;" } : Jvm.MethodName) ({ cls := "java/lang/Object", name := "getClass", desc := "()Ljava/lang/Class;" } : Jvm.MethodName)) ∈ lw_all := lw_g (lw_at lw_m1 149 rfl) rfl
theorem q815 : (Jvm.Cond.castable "java/util/TreeMap$KeyIterator" "java/util/Iterator") ∈ lw_tbl := lw_at lw_m4 20 rfl
theorem q816 : (Jvm.Cond.selects "java/util/TreeMap$KeyIterator" ({ cls := "java/util/Iterator", name := "hasNext", desc := "()Z" } : Jvm.MethodName) ({ cls := "java/util/TreeMap$PrivateEntryIterator", name := "hasNext", desc := "()Z" } : Jvm.MethodName)) ∈ lw_all := lw_g (lw_at lw_m4 21 rfl) rfl
theorem q817 : (Jvm.Cond.unhidden "java/util/TreeMap$KeyIterator" "hasNext" "()Z") ∈ lw_tbl := lw_at lw_m4 22 rfl
theorem q834 : (Jvm.Cond.selects "java/util/TreeMap$KeyIterator" ({ cls := "java/util/Iterator", name := "next", desc := "()Ljava/lang/Object;" } : Jvm.MethodName) ({ cls := "java/util/TreeMap$KeyIterator", name := "next", desc := "()Ljava/lang/Object;" } : Jvm.MethodName)) ∈ lw_all := lw_g (lw_at lw_m4 39 rfl) rfl
theorem q835 : (Jvm.Cond.unhidden "java/util/TreeMap$KeyIterator" "next" "()Ljava/lang/Object;") ∈ lw_tbl := lw_at lw_m4 40 rfl
theorem q836 : (Jvm.Cond.instanceMethod ({ cls := "java/util/TreeMap$KeyIterator", name := "next", desc := "()Ljava/lang/Object;" } : Jvm.MethodName)) ∈ lw_all := lw_g (lw_at lw_m4 41 rfl) rfl
theorem q837 : (Jvm.Cond.publicMethod ({ cls := "java/util/TreeMap$KeyIterator", name := "next", desc := "()Ljava/lang/Object;" } : Jvm.MethodName)) ∈ lw_tbl := lw_at lw_m4 42 rfl
theorem q838 : (Jvm.Cond.code ({ cls := "java/util/TreeMap$KeyIterator", name := "next", desc := "()Ljava/lang/Object;" } : Jvm.MethodName) prog_69_method_2_code (1 : Nat) (Option.some (Jvm.ClassFile.FieldType.object "java/lang/Object"))) ∈ lw_all := lw_g (lw_at lw_m4 43 rfl) rfl
theorem q839 : (Jvm.Cond.methodLink "java/util/TreeMap$KeyIterator" (7 : Nat) ({ cls := "java/util/TreeMap$KeyIterator", name := "nextEntry", desc := "()Ljava/util/TreeMap$Entry;" } : Jvm.MethodName)) ∈ lw_all := lw_g (lw_at lw_m4 44 rfl) rfl
theorem q840 : (Jvm.Cond.sameMethod "java/util/TreeMap$KeyIterator" "java/util/TreeMap$PrivateEntryIterator" "nextEntry" "()Ljava/util/TreeMap$Entry;") ∈ lw_all := lw_g (lw_at lw_m4 45 rfl) rfl
theorem q842 : (Jvm.Cond.selects "java/util/TreeMap$KeyIterator" ({ cls := "java/util/TreeMap$KeyIterator", name := "nextEntry", desc := "()Ljava/util/TreeMap$Entry;" } : Jvm.MethodName) ({ cls := "java/util/TreeMap$PrivateEntryIterator", name := "nextEntry", desc := "()Ljava/util/TreeMap$Entry;" } : Jvm.MethodName)) ∈ lw_all := lw_g (lw_at lw_m4 47 rfl) rfl
theorem q1787 : (Jvm.Cond.fieldLink "java/util/TreeMap$KeyIterator" (13 : Nat) "java/util/TreeMap$Entry" "key" "Ljava/lang/Object;") ∈ lw_all := lw_g (lw_at lw_m8 32 rfl) rfl
theorem q1879 : (Jvm.Cond.instantiable "java/util/TreeMap$KeyIterator" (4 : Nat)) ∈ lw_all := lw_g (lw_at lw_m8 124 rfl) rfl
theorem q1885 : (Jvm.Cond.instanceMethod ({ cls := "java/util/TreeMap$KeyIterator", name := "<init>", desc := "(Ljava/util/TreeMap;Ljava/util/TreeMap$Entry;)V" } : Jvm.MethodName)) ∈ lw_all := lw_g (lw_at lw_m8 130 rfl) rfl
theorem q1886 : (Jvm.Cond.code ({ cls := "java/util/TreeMap$KeyIterator", name := "<init>", desc := "(Ljava/util/TreeMap;Ljava/util/TreeMap$Entry;)V" } : Jvm.MethodName) prog_69_method_1_code (3 : Nat) (Option.none : Option Jvm.ClassFile.FieldType)) ∈ lw_all := lw_g (lw_at lw_m8 131 rfl) rfl
theorem q1887 : (Jvm.Cond.methodLink "java/util/TreeMap$KeyIterator" (1 : Nat) ({ cls := "java/util/TreeMap$PrivateEntryIterator", name := "<init>", desc := "(Ljava/util/TreeMap;Ljava/util/TreeMap$Entry;)V" } : Jvm.MethodName)) ∈ lw_all := lw_g (lw_at lw_m8 132 rfl) rfl
theorem q1895 : (Jvm.Cond.lays "java/util/TreeMap$KeyIterator" "java/util/TreeMap$PrivateEntryIterator" "next" "Ljava/util/TreeMap$Entry;") ∈ lw_all := lw_g (lw_at lw_m8 140 rfl) rfl
theorem q1897 : (Jvm.Cond.lays "java/util/TreeMap$KeyIterator" "java/util/TreeMap$PrivateEntryIterator" "lastReturned" "Ljava/util/TreeMap$Entry;") ∈ lw_all := lw_g (lw_at lw_m8 142 rfl) rfl
theorem q1899 : (Jvm.Cond.lays "java/util/TreeMap$KeyIterator" "java/util/TreeMap$PrivateEntryIterator" "expectedModCount" "I") ∈ lw_all := lw_g (lw_at lw_m8 144 rfl) rfl
theorem q1901 : (Jvm.Cond.laysFinal "java/util/TreeMap$KeyIterator" "java/util/TreeMap$PrivateEntryIterator" "this$0" "Ljava/util/TreeMap;") ∈ lw_all := lw_g (lw_at lw_m8 146 rfl) rfl
theorem q1903 : (Jvm.Cond.superclass "java/util/TreeMap$KeyIterator" "java/util/TreeMap$PrivateEntryIterator") ∈ lw_all := lw_g (lw_at lw_m8 148 rfl) rfl
theorem q2436 : (Jvm.Cond.castable "java/util/TreeMap$KeyIterator" "java/lang/Object") ∈ lw_tbl := lw_at lw_m10 201 rfl
theorem in_J34 : ∀ w ∈ wsJ340, w ∈ lw_all := lw_in wsJ340 [1895, 1897, 1899, 1901] (by decide +kernel) (by decide +kernel)

/-! java/util/ArrayList$Itr -/
set_option maxRecDepth 100000
def RJ35 : String := "java/util/ArrayList$Itr"
def TJ35 : u_T := fun k => match k with
  | 0 => ("java/util/ArrayList$Itr", "cursor", "I", false)
  | 1 => ("java/util/ArrayList$Itr", "lastRet", "I", false)
  | 2 => ("java/util/ArrayList$Itr", "expectedModCount", "I", false)
  | _ => ("java/util/ArrayList$Itr", "this$0", "Ljava/util/ArrayList;", true)
def tyJ35 : Nat → FieldType := fun k => match k with
  | 0 => .int
  | 1 => .int
  | 2 => .int
  | _ => .object "java/util/ArrayList"
abbrev wsJ350 : List Cond := u_ws RJ35 TJ35 4
theorem nmJ35 : ∀ a, a < 4 → ∀ b, b < 4 → a ≠ b → (TJ35 a).2.1 ≠ (TJ35 b).2.1 := by decide +kernel
theorem tyJ35_ok : ∀ k, k < 4 → parseFieldDescriptor (TJ35 k).2.2.1 = some (tyJ35 k) := by decide +kernel
abbrev cJ35_init : ByteArray := prog_46_method_1_code
def yJ35_init : MethodName := ⟨RJ35, "<init>", "(Ljava/util/ArrayList;)V"⟩
def dkwJ35_init_1 : List UInt8 := [181, 0, 22, 177]
abbrev dktJ35_init_1 : List UInt8 := dkwJ35_init_1 ++ []
def dkwJ35_init_0 : List UInt8 := [42, 43, 181, 0, 1, 42, 183, 0, 7, 42, 2, 181, 0, 13, 42, 42, 180, 0, 1, 180, 0, 17]
abbrev dktJ35_init_0 : List UInt8 := dkwJ35_init_0 ++ dktJ35_init_1
theorem dksJ35_init_0 : cJ35_init.data.toList.drop 0 = dktJ35_init_0 := by decide +kernel
theorem dksJ35_init_1 : cJ35_init.data.toList.drop 22 = dktJ35_init_1 := dk_seg dksJ35_init_0 22 rfl rfl
theorem dJ35_init_0 : decode cJ35_init 0 = .ok (.aload_n 0, 1) := dk_42 (dk_at dksJ35_init_0 0 rfl rfl)
theorem dJ35_init_1 : decode cJ35_init 1 = .ok (.aload_n 1, 1) := dk_43 (dk_at dksJ35_init_0 1 rfl rfl)
theorem dJ35_init_2 : decode cJ35_init 2 = .ok (.putfield 1, 3) := dk_181 0 1 (dk_at dksJ35_init_0 2 rfl rfl)
theorem dJ35_init_5 : decode cJ35_init 5 = .ok (.aload_n 0, 1) := dk_42 (dk_at dksJ35_init_0 5 rfl rfl)
theorem dJ35_init_6 : decode cJ35_init 6 = .ok (.invokespecial 7, 3) := dk_183 0 7 (dk_at dksJ35_init_0 6 rfl rfl)
theorem dJ35_init_9 : decode cJ35_init 9 = .ok (.aload_n 0, 1) := dk_42 (dk_at dksJ35_init_0 9 rfl rfl)
theorem dJ35_init_10 : decode cJ35_init 10 = .ok (.iconst (-1), 1) := dk_2 (dk_at dksJ35_init_0 10 rfl rfl)
theorem dJ35_init_11 : decode cJ35_init 11 = .ok (.putfield 13, 3) := dk_181 0 13 (dk_at dksJ35_init_0 11 rfl rfl)
theorem dJ35_init_14 : decode cJ35_init 14 = .ok (.aload_n 0, 1) := dk_42 (dk_at dksJ35_init_0 14 rfl rfl)
theorem dJ35_init_15 : decode cJ35_init 15 = .ok (.aload_n 0, 1) := dk_42 (dk_at dksJ35_init_0 15 rfl rfl)
theorem dJ35_init_16 : decode cJ35_init 16 = .ok (.getfield 1, 3) := dk_180 0 1 (dk_at dksJ35_init_0 16 rfl rfl)
theorem dJ35_init_19 : decode cJ35_init 19 = .ok (.getfield 17, 3) := dk_180 0 17 (dk_at dksJ35_init_0 19 rfl rfl)
theorem dJ35_init_22 : decode cJ35_init 22 = .ok (.putfield 22, 3) := dk_181 0 22 (dk_at dksJ35_init_1 0 rfl rfl)
theorem dJ35_init_25 : decode cJ35_init 25 = .ok (.return_, 1) := dk_177 (dk_at dksJ35_init_1 3 rfl rfl)
abbrev cJ35_hasNext : ByteArray := prog_46_method_2_code
def yJ35_hasNext : MethodName := ⟨RJ35, "hasNext", "()Z"⟩
def dkwJ35_hasNext_0 : List UInt8 := [42, 180, 0, 25, 42, 180, 0, 1, 180, 0, 28, 159, 0, 7, 4, 167, 0, 4, 3, 172]
abbrev dktJ35_hasNext_0 : List UInt8 := dkwJ35_hasNext_0 ++ []
theorem dksJ35_hasNext_0 : cJ35_hasNext.data.toList.drop 0 = dktJ35_hasNext_0 := by decide +kernel
theorem dJ35_hasNext_0 : decode cJ35_hasNext 0 = .ok (.aload_n 0, 1) := dk_42 (dk_at dksJ35_hasNext_0 0 rfl rfl)
theorem dJ35_hasNext_1 : decode cJ35_hasNext 1 = .ok (.getfield 25, 3) := dk_180 0 25 (dk_at dksJ35_hasNext_0 1 rfl rfl)
theorem dJ35_hasNext_4 : decode cJ35_hasNext 4 = .ok (.aload_n 0, 1) := dk_42 (dk_at dksJ35_hasNext_0 4 rfl rfl)
theorem dJ35_hasNext_5 : decode cJ35_hasNext 5 = .ok (.getfield 1, 3) := dk_180 0 1 (dk_at dksJ35_hasNext_0 5 rfl rfl)
theorem dJ35_hasNext_8 : decode cJ35_hasNext 8 = .ok (.getfield 28, 3) := dk_180 0 28 (dk_at dksJ35_hasNext_0 8 rfl rfl)
theorem dJ35_hasNext_11 : decode cJ35_hasNext 11 = .ok (.if_icmp .eq 7, 3) := dk_159 0 7 (dk_at dksJ35_hasNext_0 11 rfl rfl)
theorem dJ35_hasNext_14 : decode cJ35_hasNext 14 = .ok (.iconst 1, 1) := dk_4 (dk_at dksJ35_hasNext_0 14 rfl rfl)
theorem dJ35_hasNext_15 : decode cJ35_hasNext 15 = .ok (.goto 4, 3) := dk_167 0 4 (dk_at dksJ35_hasNext_0 15 rfl rfl)
theorem dJ35_hasNext_18 : decode cJ35_hasNext 18 = .ok (.iconst 0, 1) := dk_3 (dk_at dksJ35_hasNext_0 18 rfl rfl)
theorem dJ35_hasNext_19 : decode cJ35_hasNext 19 = .ok (.ireturn, 1) := dk_172 (dk_at dksJ35_hasNext_0 19 rfl rfl)
abbrev cJ35_next : ByteArray := prog_46_method_3_code
def yJ35_next : MethodName := ⟨RJ35, "next", "()Ljava/lang/Object;"⟩
def dkwJ35_next_2 : List UInt8 := [183, 0, 43, 191, 42, 27, 4, 96, 181, 0, 25, 44, 42, 27, 90, 181, 0, 13, 50, 176]
abbrev dktJ35_next_2 : List UInt8 := dkwJ35_next_2 ++ []
def dkwJ35_next_1 : List UInt8 := [183, 0, 36, 191, 42, 180, 0, 1, 180, 0, 37, 77, 27, 44, 190, 161, 0, 11, 187, 0, 41, 89]
abbrev dktJ35_next_1 : List UInt8 := dkwJ35_next_1 ++ dktJ35_next_2
def dkwJ35_next_0 : List UInt8 := [42, 182, 0, 31, 42, 180, 0, 25, 60, 27, 42, 180, 0, 1, 180, 0, 28, 161, 0, 11, 187, 0, 34, 89]
abbrev dktJ35_next_0 : List UInt8 := dkwJ35_next_0 ++ dktJ35_next_1
theorem dksJ35_next_0 : cJ35_next.data.toList.drop 0 = dktJ35_next_0 := by decide +kernel
theorem dksJ35_next_1 : cJ35_next.data.toList.drop 24 = dktJ35_next_1 := dk_seg dksJ35_next_0 24 rfl rfl
theorem dksJ35_next_2 : cJ35_next.data.toList.drop 46 = dktJ35_next_2 := dk_seg dksJ35_next_1 22 rfl rfl
theorem dJ35_next_0 : decode cJ35_next 0 = .ok (.aload_n 0, 1) := dk_42 (dk_at dksJ35_next_0 0 rfl rfl)
theorem dJ35_next_1 : decode cJ35_next 1 = .ok (.invokevirtual 31, 3) := dk_182 0 31 (dk_at dksJ35_next_0 1 rfl rfl)
theorem dJ35_next_4 : decode cJ35_next 4 = .ok (.aload_n 0, 1) := dk_42 (dk_at dksJ35_next_0 4 rfl rfl)
theorem dJ35_next_5 : decode cJ35_next 5 = .ok (.getfield 25, 3) := dk_180 0 25 (dk_at dksJ35_next_0 5 rfl rfl)
theorem dJ35_next_8 : decode cJ35_next 8 = .ok (.istore_n 1, 1) := dk_60 (dk_at dksJ35_next_0 8 rfl rfl)
theorem dJ35_next_9 : decode cJ35_next 9 = .ok (.iload_n 1, 1) := dk_27 (dk_at dksJ35_next_0 9 rfl rfl)
theorem dJ35_next_10 : decode cJ35_next 10 = .ok (.aload_n 0, 1) := dk_42 (dk_at dksJ35_next_0 10 rfl rfl)
theorem dJ35_next_11 : decode cJ35_next 11 = .ok (.getfield 1, 3) := dk_180 0 1 (dk_at dksJ35_next_0 11 rfl rfl)
theorem dJ35_next_14 : decode cJ35_next 14 = .ok (.getfield 28, 3) := dk_180 0 28 (dk_at dksJ35_next_0 14 rfl rfl)
theorem dJ35_next_17 : decode cJ35_next 17 = .ok (.if_icmp .lt 11, 3) := dk_161 0 11 (dk_at dksJ35_next_0 17 rfl rfl)
theorem dJ35_next_20 : decode cJ35_next 20 = .ok (.new 34, 3) := dk_187 0 34 (dk_at dksJ35_next_0 20 rfl rfl)
theorem dJ35_next_23 : decode cJ35_next 23 = .ok (.dup, 1) := dk_89 (dk_at dksJ35_next_0 23 rfl rfl)
theorem dJ35_next_24 : decode cJ35_next 24 = .ok (.invokespecial 36, 3) := dk_183 0 36 (dk_at dksJ35_next_1 0 rfl rfl)
theorem dJ35_next_27 : decode cJ35_next 27 = .ok (.athrow, 1) := dk_191 (dk_at dksJ35_next_1 3 rfl rfl)
theorem dJ35_next_28 : decode cJ35_next 28 = .ok (.aload_n 0, 1) := dk_42 (dk_at dksJ35_next_1 4 rfl rfl)
theorem dJ35_next_29 : decode cJ35_next 29 = .ok (.getfield 1, 3) := dk_180 0 1 (dk_at dksJ35_next_1 5 rfl rfl)
theorem dJ35_next_32 : decode cJ35_next 32 = .ok (.getfield 37, 3) := dk_180 0 37 (dk_at dksJ35_next_1 8 rfl rfl)
theorem dJ35_next_35 : decode cJ35_next 35 = .ok (.astore_n 2, 1) := dk_77 (dk_at dksJ35_next_1 11 rfl rfl)
theorem dJ35_next_36 : decode cJ35_next 36 = .ok (.iload_n 1, 1) := dk_27 (dk_at dksJ35_next_1 12 rfl rfl)
theorem dJ35_next_37 : decode cJ35_next 37 = .ok (.aload_n 2, 1) := dk_44 (dk_at dksJ35_next_1 13 rfl rfl)
theorem dJ35_next_38 : decode cJ35_next 38 = .ok (.arraylength, 1) := dk_190 (dk_at dksJ35_next_1 14 rfl rfl)
theorem dJ35_next_39 : decode cJ35_next 39 = .ok (.if_icmp .lt 11, 3) := dk_161 0 11 (dk_at dksJ35_next_1 15 rfl rfl)
theorem dJ35_next_42 : decode cJ35_next 42 = .ok (.new 41, 3) := dk_187 0 41 (dk_at dksJ35_next_1 18 rfl rfl)
theorem dJ35_next_45 : decode cJ35_next 45 = .ok (.dup, 1) := dk_89 (dk_at dksJ35_next_1 21 rfl rfl)
theorem dJ35_next_46 : decode cJ35_next 46 = .ok (.invokespecial 43, 3) := dk_183 0 43 (dk_at dksJ35_next_2 0 rfl rfl)
theorem dJ35_next_49 : decode cJ35_next 49 = .ok (.athrow, 1) := dk_191 (dk_at dksJ35_next_2 3 rfl rfl)
theorem dJ35_next_50 : decode cJ35_next 50 = .ok (.aload_n 0, 1) := dk_42 (dk_at dksJ35_next_2 4 rfl rfl)
theorem dJ35_next_51 : decode cJ35_next 51 = .ok (.iload_n 1, 1) := dk_27 (dk_at dksJ35_next_2 5 rfl rfl)
theorem dJ35_next_52 : decode cJ35_next 52 = .ok (.iconst 1, 1) := dk_4 (dk_at dksJ35_next_2 6 rfl rfl)
theorem dJ35_next_53 : decode cJ35_next 53 = .ok (.iadd, 1) := dk_96 (dk_at dksJ35_next_2 7 rfl rfl)
theorem dJ35_next_54 : decode cJ35_next 54 = .ok (.putfield 25, 3) := dk_181 0 25 (dk_at dksJ35_next_2 8 rfl rfl)
theorem dJ35_next_57 : decode cJ35_next 57 = .ok (.aload_n 2, 1) := dk_44 (dk_at dksJ35_next_2 11 rfl rfl)
theorem dJ35_next_58 : decode cJ35_next 58 = .ok (.aload_n 0, 1) := dk_42 (dk_at dksJ35_next_2 12 rfl rfl)
theorem dJ35_next_59 : decode cJ35_next 59 = .ok (.iload_n 1, 1) := dk_27 (dk_at dksJ35_next_2 13 rfl rfl)
theorem dJ35_next_60 : decode cJ35_next 60 = .ok (.dup_x1, 1) := dk_90 (dk_at dksJ35_next_2 14 rfl rfl)
theorem dJ35_next_61 : decode cJ35_next 61 = .ok (.putfield 13, 3) := dk_181 0 13 (dk_at dksJ35_next_2 15 rfl rfl)
theorem dJ35_next_64 : decode cJ35_next 64 = .ok (.aaload, 1) := dk_50 (dk_at dksJ35_next_2 18 rfl rfl)
theorem dJ35_next_65 : decode cJ35_next 65 = .ok (.areturn, 1) := dk_176 (dk_at dksJ35_next_2 19 rfl rfl)
abbrev cJ35_checkForComodification : ByteArray := prog_46_method_6_code
def yJ35_checkForComodification : MethodName := ⟨RJ35, "checkForComodification", "()V"⟩
def dkwJ35_checkForComodification_0 : List UInt8 := [42, 180, 0, 1, 180, 0, 17, 42, 180, 0, 22, 159, 0, 11, 187, 0, 41, 89, 183, 0, 43, 191, 177]
abbrev dktJ35_checkForComodification_0 : List UInt8 := dkwJ35_checkForComodification_0 ++ []
theorem dksJ35_checkForComodification_0 : cJ35_checkForComodification.data.toList.drop 0 = dktJ35_checkForComodification_0 := by decide +kernel
theorem dJ35_checkForComodification_0 : decode cJ35_checkForComodification 0 = .ok (.aload_n 0, 1) := dk_42 (dk_at dksJ35_checkForComodification_0 0 rfl rfl)
theorem dJ35_checkForComodification_1 : decode cJ35_checkForComodification 1 = .ok (.getfield 1, 3) := dk_180 0 1 (dk_at dksJ35_checkForComodification_0 1 rfl rfl)
theorem dJ35_checkForComodification_4 : decode cJ35_checkForComodification 4 = .ok (.getfield 17, 3) := dk_180 0 17 (dk_at dksJ35_checkForComodification_0 4 rfl rfl)
theorem dJ35_checkForComodification_7 : decode cJ35_checkForComodification 7 = .ok (.aload_n 0, 1) := dk_42 (dk_at dksJ35_checkForComodification_0 7 rfl rfl)
theorem dJ35_checkForComodification_8 : decode cJ35_checkForComodification 8 = .ok (.getfield 22, 3) := dk_180 0 22 (dk_at dksJ35_checkForComodification_0 8 rfl rfl)
theorem dJ35_checkForComodification_11 : decode cJ35_checkForComodification 11 = .ok (.if_icmp .eq 11, 3) := dk_159 0 11 (dk_at dksJ35_checkForComodification_0 11 rfl rfl)
theorem dJ35_checkForComodification_14 : decode cJ35_checkForComodification 14 = .ok (.new 41, 3) := dk_187 0 41 (dk_at dksJ35_checkForComodification_0 14 rfl rfl)
theorem dJ35_checkForComodification_17 : decode cJ35_checkForComodification 17 = .ok (.dup, 1) := dk_89 (dk_at dksJ35_checkForComodification_0 17 rfl rfl)
theorem dJ35_checkForComodification_18 : decode cJ35_checkForComodification 18 = .ok (.invokespecial 43, 3) := dk_183 0 43 (dk_at dksJ35_checkForComodification_0 18 rfl rfl)
theorem dJ35_checkForComodification_21 : decode cJ35_checkForComodification 21 = .ok (.athrow, 1) := dk_191 (dk_at dksJ35_checkForComodification_0 21 rfl rfl)
theorem dJ35_checkForComodification_22 : decode cJ35_checkForComodification 22 = .ok (.return_, 1) := dk_177 (dk_at dksJ35_checkForComodification_0 22 rfl rfl)
theorem q124 : (Jvm.Cond.initialized "java/util/ArrayList$Itr") ∈ lw_all := lw_g (lw_at lw_m1 49 rfl) rfl
theorem q154 : (Jvm.Cond.fieldLink "java/util/ArrayList$Itr" (37 : Nat) "java/util/ArrayList" "elementData" "[Ljava/lang/Object;") ∈ lw_all := lw_g (lw_at lw_m1 79 rfl) rfl
theorem q155 : (Jvm.Cond.fieldLinkNest "java/util/ArrayList$Itr" (28 : Nat) "java/util/ArrayList" "size" "I" "java/util/ArrayList") ∈ lw_tbl := lw_at lw_m1 80 rfl
theorem q158 : (Jvm.Cond.fieldLink "java/util/ArrayList$Itr" (17 : Nat) "java/util/ArrayList" "modCount" "I") ∈ lw_all := lw_g (lw_at lw_m1 83 rfl) rfl
theorem q220 : (Jvm.Cond.selects "java/util/ArrayList$Itr" ({ cls := "java/lang/Object", name := "getClass", desc := "()Ljava/lang/Class;" } : Jvm.MethodName) ({ cls := "java/lang/Object", name := "getClass", desc := "()Ljava/lang/Class;" } : Jvm.MethodName)) ∈ lw_all := lw_g (lw_at lw_m1 145 rfl) rfl
theorem q787 : (Jvm.Cond.instantiable "java/util/ArrayList$Itr" (4 : Nat)) ∈ lw_all := lw_g (lw_at lw_m3 232 rfl) rfl
theorem q789 : (Jvm.Cond.instanceMethod ({ cls := "java/util/ArrayList$Itr", name := "<init>", desc := "(Ljava/util/ArrayList;)V" } : Jvm.MethodName)) ∈ lw_all := lw_g (lw_at lw_m3 234 rfl) rfl
theorem q790 : (Jvm.Cond.code ({ cls := "java/util/ArrayList$Itr", name := "<init>", desc := "(Ljava/util/ArrayList;)V" } : Jvm.MethodName) prog_46_method_1_code (2 : Nat) (Option.none : Option Jvm.ClassFile.FieldType)) ∈ lw_all := lw_g (lw_at lw_m3 235 rfl) rfl
theorem q791 : (Jvm.Cond.methodLink "java/util/ArrayList$Itr" (7 : Nat) ({ cls := "java/lang/Object", name := "<init>", desc := "()V" } : Jvm.MethodName)) ∈ lw_all := lw_g (lw_at lw_m3 236 rfl) rfl
theorem q792 : (Jvm.Cond.fieldLink "java/util/ArrayList$Itr" (25 : Nat) "java/util/ArrayList$Itr" "cursor" "I") ∈ lw_all := lw_g (lw_at lw_m3 237 rfl) rfl
theorem q793 : (Jvm.Cond.fieldLink "java/util/ArrayList$Itr" (13 : Nat) "java/util/ArrayList$Itr" "lastRet" "I") ∈ lw_all := lw_g (lw_at lw_m3 238 rfl) rfl
theorem q794 : (Jvm.Cond.fieldLink "java/util/ArrayList$Itr" (22 : Nat) "java/util/ArrayList$Itr" "expectedModCount" "I") ∈ lw_all := lw_g (lw_at lw_m3 239 rfl) rfl
theorem q795 : (Jvm.Cond.fieldLink "java/util/ArrayList$Itr" (1 : Nat) "java/util/ArrayList$Itr" "this$0" "Ljava/util/ArrayList;") ∈ lw_all := lw_g (lw_at lw_m4 0 rfl) rfl
theorem q796 : (Jvm.Cond.lays "java/util/ArrayList$Itr" "java/util/ArrayList$Itr" "cursor" "I") ∈ lw_all := lw_g (lw_at lw_m4 1 rfl) rfl
theorem q797 : (Jvm.Cond.soleField "java/util/ArrayList$Itr" "cursor") ∈ lw_all := lw_g (lw_at lw_m4 2 rfl) rfl
theorem q798 : (Jvm.Cond.lays "java/util/ArrayList$Itr" "java/util/ArrayList$Itr" "lastRet" "I") ∈ lw_all := lw_g (lw_at lw_m4 3 rfl) rfl
theorem q799 : (Jvm.Cond.soleField "java/util/ArrayList$Itr" "lastRet") ∈ lw_all := lw_g (lw_at lw_m4 4 rfl) rfl
theorem q800 : (Jvm.Cond.lays "java/util/ArrayList$Itr" "java/util/ArrayList$Itr" "expectedModCount" "I") ∈ lw_all := lw_g (lw_at lw_m4 5 rfl) rfl
theorem q801 : (Jvm.Cond.soleField "java/util/ArrayList$Itr" "expectedModCount") ∈ lw_all := lw_g (lw_at lw_m4 6 rfl) rfl
theorem q802 : (Jvm.Cond.laysFinal "java/util/ArrayList$Itr" "java/util/ArrayList$Itr" "this$0" "Ljava/util/ArrayList;") ∈ lw_all := lw_g (lw_at lw_m4 7 rfl) rfl
theorem q803 : (Jvm.Cond.soleField "java/util/ArrayList$Itr" "this$0") ∈ lw_all := lw_g (lw_at lw_m4 8 rfl) rfl
theorem q804 : (Jvm.Cond.superclass "java/util/ArrayList$Itr" "java/lang/Object") ∈ lw_all := lw_g (lw_at lw_m4 9 rfl) rfl
theorem q809 : (Jvm.Cond.castable "java/util/ArrayList$Itr" "java/util/Iterator") ∈ lw_tbl := lw_at lw_m4 14 rfl
theorem q810 : (Jvm.Cond.selects "java/util/ArrayList$Itr" ({ cls := "java/util/Iterator", name := "hasNext", desc := "()Z" } : Jvm.MethodName) ({ cls := "java/util/ArrayList$Itr", name := "hasNext", desc := "()Z" } : Jvm.MethodName)) ∈ lw_all := lw_g (lw_at lw_m4 15 rfl) rfl
theorem q811 : (Jvm.Cond.unhidden "java/util/ArrayList$Itr" "hasNext" "()Z") ∈ lw_tbl := lw_at lw_m4 16 rfl
theorem q812 : (Jvm.Cond.instanceMethod ({ cls := "java/util/ArrayList$Itr", name := "hasNext", desc := "()Z" } : Jvm.MethodName)) ∈ lw_all := lw_g (lw_at lw_m4 17 rfl) rfl
theorem q813 : (Jvm.Cond.publicMethod ({ cls := "java/util/ArrayList$Itr", name := "hasNext", desc := "()Z" } : Jvm.MethodName)) ∈ lw_tbl := lw_at lw_m4 18 rfl
theorem q814 : (Jvm.Cond.code ({ cls := "java/util/ArrayList$Itr", name := "hasNext", desc := "()Z" } : Jvm.MethodName) prog_46_method_2_code (1 : Nat) (Option.some Jvm.ClassFile.FieldType.boolean)) ∈ lw_all := lw_g (lw_at lw_m4 19 rfl) rfl
theorem q825 : (Jvm.Cond.selects "java/util/ArrayList$Itr" ({ cls := "java/util/Iterator", name := "next", desc := "()Ljava/lang/Object;" } : Jvm.MethodName) ({ cls := "java/util/ArrayList$Itr", name := "next", desc := "()Ljava/lang/Object;" } : Jvm.MethodName)) ∈ lw_all := lw_g (lw_at lw_m4 30 rfl) rfl
theorem q826 : (Jvm.Cond.unhidden "java/util/ArrayList$Itr" "next" "()Ljava/lang/Object;") ∈ lw_tbl := lw_at lw_m4 31 rfl
theorem q827 : (Jvm.Cond.instanceMethod ({ cls := "java/util/ArrayList$Itr", name := "next", desc := "()Ljava/lang/Object;" } : Jvm.MethodName)) ∈ lw_all := lw_g (lw_at lw_m4 32 rfl) rfl
theorem q828 : (Jvm.Cond.publicMethod ({ cls := "java/util/ArrayList$Itr", name := "next", desc := "()Ljava/lang/Object;" } : Jvm.MethodName)) ∈ lw_tbl := lw_at lw_m4 33 rfl
theorem q829 : (Jvm.Cond.code ({ cls := "java/util/ArrayList$Itr", name := "next", desc := "()Ljava/lang/Object;" } : Jvm.MethodName) prog_46_method_3_code (3 : Nat) (Option.some (Jvm.ClassFile.FieldType.object "java/lang/Object"))) ∈ lw_all := lw_g (lw_at lw_m4 34 rfl) rfl
theorem q830 : (Jvm.Cond.methodLink "java/util/ArrayList$Itr" (31 : Nat) ({ cls := "java/util/ArrayList$Itr", name := "checkForComodification", desc := "()V" } : Jvm.MethodName)) ∈ lw_all := lw_g (lw_at lw_m4 35 rfl) rfl
theorem q831 : (Jvm.Cond.instanceMethod ({ cls := "java/util/ArrayList$Itr", name := "checkForComodification", desc := "()V" } : Jvm.MethodName)) ∈ lw_all := lw_g (lw_at lw_m4 36 rfl) rfl
theorem q832 : (Jvm.Cond.selects "java/util/ArrayList$Itr" ({ cls := "java/util/ArrayList$Itr", name := "checkForComodification", desc := "()V" } : Jvm.MethodName) ({ cls := "java/util/ArrayList$Itr", name := "checkForComodification", desc := "()V" } : Jvm.MethodName)) ∈ lw_all := lw_g (lw_at lw_m4 37 rfl) rfl
theorem q833 : (Jvm.Cond.code ({ cls := "java/util/ArrayList$Itr", name := "checkForComodification", desc := "()V" } : Jvm.MethodName) prog_46_method_6_code (1 : Nat) (Option.none : Option Jvm.ClassFile.FieldType)) ∈ lw_all := lw_g (lw_at lw_m4 38 rfl) rfl
theorem q2437 : (Jvm.Cond.castable "java/util/ArrayList$Itr" "java/lang/Object") ∈ lw_tbl := lw_at lw_m10 202 rfl
theorem in_J35 : ∀ w ∈ wsJ350, w ∈ lw_all := lw_in wsJ350 [796, 798, 800, 802] (by decide +kernel) (by decide +kernel)

/-! java/lang/Object -/
set_option maxRecDepth 100000
def RJ36 : String := "java/lang/Object"
abbrev cJ36_init : ByteArray := object_method_1_code
def yJ36_init : MethodName := ⟨RJ36, "<init>", "()V"⟩
theorem dJ36_init_0 : decode cJ36_init 0 = .ok (.return_, 1) := by decide +kernel
theorem q131 : (Jvm.Cond.instanceMethod ({ cls := "java/lang/Object", name := "<init>", desc := "()V" } : Jvm.MethodName)) ∈ lw_all := lw_g (lw_at lw_m1 56 rfl) rfl
theorem q132 : (Jvm.Cond.code ({ cls := "java/lang/Object", name := "<init>", desc := "()V" } : Jvm.MethodName) object_method_1_code (1 : Nat) (Option.none : Option Jvm.ClassFile.FieldType)) ∈ lw_all := lw_g (lw_at lw_m1 57 rfl) rfl
theorem q198 : (Jvm.Cond.instanceMethod ({ cls := "java/lang/Object", name := "getClass", desc := "()Ljava/lang/Class;" } : Jvm.MethodName)) ∈ lw_all := lw_g (lw_at lw_m1 123 rfl) rfl
theorem q199 : (Jvm.Cond.sameMethod "java/lang/Object" "java/lang/Object" "getClass" "()Ljava/lang/Class;") ∈ lw_all := lw_g (lw_at lw_m1 124 rfl) rfl
theorem q227 : (Jvm.Cond.native ({ cls := "java/lang/Object", name := "getClass", desc := "()Ljava/lang/Class;" } : Jvm.MethodName)) ∈ lw_all := lw_g (lw_at lw_m1 152 rfl) rfl
theorem q390 : (Jvm.Cond.native ({ cls := "java/lang/Object", name := "clone", desc := "()Ljava/lang/Object;" } : Jvm.MethodName)) ∈ lw_all := lw_g (lw_at lw_m2 75 rfl) rfl
theorem q391 : (Jvm.Cond.instanceMethod ({ cls := "java/lang/Object", name := "clone", desc := "()Ljava/lang/Object;" } : Jvm.MethodName)) ∈ lw_all := lw_g (lw_at lw_m2 76 rfl) rfl
theorem q2408 : (Jvm.Cond.initialized "java/lang/Object") ∈ lw_all := lw_g (lw_at lw_m10 173 rfl) rfl
theorem q2441 : (Jvm.Cond.declares ({ cls := "java/lang/Object", name := "getClass", desc := "()Ljava/lang/Class;" } : Jvm.MethodName)) ∈ lw_tbl := lw_at lw_m10 206 rfl

theorem q389 : (Jvm.Cond.sameMethod "[B" "java/lang/Object" "clone" "()Ljava/lang/Object;") ∈ lw_all := lw_g (lw_at lw_m2 74 rfl) rfl
set_option maxRecDepth 100000
theorem q392 : (Jvm.Cond.selects "[B" ({ cls := "[B", name := "clone", desc := "()Ljava/lang/Object;" } : Jvm.MethodName) ({ cls := "java/lang/Object", name := "clone", desc := "()Ljava/lang/Object;" } : Jvm.MethodName)) ∈ lw_all := lw_g (lw_at lw_m2 77 rfl) rfl
theorem q393 : (Jvm.Cond.castable "[B" "java/lang/Cloneable") ∈ lw_tbl := lw_at lw_m2 78 rfl
theorem q2445 : (Jvm.Cond.castable "[B" "java/lang/Object") ∈ lw_tbl := lw_at lw_m10 210 rfl

theorem q2443 : (Jvm.Cond.castable "[I" "java/lang/Object") ∈ lw_tbl := lw_at lw_m10 208 rfl
set_option maxRecDepth 100000

theorem q2447 : (Jvm.Cond.castable "[J" "java/lang/Object") ∈ lw_tbl := lw_at lw_m10 212 rfl
set_option maxRecDepth 100000

theorem q2444 : (Jvm.Cond.castable "[LGaugeBlocks$State;" "java/lang/Object") ∈ lw_tbl := lw_at lw_m10 209 rfl
set_option maxRecDepth 100000

theorem q2439 : (Jvm.Cond.sameMethod "[Ljava/lang/Object;" "java/lang/Object" "getClass" "()Ljava/lang/Class;") ∈ lw_all := lw_g (lw_at lw_m10 204 rfl) rfl
set_option maxRecDepth 100000
theorem q2440 : (Jvm.Cond.selects "[Ljava/lang/Object;" ({ cls := "java/lang/Object", name := "getClass", desc := "()Ljava/lang/Class;" } : Jvm.MethodName) ({ cls := "java/lang/Object", name := "getClass", desc := "()Ljava/lang/Class;" } : Jvm.MethodName)) ∈ lw_all := lw_g (lw_at lw_m10 205 rfl) rfl
theorem q2442 : (Jvm.Cond.castable "[Ljava/lang/Object;" "java/lang/Object") ∈ lw_tbl := lw_at lw_m10 207 rfl

theorem q2446 : (Jvm.Cond.castable "[Z" "java/lang/Object") ∈ lw_tbl := lw_at lw_m10 211 rfl
set_option maxRecDepth 100000

theorem q1442 : (Jvm.Cond.interfaceMethod "java/lang/Comparable" "java/lang/Comparable" "compareTo" "(Ljava/lang/Object;)I") ∈ lw_tbl := lw_at lw_m6 167 rfl
set_option maxRecDepth 100000
theorem q1443 : (Jvm.Cond.declares ({ cls := "java/lang/Comparable", name := "compareTo", desc := "(Ljava/lang/Object;)I" } : Jvm.MethodName)) ∈ lw_tbl := lw_at lw_m6 168 rfl

theorem q118 : (Jvm.Cond.initialized "java/lang/Integer$IntegerCache") ∈ lw_all := lw_g (lw_at lw_m1 43 rfl) rfl
set_option maxRecDepth 100000
theorem q1720 : (Jvm.Cond.laysStatic "java/lang/Integer$IntegerCache" "high" "I") ∈ lw_tbl := lw_at lw_m7 205 rfl
theorem q1722 : (Jvm.Cond.laysStatic "java/lang/Integer$IntegerCache" "cache" "[Ljava/lang/Integer;") ∈ lw_tbl := lw_at lw_m7 207 rfl

theorem q84 : (Jvm.Cond.initialized "java/lang/System") ∈ lw_all := lw_g (lw_at lw_m1 9 rfl) rfl
set_option maxRecDepth 100000
theorem q238 : (Jvm.Cond.static ({ cls := "java/lang/System", name := "arraycopy", desc := "(Ljava/lang/Object;ILjava/lang/Object;II)V" } : Jvm.MethodName)) ∈ lw_all := lw_g (lw_at lw_m1 163 rfl) rfl
theorem q239 : (Jvm.Cond.native ({ cls := "java/lang/System", name := "arraycopy", desc := "(Ljava/lang/Object;ILjava/lang/Object;II)V" } : Jvm.MethodName)) ∈ lw_all := lw_g (lw_at lw_m1 164 rfl) rfl

theorem q1414 : (Jvm.Cond.interfaceMethod "java/util/Comparator" "java/util/Comparator" "compare" "(Ljava/lang/Object;Ljava/lang/Object;)I") ∈ lw_tbl := lw_at lw_m6 139 rfl
set_option maxRecDepth 100000
theorem q1415 : (Jvm.Cond.declares ({ cls := "java/util/Comparator", name := "compare", desc := "(Ljava/lang/Object;Ljava/lang/Object;)I" } : Jvm.MethodName)) ∈ lw_tbl := lw_at lw_m6 140 rfl

theorem q807 : (Jvm.Cond.interfaceMethod "java/util/Iterator" "java/util/Iterator" "hasNext" "()Z") ∈ lw_tbl := lw_at lw_m4 12 rfl
set_option maxRecDepth 100000
theorem q808 : (Jvm.Cond.declares ({ cls := "java/util/Iterator", name := "hasNext", desc := "()Z" } : Jvm.MethodName)) ∈ lw_tbl := lw_at lw_m4 13 rfl
theorem q823 : (Jvm.Cond.interfaceMethod "java/util/Iterator" "java/util/Iterator" "next" "()Ljava/lang/Object;") ∈ lw_tbl := lw_at lw_m4 28 rfl
theorem q824 : (Jvm.Cond.declares ({ cls := "java/util/Iterator", name := "next", desc := "()Ljava/lang/Object;" } : Jvm.MethodName)) ∈ lw_tbl := lw_at lw_m4 29 rfl

theorem q1653 : (Jvm.Cond.publicMethod ({ cls := "java/util/Map", name := "size", desc := "()I" } : Jvm.MethodName)) ∈ lw_tbl := lw_at lw_m7 138 rfl
set_option maxRecDepth 100000
theorem q1654 : (Jvm.Cond.declares ({ cls := "java/util/Map", name := "size", desc := "()I" } : Jvm.MethodName)) ∈ lw_tbl := lw_at lw_m7 139 rfl

theorem q1865 : (Jvm.Cond.interfaceMethod "java/util/Set" "java/util/Set" "iterator" "()Ljava/util/Iterator;") ∈ lw_tbl := lw_at lw_m8 110 rfl
set_option maxRecDepth 100000
theorem q1866 : (Jvm.Cond.declares ({ cls := "java/util/Set", name := "iterator", desc := "()Ljava/util/Iterator;" } : Jvm.MethodName)) ∈ lw_tbl := lw_at lw_m8 111 rfl

theorem q1906 : (Jvm.Cond.declares ({ cls := "java/util/TreeMap$NavigableSubMap", name := "keyIterator", desc := "()Ljava/util/Iterator;" } : Jvm.MethodName)) ∈ lw_tbl := lw_at lw_m8 151 rfl
set_option maxRecDepth 100000
theorem q1907 : (Jvm.Cond.selects "java/util/TreeMap$NavigableSubMap" ({ cls := "java/util/TreeMap$NavigableSubMap", name := "keyIterator", desc := "()Ljava/util/Iterator;" } : Jvm.MethodName) ({ cls := "java/util/TreeMap$NavigableSubMap", name := "keyIterator", desc := "()Ljava/util/Iterator;" } : Jvm.MethodName)) ∈ lw_all := lw_g (lw_at lw_m8 152 rfl) rfl

theorem q114 : (Jvm.Cond.initialized "jdk/internal/misc/UnsafeConstants") ∈ lw_all := lw_g (lw_at lw_m1 39 rfl) rfl
set_option maxRecDepth 100000
theorem q1514 : (Jvm.Cond.laysStatic "jdk/internal/misc/UnsafeConstants" "BIG_ENDIAN" "Z") ∈ lw_tbl := lw_at lw_m6 239 rfl

theorem q232 : (Jvm.Cond.arrayOver (Jvm.ClassFile.FieldType.object "java/lang/Object")) ∈ lw_tbl := lw_at lw_m1 157 rfl
set_option maxRecDepth 100000
theorem q272 : (Jvm.Cond.arrayClass Jvm.ClassFile.FieldType.int) ∈ lw_all := lw_g (lw_at lw_m1 197 rfl) rfl
theorem q290 : (Jvm.Cond.arrayOver (Jvm.ClassFile.FieldType.object "GaugeBlocks$State")) ∈ lw_tbl := lw_at lw_m1 215 rfl
theorem q323 : (Jvm.Cond.arrayClass Jvm.ClassFile.FieldType.byte) ∈ lw_all := lw_g (lw_at lw_m2 8 rfl) rfl
theorem q2053 : (Jvm.Cond.arrayClass Jvm.ClassFile.FieldType.boolean) ∈ lw_all := lw_g (lw_at lw_m9 58 rfl) rfl
theorem q2391 : (Jvm.Cond.arrayClass Jvm.ClassFile.FieldType.long) ∈ lw_all := lw_g (lw_at lw_m10 156 rfl) rfl

