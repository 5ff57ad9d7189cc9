/-! java/lang/Object -/
set_option maxRecDepth 100000
def RJ7 : String := "java/lang/Object"
abbrev cJ7_init : ByteArray := object_method_1_code
def yJ7_init : MethodName := ⟨RJ7, "<init>", "()V"⟩
theorem dJ7_init_0 : decode cJ7_init 0 = .ok (.return_, 1) := by decide +kernel
theorem q157 : (Jvm.Cond.instanceMethod ({ cls := "java/lang/Object", name := "<init>", desc := "()V" } : Jvm.MethodName)) ∈ lw_all := lw_g (lw_at lw_m1 27 rfl) rfl
theorem q158 : (Jvm.Cond.code ({ cls := "java/lang/Object", name := "<init>", desc := "()V" } : Jvm.MethodName) object_method_1_code (1 : Nat) (Option.none : Option Jvm.ClassFile.FieldType)) ∈ lw_all := lw_g (lw_at lw_m1 28 rfl) rfl
/-! java/util/Arrays -/
set_option maxRecDepth 100000
def RJ0 : String := "java/util/Arrays"
abbrev cJ0_fill : ByteArray := prog_22_method_109_code
def yJ0_fill : MethodName := ⟨RJ0, "fill", "([BB)V"⟩
def dkwJ0_fill_0 : List UInt8 := [3, 61, 42, 190, 62, 28, 29, 162, 0, 13, 42, 28, 27, 84, 132, 2, 1, 167, 255, 244, 177]
abbrev dktJ0_fill_0 : List UInt8 := dkwJ0_fill_0 ++ []
theorem dksJ0_fill_0 : cJ0_fill.data.toList.drop 0 = dktJ0_fill_0 := by decide +kernel
theorem dJ0_fill_0 : decode cJ0_fill 0 = .ok (.iconst 0, 1) := dk_3 (dk_at dksJ0_fill_0 0 rfl rfl)
theorem dJ0_fill_1 : decode cJ0_fill 1 = .ok (.istore_n 2, 1) := dk_61 (dk_at dksJ0_fill_0 1 rfl rfl)
theorem dJ0_fill_2 : decode cJ0_fill 2 = .ok (.aload_n 0, 1) := dk_42 (dk_at dksJ0_fill_0 2 rfl rfl)
theorem dJ0_fill_3 : decode cJ0_fill 3 = .ok (.arraylength, 1) := dk_190 (dk_at dksJ0_fill_0 3 rfl rfl)
theorem dJ0_fill_4 : decode cJ0_fill 4 = .ok (.istore_n 3, 1) := dk_62 (dk_at dksJ0_fill_0 4 rfl rfl)
theorem dJ0_fill_5 : decode cJ0_fill 5 = .ok (.iload_n 2, 1) := dk_28 (dk_at dksJ0_fill_0 5 rfl rfl)
theorem dJ0_fill_6 : decode cJ0_fill 6 = .ok (.iload_n 3, 1) := dk_29 (dk_at dksJ0_fill_0 6 rfl rfl)
theorem dJ0_fill_7 : decode cJ0_fill 7 = .ok (.if_icmp .ge 13, 3) := dk_162 0 13 (dk_at dksJ0_fill_0 7 rfl rfl)
theorem dJ0_fill_10 : decode cJ0_fill 10 = .ok (.aload_n 0, 1) := dk_42 (dk_at dksJ0_fill_0 10 rfl rfl)
theorem dJ0_fill_11 : decode cJ0_fill 11 = .ok (.iload_n 2, 1) := dk_28 (dk_at dksJ0_fill_0 11 rfl rfl)
theorem dJ0_fill_12 : decode cJ0_fill 12 = .ok (.iload_n 1, 1) := dk_27 (dk_at dksJ0_fill_0 12 rfl rfl)
theorem dJ0_fill_13 : decode cJ0_fill 13 = .ok (.bastore, 1) := dk_84 (dk_at dksJ0_fill_0 13 rfl rfl)
theorem dJ0_fill_14 : decode cJ0_fill 14 = .ok (.iinc 2 1, 3) := dk_132 2 1 (dk_at dksJ0_fill_0 14 rfl rfl)
theorem dJ0_fill_17 : decode cJ0_fill 17 = .ok (.goto (-12), 3) := dk_167 255 244 (dk_at dksJ0_fill_0 17 rfl rfl)
theorem dJ0_fill_20 : decode cJ0_fill 20 = .ok (.return_, 1) := dk_177 (dk_at dksJ0_fill_0 20 rfl rfl)
abbrev cJ0_fill_2 : ByteArray := prog_22_method_103_code
def yJ0_fill_2 : MethodName := ⟨RJ0, "fill", "([II)V"⟩
def dkwJ0_fill_2_0 : List UInt8 := [3, 61, 42, 190, 62, 28, 29, 162, 0, 13, 42, 28, 27, 79, 132, 2, 1, 167, 255, 244, 177]
abbrev dktJ0_fill_2_0 : List UInt8 := dkwJ0_fill_2_0 ++ []
theorem dksJ0_fill_2_0 : cJ0_fill_2.data.toList.drop 0 = dktJ0_fill_2_0 := by decide +kernel
theorem dJ0_fill_2_0 : decode cJ0_fill_2 0 = .ok (.iconst 0, 1) := dk_3 (dk_at dksJ0_fill_2_0 0 rfl rfl)
theorem dJ0_fill_2_1 : decode cJ0_fill_2 1 = .ok (.istore_n 2, 1) := dk_61 (dk_at dksJ0_fill_2_0 1 rfl rfl)
theorem dJ0_fill_2_2 : decode cJ0_fill_2 2 = .ok (.aload_n 0, 1) := dk_42 (dk_at dksJ0_fill_2_0 2 rfl rfl)
theorem dJ0_fill_2_3 : decode cJ0_fill_2 3 = .ok (.arraylength, 1) := dk_190 (dk_at dksJ0_fill_2_0 3 rfl rfl)
theorem dJ0_fill_2_4 : decode cJ0_fill_2 4 = .ok (.istore_n 3, 1) := dk_62 (dk_at dksJ0_fill_2_0 4 rfl rfl)
theorem dJ0_fill_2_5 : decode cJ0_fill_2 5 = .ok (.iload_n 2, 1) := dk_28 (dk_at dksJ0_fill_2_0 5 rfl rfl)
theorem dJ0_fill_2_6 : decode cJ0_fill_2 6 = .ok (.iload_n 3, 1) := dk_29 (dk_at dksJ0_fill_2_0 6 rfl rfl)
theorem dJ0_fill_2_7 : decode cJ0_fill_2 7 = .ok (.if_icmp .ge 13, 3) := dk_162 0 13 (dk_at dksJ0_fill_2_0 7 rfl rfl)
theorem dJ0_fill_2_10 : decode cJ0_fill_2 10 = .ok (.aload_n 0, 1) := dk_42 (dk_at dksJ0_fill_2_0 10 rfl rfl)
theorem dJ0_fill_2_11 : decode cJ0_fill_2 11 = .ok (.iload_n 2, 1) := dk_28 (dk_at dksJ0_fill_2_0 11 rfl rfl)
theorem dJ0_fill_2_12 : decode cJ0_fill_2 12 = .ok (.iload_n 1, 1) := dk_27 (dk_at dksJ0_fill_2_0 12 rfl rfl)
theorem dJ0_fill_2_13 : decode cJ0_fill_2 13 = .ok (.iastore, 1) := dk_79 (dk_at dksJ0_fill_2_0 13 rfl rfl)
theorem dJ0_fill_2_14 : decode cJ0_fill_2 14 = .ok (.iinc 2 1, 3) := dk_132 2 1 (dk_at dksJ0_fill_2_0 14 rfl rfl)
theorem dJ0_fill_2_17 : decode cJ0_fill_2 17 = .ok (.goto (-12), 3) := dk_167 255 244 (dk_at dksJ0_fill_2_0 17 rfl rfl)
theorem dJ0_fill_2_20 : decode cJ0_fill_2 20 = .ok (.return_, 1) := dk_177 (dk_at dksJ0_fill_2_0 20 rfl rfl)
abbrev cJ0_fill_3 : ByteArray := prog_22_method_110_code
def yJ0_fill_3 : MethodName := ⟨RJ0, "fill", "([BIIB)V"⟩
def dkwJ0_fill_3_1 : List UInt8 := [167, 255, 242, 177]
abbrev dktJ0_fill_3_1 : List UInt8 := dkwJ0_fill_3_1 ++ []
def dkwJ0_fill_3_0 : List UInt8 := [42, 190, 27, 28, 184, 0, 13, 27, 54, 4, 21, 4, 28, 162, 0, 14, 42, 21, 4, 29, 84, 132, 4, 1]
abbrev dktJ0_fill_3_0 : List UInt8 := dkwJ0_fill_3_0 ++ dktJ0_fill_3_1
theorem dksJ0_fill_3_0 : cJ0_fill_3.data.toList.drop 0 = dktJ0_fill_3_0 := by decide +kernel
theorem dksJ0_fill_3_1 : cJ0_fill_3.data.toList.drop 24 = dktJ0_fill_3_1 := dk_seg dksJ0_fill_3_0 24 rfl rfl
theorem dJ0_fill_3_0 : decode cJ0_fill_3 0 = .ok (.aload_n 0, 1) := dk_42 (dk_at dksJ0_fill_3_0 0 rfl rfl)
theorem dJ0_fill_3_1 : decode cJ0_fill_3 1 = .ok (.arraylength, 1) := dk_190 (dk_at dksJ0_fill_3_0 1 rfl rfl)
theorem dJ0_fill_3_2 : decode cJ0_fill_3 2 = .ok (.iload_n 1, 1) := dk_27 (dk_at dksJ0_fill_3_0 2 rfl rfl)
theorem dJ0_fill_3_3 : decode cJ0_fill_3 3 = .ok (.iload_n 2, 1) := dk_28 (dk_at dksJ0_fill_3_0 3 rfl rfl)
theorem dJ0_fill_3_4 : decode cJ0_fill_3 4 = .ok (.invokestatic 13, 3) := dk_184 0 13 (dk_at dksJ0_fill_3_0 4 rfl rfl)
theorem dJ0_fill_3_7 : decode cJ0_fill_3 7 = .ok (.iload_n 1, 1) := dk_27 (dk_at dksJ0_fill_3_0 7 rfl rfl)
theorem dJ0_fill_3_8 : decode cJ0_fill_3 8 = .ok (.istore 4, 2) := dk_54 4 (dk_at dksJ0_fill_3_0 8 rfl rfl)
theorem dJ0_fill_3_10 : decode cJ0_fill_3 10 = .ok (.iload 4, 2) := dk_21 4 (dk_at dksJ0_fill_3_0 10 rfl rfl)
theorem dJ0_fill_3_12 : decode cJ0_fill_3 12 = .ok (.iload_n 2, 1) := dk_28 (dk_at dksJ0_fill_3_0 12 rfl rfl)
theorem dJ0_fill_3_13 : decode cJ0_fill_3 13 = .ok (.if_icmp .ge 14, 3) := dk_162 0 14 (dk_at dksJ0_fill_3_0 13 rfl rfl)
theorem dJ0_fill_3_16 : decode cJ0_fill_3 16 = .ok (.aload_n 0, 1) := dk_42 (dk_at dksJ0_fill_3_0 16 rfl rfl)
theorem dJ0_fill_3_17 : decode cJ0_fill_3 17 = .ok (.iload 4, 2) := dk_21 4 (dk_at dksJ0_fill_3_0 17 rfl rfl)
theorem dJ0_fill_3_19 : decode cJ0_fill_3 19 = .ok (.iload_n 3, 1) := dk_29 (dk_at dksJ0_fill_3_0 19 rfl rfl)
theorem dJ0_fill_3_20 : decode cJ0_fill_3 20 = .ok (.bastore, 1) := dk_84 (dk_at dksJ0_fill_3_0 20 rfl rfl)
theorem dJ0_fill_3_21 : decode cJ0_fill_3 21 = .ok (.iinc 4 1, 3) := dk_132 4 1 (dk_at dksJ0_fill_3_0 21 rfl rfl)
theorem dJ0_fill_3_24 : decode cJ0_fill_3 24 = .ok (.goto (-14), 3) := dk_167 255 242 (dk_at dksJ0_fill_3_1 0 rfl rfl)
theorem dJ0_fill_3_27 : decode cJ0_fill_3 27 = .ok (.return_, 1) := dk_177 (dk_at dksJ0_fill_3_1 3 rfl rfl)
abbrev cJ0_rangeCheck : ByteArray := prog_22_method_30_code
def yJ0_rangeCheck : MethodName := ⟨RJ0, "rangeCheck", "(III)V"⟩
def dkwJ0_rangeCheck_3 : List UInt8 := [183, 0, 70, 191, 177]
abbrev dktJ0_rangeCheck_3 : List UInt8 := dkwJ0_rangeCheck_3 ++ []
def dkwJ0_rangeCheck_2 : List UInt8 := [27, 156, 0, 12, 187, 0, 68, 89, 27, 183, 0, 70, 191, 28, 26, 164, 0, 12, 187, 0, 68, 89, 28]
abbrev dktJ0_rangeCheck_2 : List UInt8 := dkwJ0_rangeCheck_2 ++ dktJ0_rangeCheck_3
def dkwJ0_rangeCheck_1 : List UInt8 := [182, 0, 54, 18, 57, 182, 0, 50, 28, 182, 0, 54, 18, 59, 182, 0, 50, 182, 0, 61, 183, 0, 65, 191]
abbrev dktJ0_rangeCheck_1 : List UInt8 := dkwJ0_rangeCheck_1 ++ dktJ0_rangeCheck_2
def dkwJ0_rangeCheck_0 : List UInt8 := [27, 28, 164, 0, 44, 187, 0, 43, 89, 187, 0, 45, 89, 183, 0, 47, 18, 48, 182, 0, 50, 27]
abbrev dktJ0_rangeCheck_0 : List UInt8 := dkwJ0_rangeCheck_0 ++ dktJ0_rangeCheck_1
theorem dksJ0_rangeCheck_0 : cJ0_rangeCheck.data.toList.drop 0 = dktJ0_rangeCheck_0 := by decide +kernel
theorem dksJ0_rangeCheck_1 : cJ0_rangeCheck.data.toList.drop 22 = dktJ0_rangeCheck_1 := dk_seg dksJ0_rangeCheck_0 22 rfl rfl
theorem dksJ0_rangeCheck_2 : cJ0_rangeCheck.data.toList.drop 46 = dktJ0_rangeCheck_2 := dk_seg dksJ0_rangeCheck_1 24 rfl rfl
theorem dksJ0_rangeCheck_3 : cJ0_rangeCheck.data.toList.drop 69 = dktJ0_rangeCheck_3 := dk_seg dksJ0_rangeCheck_2 23 rfl rfl
theorem dJ0_rangeCheck_0 : decode cJ0_rangeCheck 0 = .ok (.iload_n 1, 1) := dk_27 (dk_at dksJ0_rangeCheck_0 0 rfl rfl)
theorem dJ0_rangeCheck_1 : decode cJ0_rangeCheck 1 = .ok (.iload_n 2, 1) := dk_28 (dk_at dksJ0_rangeCheck_0 1 rfl rfl)
theorem dJ0_rangeCheck_2 : decode cJ0_rangeCheck 2 = .ok (.if_icmp .le 44, 3) := dk_164 0 44 (dk_at dksJ0_rangeCheck_0 2 rfl rfl)
theorem dJ0_rangeCheck_5 : decode cJ0_rangeCheck 5 = .ok (.new 43, 3) := dk_187 0 43 (dk_at dksJ0_rangeCheck_0 5 rfl rfl)
theorem dJ0_rangeCheck_8 : decode cJ0_rangeCheck 8 = .ok (.dup, 1) := dk_89 (dk_at dksJ0_rangeCheck_0 8 rfl rfl)
theorem dJ0_rangeCheck_9 : decode cJ0_rangeCheck 9 = .ok (.new 45, 3) := dk_187 0 45 (dk_at dksJ0_rangeCheck_0 9 rfl rfl)
theorem dJ0_rangeCheck_12 : decode cJ0_rangeCheck 12 = .ok (.dup, 1) := dk_89 (dk_at dksJ0_rangeCheck_0 12 rfl rfl)
theorem dJ0_rangeCheck_13 : decode cJ0_rangeCheck 13 = .ok (.invokespecial 47, 3) := dk_183 0 47 (dk_at dksJ0_rangeCheck_0 13 rfl rfl)
theorem dJ0_rangeCheck_16 : decode cJ0_rangeCheck 16 = .ok (.ldc 48, 2) := dk_18 48 (dk_at dksJ0_rangeCheck_0 16 rfl rfl)
theorem dJ0_rangeCheck_18 : decode cJ0_rangeCheck 18 = .ok (.invokevirtual 50, 3) := dk_182 0 50 (dk_at dksJ0_rangeCheck_0 18 rfl rfl)
theorem dJ0_rangeCheck_21 : decode cJ0_rangeCheck 21 = .ok (.iload_n 1, 1) := dk_27 (dk_at dksJ0_rangeCheck_0 21 rfl rfl)
theorem dJ0_rangeCheck_22 : decode cJ0_rangeCheck 22 = .ok (.invokevirtual 54, 3) := dk_182 0 54 (dk_at dksJ0_rangeCheck_1 0 rfl rfl)
theorem dJ0_rangeCheck_25 : decode cJ0_rangeCheck 25 = .ok (.ldc 57, 2) := dk_18 57 (dk_at dksJ0_rangeCheck_1 3 rfl rfl)
theorem dJ0_rangeCheck_27 : decode cJ0_rangeCheck 27 = .ok (.invokevirtual 50, 3) := dk_182 0 50 (dk_at dksJ0_rangeCheck_1 5 rfl rfl)
theorem dJ0_rangeCheck_30 : decode cJ0_rangeCheck 30 = .ok (.iload_n 2, 1) := dk_28 (dk_at dksJ0_rangeCheck_1 8 rfl rfl)
theorem dJ0_rangeCheck_31 : decode cJ0_rangeCheck 31 = .ok (.invokevirtual 54, 3) := dk_182 0 54 (dk_at dksJ0_rangeCheck_1 9 rfl rfl)
theorem dJ0_rangeCheck_34 : decode cJ0_rangeCheck 34 = .ok (.ldc 59, 2) := dk_18 59 (dk_at dksJ0_rangeCheck_1 12 rfl rfl)
theorem dJ0_rangeCheck_36 : decode cJ0_rangeCheck 36 = .ok (.invokevirtual 50, 3) := dk_182 0 50 (dk_at dksJ0_rangeCheck_1 14 rfl rfl)
theorem dJ0_rangeCheck_39 : decode cJ0_rangeCheck 39 = .ok (.invokevirtual 61, 3) := dk_182 0 61 (dk_at dksJ0_rangeCheck_1 17 rfl rfl)
theorem dJ0_rangeCheck_42 : decode cJ0_rangeCheck 42 = .ok (.invokespecial 65, 3) := dk_183 0 65 (dk_at dksJ0_rangeCheck_1 20 rfl rfl)
theorem dJ0_rangeCheck_45 : decode cJ0_rangeCheck 45 = .ok (.athrow, 1) := dk_191 (dk_at dksJ0_rangeCheck_1 23 rfl rfl)
theorem dJ0_rangeCheck_46 : decode cJ0_rangeCheck 46 = .ok (.iload_n 1, 1) := dk_27 (dk_at dksJ0_rangeCheck_2 0 rfl rfl)
theorem dJ0_rangeCheck_47 : decode cJ0_rangeCheck 47 = .ok (.ifCond .ge 12, 3) := dk_156 0 12 (dk_at dksJ0_rangeCheck_2 1 rfl rfl)
theorem dJ0_rangeCheck_50 : decode cJ0_rangeCheck 50 = .ok (.new 68, 3) := dk_187 0 68 (dk_at dksJ0_rangeCheck_2 4 rfl rfl)
theorem dJ0_rangeCheck_53 : decode cJ0_rangeCheck 53 = .ok (.dup, 1) := dk_89 (dk_at dksJ0_rangeCheck_2 7 rfl rfl)
theorem dJ0_rangeCheck_54 : decode cJ0_rangeCheck 54 = .ok (.iload_n 1, 1) := dk_27 (dk_at dksJ0_rangeCheck_2 8 rfl rfl)
theorem dJ0_rangeCheck_55 : decode cJ0_rangeCheck 55 = .ok (.invokespecial 70, 3) := dk_183 0 70 (dk_at dksJ0_rangeCheck_2 9 rfl rfl)
theorem dJ0_rangeCheck_58 : decode cJ0_rangeCheck 58 = .ok (.athrow, 1) := dk_191 (dk_at dksJ0_rangeCheck_2 12 rfl rfl)
theorem dJ0_rangeCheck_59 : decode cJ0_rangeCheck 59 = .ok (.iload_n 2, 1) := dk_28 (dk_at dksJ0_rangeCheck_2 13 rfl rfl)
theorem dJ0_rangeCheck_60 : decode cJ0_rangeCheck 60 = .ok (.iload_n 0, 1) := dk_26 (dk_at dksJ0_rangeCheck_2 14 rfl rfl)
theorem dJ0_rangeCheck_61 : decode cJ0_rangeCheck 61 = .ok (.if_icmp .le 12, 3) := dk_164 0 12 (dk_at dksJ0_rangeCheck_2 15 rfl rfl)
theorem dJ0_rangeCheck_64 : decode cJ0_rangeCheck 64 = .ok (.new 68, 3) := dk_187 0 68 (dk_at dksJ0_rangeCheck_2 18 rfl rfl)
theorem dJ0_rangeCheck_67 : decode cJ0_rangeCheck 67 = .ok (.dup, 1) := dk_89 (dk_at dksJ0_rangeCheck_2 21 rfl rfl)
theorem dJ0_rangeCheck_68 : decode cJ0_rangeCheck 68 = .ok (.iload_n 2, 1) := dk_28 (dk_at dksJ0_rangeCheck_2 22 rfl rfl)
theorem dJ0_rangeCheck_69 : decode cJ0_rangeCheck 69 = .ok (.invokespecial 70, 3) := dk_183 0 70 (dk_at dksJ0_rangeCheck_3 0 rfl rfl)
theorem dJ0_rangeCheck_72 : decode cJ0_rangeCheck 72 = .ok (.athrow, 1) := dk_191 (dk_at dksJ0_rangeCheck_3 3 rfl rfl)
theorem dJ0_rangeCheck_73 : decode cJ0_rangeCheck 73 = .ok (.return_, 1) := dk_177 (dk_at dksJ0_rangeCheck_3 4 rfl rfl)
abbrev cJ0_fill_4 : ByteArray := prog_22_method_104_code
def yJ0_fill_4 : MethodName := ⟨RJ0, "fill", "([IIII)V"⟩
def dkwJ0_fill_4_1 : List UInt8 := [167, 255, 242, 177]
abbrev dktJ0_fill_4_1 : List UInt8 := dkwJ0_fill_4_1 ++ []
def dkwJ0_fill_4_0 : List UInt8 := [42, 190, 27, 28, 184, 0, 13, 27, 54, 4, 21, 4, 28, 162, 0, 14, 42, 21, 4, 29, 79, 132, 4, 1]
abbrev dktJ0_fill_4_0 : List UInt8 := dkwJ0_fill_4_0 ++ dktJ0_fill_4_1
theorem dksJ0_fill_4_0 : cJ0_fill_4.data.toList.drop 0 = dktJ0_fill_4_0 := by decide +kernel
theorem dksJ0_fill_4_1 : cJ0_fill_4.data.toList.drop 24 = dktJ0_fill_4_1 := dk_seg dksJ0_fill_4_0 24 rfl rfl
theorem dJ0_fill_4_0 : decode cJ0_fill_4 0 = .ok (.aload_n 0, 1) := dk_42 (dk_at dksJ0_fill_4_0 0 rfl rfl)
theorem dJ0_fill_4_1 : decode cJ0_fill_4 1 = .ok (.arraylength, 1) := dk_190 (dk_at dksJ0_fill_4_0 1 rfl rfl)
theorem dJ0_fill_4_2 : decode cJ0_fill_4 2 = .ok (.iload_n 1, 1) := dk_27 (dk_at dksJ0_fill_4_0 2 rfl rfl)
theorem dJ0_fill_4_3 : decode cJ0_fill_4 3 = .ok (.iload_n 2, 1) := dk_28 (dk_at dksJ0_fill_4_0 3 rfl rfl)
theorem dJ0_fill_4_4 : decode cJ0_fill_4 4 = .ok (.invokestatic 13, 3) := dk_184 0 13 (dk_at dksJ0_fill_4_0 4 rfl rfl)
theorem dJ0_fill_4_7 : decode cJ0_fill_4 7 = .ok (.iload_n 1, 1) := dk_27 (dk_at dksJ0_fill_4_0 7 rfl rfl)
theorem dJ0_fill_4_8 : decode cJ0_fill_4 8 = .ok (.istore 4, 2) := dk_54 4 (dk_at dksJ0_fill_4_0 8 rfl rfl)
theorem dJ0_fill_4_10 : decode cJ0_fill_4 10 = .ok (.iload 4, 2) := dk_21 4 (dk_at dksJ0_fill_4_0 10 rfl rfl)
theorem dJ0_fill_4_12 : decode cJ0_fill_4 12 = .ok (.iload_n 2, 1) := dk_28 (dk_at dksJ0_fill_4_0 12 rfl rfl)
theorem dJ0_fill_4_13 : decode cJ0_fill_4 13 = .ok (.if_icmp .ge 14, 3) := dk_162 0 14 (dk_at dksJ0_fill_4_0 13 rfl rfl)
theorem dJ0_fill_4_16 : decode cJ0_fill_4 16 = .ok (.aload_n 0, 1) := dk_42 (dk_at dksJ0_fill_4_0 16 rfl rfl)
theorem dJ0_fill_4_17 : decode cJ0_fill_4 17 = .ok (.iload 4, 2) := dk_21 4 (dk_at dksJ0_fill_4_0 17 rfl rfl)
theorem dJ0_fill_4_19 : decode cJ0_fill_4 19 = .ok (.iload_n 3, 1) := dk_29 (dk_at dksJ0_fill_4_0 19 rfl rfl)
theorem dJ0_fill_4_20 : decode cJ0_fill_4 20 = .ok (.iastore, 1) := dk_79 (dk_at dksJ0_fill_4_0 20 rfl rfl)
theorem dJ0_fill_4_21 : decode cJ0_fill_4 21 = .ok (.iinc 4 1, 3) := dk_132 4 1 (dk_at dksJ0_fill_4_0 21 rfl rfl)
theorem dJ0_fill_4_24 : decode cJ0_fill_4 24 = .ok (.goto (-14), 3) := dk_167 255 242 (dk_at dksJ0_fill_4_1 0 rfl rfl)
theorem dJ0_fill_4_27 : decode cJ0_fill_4 27 = .ok (.return_, 1) := dk_177 (dk_at dksJ0_fill_4_1 3 rfl rfl)
abbrev cJ0_fill_5 : ByteArray := prog_22_method_112_code
def yJ0_fill_5 : MethodName := ⟨RJ0, "fill", "([ZIIZ)V"⟩
def dkwJ0_fill_5_1 : List UInt8 := [167, 255, 242, 177]
abbrev dktJ0_fill_5_1 : List UInt8 := dkwJ0_fill_5_1 ++ []
def dkwJ0_fill_5_0 : List UInt8 := [42, 190, 27, 28, 184, 0, 13, 27, 54, 4, 21, 4, 28, 162, 0, 14, 42, 21, 4, 29, 84, 132, 4, 1]
abbrev dktJ0_fill_5_0 : List UInt8 := dkwJ0_fill_5_0 ++ dktJ0_fill_5_1
theorem dksJ0_fill_5_0 : cJ0_fill_5.data.toList.drop 0 = dktJ0_fill_5_0 := by decide +kernel
theorem dksJ0_fill_5_1 : cJ0_fill_5.data.toList.drop 24 = dktJ0_fill_5_1 := dk_seg dksJ0_fill_5_0 24 rfl rfl
theorem dJ0_fill_5_0 : decode cJ0_fill_5 0 = .ok (.aload_n 0, 1) := dk_42 (dk_at dksJ0_fill_5_0 0 rfl rfl)
theorem dJ0_fill_5_1 : decode cJ0_fill_5 1 = .ok (.arraylength, 1) := dk_190 (dk_at dksJ0_fill_5_0 1 rfl rfl)
theorem dJ0_fill_5_2 : decode cJ0_fill_5 2 = .ok (.iload_n 1, 1) := dk_27 (dk_at dksJ0_fill_5_0 2 rfl rfl)
theorem dJ0_fill_5_3 : decode cJ0_fill_5 3 = .ok (.iload_n 2, 1) := dk_28 (dk_at dksJ0_fill_5_0 3 rfl rfl)
theorem dJ0_fill_5_4 : decode cJ0_fill_5 4 = .ok (.invokestatic 13, 3) := dk_184 0 13 (dk_at dksJ0_fill_5_0 4 rfl rfl)
theorem dJ0_fill_5_7 : decode cJ0_fill_5 7 = .ok (.iload_n 1, 1) := dk_27 (dk_at dksJ0_fill_5_0 7 rfl rfl)
theorem dJ0_fill_5_8 : decode cJ0_fill_5 8 = .ok (.istore 4, 2) := dk_54 4 (dk_at dksJ0_fill_5_0 8 rfl rfl)
theorem dJ0_fill_5_10 : decode cJ0_fill_5 10 = .ok (.iload 4, 2) := dk_21 4 (dk_at dksJ0_fill_5_0 10 rfl rfl)
theorem dJ0_fill_5_12 : decode cJ0_fill_5 12 = .ok (.iload_n 2, 1) := dk_28 (dk_at dksJ0_fill_5_0 12 rfl rfl)
theorem dJ0_fill_5_13 : decode cJ0_fill_5 13 = .ok (.if_icmp .ge 14, 3) := dk_162 0 14 (dk_at dksJ0_fill_5_0 13 rfl rfl)
theorem dJ0_fill_5_16 : decode cJ0_fill_5 16 = .ok (.aload_n 0, 1) := dk_42 (dk_at dksJ0_fill_5_0 16 rfl rfl)
theorem dJ0_fill_5_17 : decode cJ0_fill_5 17 = .ok (.iload 4, 2) := dk_21 4 (dk_at dksJ0_fill_5_0 17 rfl rfl)
theorem dJ0_fill_5_19 : decode cJ0_fill_5 19 = .ok (.iload_n 3, 1) := dk_29 (dk_at dksJ0_fill_5_0 19 rfl rfl)
theorem dJ0_fill_5_20 : decode cJ0_fill_5 20 = .ok (.bastore, 1) := dk_84 (dk_at dksJ0_fill_5_0 20 rfl rfl)
theorem dJ0_fill_5_21 : decode cJ0_fill_5 21 = .ok (.iinc 4 1, 3) := dk_132 4 1 (dk_at dksJ0_fill_5_0 21 rfl rfl)
theorem dJ0_fill_5_24 : decode cJ0_fill_5 24 = .ok (.goto (-14), 3) := dk_167 255 242 (dk_at dksJ0_fill_5_1 0 rfl rfl)
theorem dJ0_fill_5_27 : decode cJ0_fill_5 27 = .ok (.return_, 1) := dk_177 (dk_at dksJ0_fill_5_1 3 rfl rfl)
abbrev cJ0_fill_6 : ByteArray := prog_22_method_111_code
def yJ0_fill_6 : MethodName := ⟨RJ0, "fill", "([ZZ)V"⟩
def dkwJ0_fill_6_0 : List UInt8 := [3, 61, 42, 190, 62, 28, 29, 162, 0, 13, 42, 28, 27, 84, 132, 2, 1, 167, 255, 244, 177]
abbrev dktJ0_fill_6_0 : List UInt8 := dkwJ0_fill_6_0 ++ []
theorem dksJ0_fill_6_0 : cJ0_fill_6.data.toList.drop 0 = dktJ0_fill_6_0 := by decide +kernel
theorem dJ0_fill_6_0 : decode cJ0_fill_6 0 = .ok (.iconst 0, 1) := dk_3 (dk_at dksJ0_fill_6_0 0 rfl rfl)
theorem dJ0_fill_6_1 : decode cJ0_fill_6 1 = .ok (.istore_n 2, 1) := dk_61 (dk_at dksJ0_fill_6_0 1 rfl rfl)
theorem dJ0_fill_6_2 : decode cJ0_fill_6 2 = .ok (.aload_n 0, 1) := dk_42 (dk_at dksJ0_fill_6_0 2 rfl rfl)
theorem dJ0_fill_6_3 : decode cJ0_fill_6 3 = .ok (.arraylength, 1) := dk_190 (dk_at dksJ0_fill_6_0 3 rfl rfl)
theorem dJ0_fill_6_4 : decode cJ0_fill_6 4 = .ok (.istore_n 3, 1) := dk_62 (dk_at dksJ0_fill_6_0 4 rfl rfl)
theorem dJ0_fill_6_5 : decode cJ0_fill_6 5 = .ok (.iload_n 2, 1) := dk_28 (dk_at dksJ0_fill_6_0 5 rfl rfl)
theorem dJ0_fill_6_6 : decode cJ0_fill_6 6 = .ok (.iload_n 3, 1) := dk_29 (dk_at dksJ0_fill_6_0 6 rfl rfl)
theorem dJ0_fill_6_7 : decode cJ0_fill_6 7 = .ok (.if_icmp .ge 13, 3) := dk_162 0 13 (dk_at dksJ0_fill_6_0 7 rfl rfl)
theorem dJ0_fill_6_10 : decode cJ0_fill_6 10 = .ok (.aload_n 0, 1) := dk_42 (dk_at dksJ0_fill_6_0 10 rfl rfl)
theorem dJ0_fill_6_11 : decode cJ0_fill_6 11 = .ok (.iload_n 2, 1) := dk_28 (dk_at dksJ0_fill_6_0 11 rfl rfl)
theorem dJ0_fill_6_12 : decode cJ0_fill_6 12 = .ok (.iload_n 1, 1) := dk_27 (dk_at dksJ0_fill_6_0 12 rfl rfl)
theorem dJ0_fill_6_13 : decode cJ0_fill_6 13 = .ok (.bastore, 1) := dk_84 (dk_at dksJ0_fill_6_0 13 rfl rfl)
theorem dJ0_fill_6_14 : decode cJ0_fill_6 14 = .ok (.iinc 2 1, 3) := dk_132 2 1 (dk_at dksJ0_fill_6_0 14 rfl rfl)
theorem dJ0_fill_6_17 : decode cJ0_fill_6 17 = .ok (.goto (-12), 3) := dk_167 255 244 (dk_at dksJ0_fill_6_0 17 rfl rfl)
theorem dJ0_fill_6_20 : decode cJ0_fill_6 20 = .ok (.return_, 1) := dk_177 (dk_at dksJ0_fill_6_0 20 rfl rfl)
theorem q135 : (Jvm.Cond.initialized "java/util/Arrays") ∈ lw_all := lw_g (lw_at lw_m1 5 rfl) rfl
theorem q218 : (Jvm.Cond.static ({ cls := "java/util/Arrays", name := "fill", desc := "([BB)V" } : Jvm.MethodName)) ∈ lw_all := lw_g (lw_at lw_m1 88 rfl) rfl
theorem q219 : (Jvm.Cond.code ({ cls := "java/util/Arrays", name := "fill", desc := "([BB)V" } : Jvm.MethodName) prog_22_method_109_code (4 : Nat) (Option.none : Option Jvm.ClassFile.FieldType)) ∈ lw_all := lw_g (lw_at lw_m1 89 rfl) rfl
theorem q653 : (Jvm.Cond.static ({ cls := "java/util/Arrays", name := "fill", desc := "([II)V" } : Jvm.MethodName)) ∈ lw_all := lw_g (lw_at lw_m3 43 rfl) rfl
theorem q654 : (Jvm.Cond.code ({ cls := "java/util/Arrays", name := "fill", desc := "([II)V" } : Jvm.MethodName) prog_22_method_103_code (4 : Nat) (Option.none : Option Jvm.ClassFile.FieldType)) ∈ lw_all := lw_g (lw_at lw_m3 44 rfl) rfl
theorem q668 : (Jvm.Cond.static ({ cls := "java/util/Arrays", name := "fill", desc := "([BIIB)V" } : Jvm.MethodName)) ∈ lw_all := lw_g (lw_at lw_m3 58 rfl) rfl
theorem q669 : (Jvm.Cond.code ({ cls := "java/util/Arrays", name := "fill", desc := "([BIIB)V" } : Jvm.MethodName) prog_22_method_110_code (5 : Nat) (Option.none : Option Jvm.ClassFile.FieldType)) ∈ lw_all := lw_g (lw_at lw_m3 59 rfl) rfl
theorem q670 : (Jvm.Cond.methodLink "java/util/Arrays" (13 : Nat) ({ cls := "java/util/Arrays", name := "rangeCheck", desc := "(III)V" } : Jvm.MethodName)) ∈ lw_all := lw_g (lw_at lw_m3 60 rfl) rfl
theorem q671 : (Jvm.Cond.static ({ cls := "java/util/Arrays", name := "rangeCheck", desc := "(III)V" } : Jvm.MethodName)) ∈ lw_all := lw_g (lw_at lw_m3 61 rfl) rfl
theorem q672 : (Jvm.Cond.code ({ cls := "java/util/Arrays", name := "rangeCheck", desc := "(III)V" } : Jvm.MethodName) prog_22_method_30_code (3 : Nat) (Option.none : Option Jvm.ClassFile.FieldType)) ∈ lw_all := lw_g (lw_at lw_m3 62 rfl) rfl
theorem q674 : (Jvm.Cond.static ({ cls := "java/util/Arrays", name := "fill", desc := "([IIII)V" } : Jvm.MethodName)) ∈ lw_all := lw_g (lw_at lw_m3 64 rfl) rfl
theorem q675 : (Jvm.Cond.code ({ cls := "java/util/Arrays", name := "fill", desc := "([IIII)V" } : Jvm.MethodName) prog_22_method_104_code (5 : Nat) (Option.none : Option Jvm.ClassFile.FieldType)) ∈ lw_all := lw_g (lw_at lw_m3 65 rfl) rfl
theorem q677 : (Jvm.Cond.static ({ cls := "java/util/Arrays", name := "fill", desc := "([ZIIZ)V" } : Jvm.MethodName)) ∈ lw_all := lw_g (lw_at lw_m3 67 rfl) rfl
theorem q678 : (Jvm.Cond.code ({ cls := "java/util/Arrays", name := "fill", desc := "([ZIIZ)V" } : Jvm.MethodName) prog_22_method_112_code (5 : Nat) (Option.none : Option Jvm.ClassFile.FieldType)) ∈ lw_all := lw_g (lw_at lw_m3 68 rfl) rfl
theorem q718 : (Jvm.Cond.static ({ cls := "java/util/Arrays", name := "fill", desc := "([ZZ)V" } : Jvm.MethodName)) ∈ lw_all := lw_g (lw_at lw_m3 108 rfl) rfl
theorem q719 : (Jvm.Cond.code ({ cls := "java/util/Arrays", name := "fill", desc := "([ZZ)V" } : Jvm.MethodName) prog_22_method_111_code (4 : Nat) (Option.none : Option Jvm.ClassFile.FieldType)) ∈ lw_all := lw_g (lw_at lw_m3 109 rfl) rfl
/-! java/lang/Long -/
set_option maxRecDepth 100000
def RJ5 : String := "java/lang/Long"
abbrev cJ5_compareUnsigned : ByteArray := prog_15_method_43_code
def yJ5_compareUnsigned : MethodName := ⟨RJ5, "compareUnsigned", "(JJ)I"⟩
def dkwJ5_compareUnsigned_0 : List UInt8 := [30, 20, 0, 168, 97, 32, 20, 0, 168, 97, 184, 1, 46, 172]
abbrev dktJ5_compareUnsigned_0 : List UInt8 := dkwJ5_compareUnsigned_0 ++ []
theorem dksJ5_compareUnsigned_0 : cJ5_compareUnsigned.data.toList.drop 0 = dktJ5_compareUnsigned_0 := by decide +kernel
theorem dJ5_compareUnsigned_0 : decode cJ5_compareUnsigned 0 = .ok (.lload_n 0, 1) := dk_30 (dk_at dksJ5_compareUnsigned_0 0 rfl rfl)
theorem dJ5_compareUnsigned_1 : decode cJ5_compareUnsigned 1 = .ok (.ldc2_w 168, 3) := dk_20 0 168 (dk_at dksJ5_compareUnsigned_0 1 rfl rfl)
theorem dJ5_compareUnsigned_4 : decode cJ5_compareUnsigned 4 = .ok (.ladd, 1) := dk_97 (dk_at dksJ5_compareUnsigned_0 4 rfl rfl)
theorem dJ5_compareUnsigned_5 : decode cJ5_compareUnsigned 5 = .ok (.lload_n 2, 1) := dk_32 (dk_at dksJ5_compareUnsigned_0 5 rfl rfl)
theorem dJ5_compareUnsigned_6 : decode cJ5_compareUnsigned 6 = .ok (.ldc2_w 168, 3) := dk_20 0 168 (dk_at dksJ5_compareUnsigned_0 6 rfl rfl)
theorem dJ5_compareUnsigned_9 : decode cJ5_compareUnsigned 9 = .ok (.ladd, 1) := dk_97 (dk_at dksJ5_compareUnsigned_0 9 rfl rfl)
theorem dJ5_compareUnsigned_10 : decode cJ5_compareUnsigned 10 = .ok (.invokestatic 302, 3) := dk_184 1 46 (dk_at dksJ5_compareUnsigned_0 10 rfl rfl)
theorem dJ5_compareUnsigned_13 : decode cJ5_compareUnsigned 13 = .ok (.ireturn, 1) := dk_172 (dk_at dksJ5_compareUnsigned_0 13 rfl rfl)
abbrev cJ5_compare : ByteArray := prog_15_method_42_code
def yJ5_compare : MethodName := ⟨RJ5, "compare", "(JJ)I"⟩
def dkwJ5_compare_0 : List UInt8 := [30, 32, 148, 156, 0, 7, 2, 167, 0, 14, 30, 32, 148, 154, 0, 7, 3, 167, 0, 4, 4, 172]
abbrev dktJ5_compare_0 : List UInt8 := dkwJ5_compare_0 ++ []
theorem dksJ5_compare_0 : cJ5_compare.data.toList.drop 0 = dktJ5_compare_0 := by decide +kernel
theorem dJ5_compare_0 : decode cJ5_compare 0 = .ok (.lload_n 0, 1) := dk_30 (dk_at dksJ5_compare_0 0 rfl rfl)
theorem dJ5_compare_1 : decode cJ5_compare 1 = .ok (.lload_n 2, 1) := dk_32 (dk_at dksJ5_compare_0 1 rfl rfl)
theorem dJ5_compare_2 : decode cJ5_compare 2 = .ok (.lcmp, 1) := dk_148 (dk_at dksJ5_compare_0 2 rfl rfl)
theorem dJ5_compare_3 : decode cJ5_compare 3 = .ok (.ifCond .ge 7, 3) := dk_156 0 7 (dk_at dksJ5_compare_0 3 rfl rfl)
theorem dJ5_compare_6 : decode cJ5_compare 6 = .ok (.iconst (-1), 1) := dk_2 (dk_at dksJ5_compare_0 6 rfl rfl)
theorem dJ5_compare_7 : decode cJ5_compare 7 = .ok (.goto 14, 3) := dk_167 0 14 (dk_at dksJ5_compare_0 7 rfl rfl)
theorem dJ5_compare_10 : decode cJ5_compare 10 = .ok (.lload_n 0, 1) := dk_30 (dk_at dksJ5_compare_0 10 rfl rfl)
theorem dJ5_compare_11 : decode cJ5_compare 11 = .ok (.lload_n 2, 1) := dk_32 (dk_at dksJ5_compare_0 11 rfl rfl)
theorem dJ5_compare_12 : decode cJ5_compare 12 = .ok (.lcmp, 1) := dk_148 (dk_at dksJ5_compare_0 12 rfl rfl)
theorem dJ5_compare_13 : decode cJ5_compare 13 = .ok (.ifCond .ne 7, 3) := dk_154 0 7 (dk_at dksJ5_compare_0 13 rfl rfl)
theorem dJ5_compare_16 : decode cJ5_compare 16 = .ok (.iconst 0, 1) := dk_3 (dk_at dksJ5_compare_0 16 rfl rfl)
theorem dJ5_compare_17 : decode cJ5_compare 17 = .ok (.goto 4, 3) := dk_167 0 4 (dk_at dksJ5_compare_0 17 rfl rfl)
theorem dJ5_compare_20 : decode cJ5_compare 20 = .ok (.iconst 1, 1) := dk_4 (dk_at dksJ5_compare_0 20 rfl rfl)
theorem dJ5_compare_21 : decode cJ5_compare 21 = .ok (.ireturn, 1) := dk_172 (dk_at dksJ5_compare_0 21 rfl rfl)
abbrev cJ5_reverseBytes : ByteArray := prog_15_method_58_code
def yJ5_reverseBytes : MethodName := ⟨RJ5, "reverseBytes", "(J)J"⟩
def dkwJ5_reverseBytes_1 : List UInt8 := [20, 1, 73, 127, 16, 16, 121, 129, 30, 16, 16, 125, 20, 1, 73, 127, 129, 30, 16, 48, 125, 129, 173]
abbrev dktJ5_reverseBytes_1 : List UInt8 := dkwJ5_reverseBytes_1 ++ []
def dkwJ5_reverseBytes_0 : List UInt8 := [30, 20, 1, 71, 127, 16, 8, 121, 30, 16, 8, 125, 20, 1, 71, 127, 129, 63, 30, 16, 48, 121, 30]
abbrev dktJ5_reverseBytes_0 : List UInt8 := dkwJ5_reverseBytes_0 ++ dktJ5_reverseBytes_1
theorem dksJ5_reverseBytes_0 : cJ5_reverseBytes.data.toList.drop 0 = dktJ5_reverseBytes_0 := by decide +kernel
theorem dksJ5_reverseBytes_1 : cJ5_reverseBytes.data.toList.drop 23 = dktJ5_reverseBytes_1 := dk_seg dksJ5_reverseBytes_0 23 rfl rfl
theorem dJ5_reverseBytes_0 : decode cJ5_reverseBytes 0 = .ok (.lload_n 0, 1) := dk_30 (dk_at dksJ5_reverseBytes_0 0 rfl rfl)
theorem dJ5_reverseBytes_1 : decode cJ5_reverseBytes 1 = .ok (.ldc2_w 327, 3) := dk_20 1 71 (dk_at dksJ5_reverseBytes_0 1 rfl rfl)
theorem dJ5_reverseBytes_4 : decode cJ5_reverseBytes 4 = .ok (.land, 1) := dk_127 (dk_at dksJ5_reverseBytes_0 4 rfl rfl)
theorem dJ5_reverseBytes_5 : decode cJ5_reverseBytes 5 = .ok (.bipush 8, 2) := dk_16 8 (dk_at dksJ5_reverseBytes_0 5 rfl rfl)
theorem dJ5_reverseBytes_7 : decode cJ5_reverseBytes 7 = .ok (.lshl, 1) := dk_121 (dk_at dksJ5_reverseBytes_0 7 rfl rfl)
theorem dJ5_reverseBytes_8 : decode cJ5_reverseBytes 8 = .ok (.lload_n 0, 1) := dk_30 (dk_at dksJ5_reverseBytes_0 8 rfl rfl)
theorem dJ5_reverseBytes_9 : decode cJ5_reverseBytes 9 = .ok (.bipush 8, 2) := dk_16 8 (dk_at dksJ5_reverseBytes_0 9 rfl rfl)
theorem dJ5_reverseBytes_11 : decode cJ5_reverseBytes 11 = .ok (.lushr, 1) := dk_125 (dk_at dksJ5_reverseBytes_0 11 rfl rfl)
theorem dJ5_reverseBytes_12 : decode cJ5_reverseBytes 12 = .ok (.ldc2_w 327, 3) := dk_20 1 71 (dk_at dksJ5_reverseBytes_0 12 rfl rfl)
theorem dJ5_reverseBytes_15 : decode cJ5_reverseBytes 15 = .ok (.land, 1) := dk_127 (dk_at dksJ5_reverseBytes_0 15 rfl rfl)
theorem dJ5_reverseBytes_16 : decode cJ5_reverseBytes 16 = .ok (.lor, 1) := dk_129 (dk_at dksJ5_reverseBytes_0 16 rfl rfl)
theorem dJ5_reverseBytes_17 : decode cJ5_reverseBytes 17 = .ok (.lstore_n 0, 1) := dk_63 (dk_at dksJ5_reverseBytes_0 17 rfl rfl)
theorem dJ5_reverseBytes_18 : decode cJ5_reverseBytes 18 = .ok (.lload_n 0, 1) := dk_30 (dk_at dksJ5_reverseBytes_0 18 rfl rfl)
theorem dJ5_reverseBytes_19 : decode cJ5_reverseBytes 19 = .ok (.bipush 48, 2) := dk_16 48 (dk_at dksJ5_reverseBytes_0 19 rfl rfl)
theorem dJ5_reverseBytes_21 : decode cJ5_reverseBytes 21 = .ok (.lshl, 1) := dk_121 (dk_at dksJ5_reverseBytes_0 21 rfl rfl)
theorem dJ5_reverseBytes_22 : decode cJ5_reverseBytes 22 = .ok (.lload_n 0, 1) := dk_30 (dk_at dksJ5_reverseBytes_0 22 rfl rfl)
theorem dJ5_reverseBytes_23 : decode cJ5_reverseBytes 23 = .ok (.ldc2_w 329, 3) := dk_20 1 73 (dk_at dksJ5_reverseBytes_1 0 rfl rfl)
theorem dJ5_reverseBytes_26 : decode cJ5_reverseBytes 26 = .ok (.land, 1) := dk_127 (dk_at dksJ5_reverseBytes_1 3 rfl rfl)
theorem dJ5_reverseBytes_27 : decode cJ5_reverseBytes 27 = .ok (.bipush 16, 2) := dk_16 16 (dk_at dksJ5_reverseBytes_1 4 rfl rfl)
theorem dJ5_reverseBytes_29 : decode cJ5_reverseBytes 29 = .ok (.lshl, 1) := dk_121 (dk_at dksJ5_reverseBytes_1 6 rfl rfl)
theorem dJ5_reverseBytes_30 : decode cJ5_reverseBytes 30 = .ok (.lor, 1) := dk_129 (dk_at dksJ5_reverseBytes_1 7 rfl rfl)
theorem dJ5_reverseBytes_31 : decode cJ5_reverseBytes 31 = .ok (.lload_n 0, 1) := dk_30 (dk_at dksJ5_reverseBytes_1 8 rfl rfl)
theorem dJ5_reverseBytes_32 : decode cJ5_reverseBytes 32 = .ok (.bipush 16, 2) := dk_16 16 (dk_at dksJ5_reverseBytes_1 9 rfl rfl)
theorem dJ5_reverseBytes_34 : decode cJ5_reverseBytes 34 = .ok (.lushr, 1) := dk_125 (dk_at dksJ5_reverseBytes_1 11 rfl rfl)
theorem dJ5_reverseBytes_35 : decode cJ5_reverseBytes 35 = .ok (.ldc2_w 329, 3) := dk_20 1 73 (dk_at dksJ5_reverseBytes_1 12 rfl rfl)
theorem dJ5_reverseBytes_38 : decode cJ5_reverseBytes 38 = .ok (.land, 1) := dk_127 (dk_at dksJ5_reverseBytes_1 15 rfl rfl)
theorem dJ5_reverseBytes_39 : decode cJ5_reverseBytes 39 = .ok (.lor, 1) := dk_129 (dk_at dksJ5_reverseBytes_1 16 rfl rfl)
theorem dJ5_reverseBytes_40 : decode cJ5_reverseBytes 40 = .ok (.lload_n 0, 1) := dk_30 (dk_at dksJ5_reverseBytes_1 17 rfl rfl)
theorem dJ5_reverseBytes_41 : decode cJ5_reverseBytes 41 = .ok (.bipush 48, 2) := dk_16 48 (dk_at dksJ5_reverseBytes_1 18 rfl rfl)
theorem dJ5_reverseBytes_43 : decode cJ5_reverseBytes 43 = .ok (.lushr, 1) := dk_125 (dk_at dksJ5_reverseBytes_1 20 rfl rfl)
theorem dJ5_reverseBytes_44 : decode cJ5_reverseBytes 44 = .ok (.lor, 1) := dk_129 (dk_at dksJ5_reverseBytes_1 21 rfl rfl)
theorem dJ5_reverseBytes_45 : decode cJ5_reverseBytes 45 = .ok (.lreturn, 1) := dk_173 (dk_at dksJ5_reverseBytes_1 22 rfl rfl)
theorem q148 : (Jvm.Cond.initialized "java/lang/Long") ∈ lw_all := lw_g (lw_at lw_m1 18 rfl) rfl
theorem q917 : (Jvm.Cond.static ({ cls := "java/lang/Long", name := "compareUnsigned", desc := "(JJ)I" } : Jvm.MethodName)) ∈ lw_all := lw_g (lw_at lw_m4 67 rfl) rfl
theorem q918 : (Jvm.Cond.code ({ cls := "java/lang/Long", name := "compareUnsigned", desc := "(JJ)I" } : Jvm.MethodName) prog_15_method_43_code (4 : Nat) (Option.some Jvm.ClassFile.FieldType.int)) ∈ lw_all := lw_g (lw_at lw_m4 68 rfl) rfl
theorem q919 : (Jvm.Cond.constantLong "java/lang/Long" (168 : Nat) (-9223372036854775808 : Int64)) ∈ lw_all := lw_g (lw_at lw_m4 69 rfl) rfl
theorem q920 : (Jvm.Cond.methodLink "java/lang/Long" (302 : Nat) ({ cls := "java/lang/Long", name := "compare", desc := "(JJ)I" } : Jvm.MethodName)) ∈ lw_all := lw_g (lw_at lw_m4 70 rfl) rfl
theorem q921 : (Jvm.Cond.static ({ cls := "java/lang/Long", name := "compare", desc := "(JJ)I" } : Jvm.MethodName)) ∈ lw_all := lw_g (lw_at lw_m4 71 rfl) rfl
theorem q922 : (Jvm.Cond.code ({ cls := "java/lang/Long", name := "compare", desc := "(JJ)I" } : Jvm.MethodName) prog_15_method_42_code (4 : Nat) (Option.some Jvm.ClassFile.FieldType.int)) ∈ lw_all := lw_g (lw_at lw_m4 72 rfl) rfl
theorem q1324 : (Jvm.Cond.static ({ cls := "java/lang/Long", name := "reverseBytes", desc := "(J)J" } : Jvm.MethodName)) ∈ lw_all := lw_g (lw_at lw_m5 234 rfl) rfl
theorem q1325 : (Jvm.Cond.code ({ cls := "java/lang/Long", name := "reverseBytes", desc := "(J)J" } : Jvm.MethodName) prog_15_method_58_code (2 : Nat) (Option.some Jvm.ClassFile.FieldType.long)) ∈ lw_all := lw_g (lw_at lw_m5 235 rfl) rfl
theorem q1326 : (Jvm.Cond.constantLong "java/lang/Long" (327 : Nat) (71777214294589695 : Int64)) ∈ lw_all := lw_g (lw_at lw_m5 236 rfl) rfl
theorem q1327 : (Jvm.Cond.constantLong "java/lang/Long" (329 : Nat) (4294901760 : Int64)) ∈ lw_all := lw_g (lw_at lw_m5 237 rfl) rfl
/-! java/lang/Math -/
set_option maxRecDepth 100000
def RJ6 : String := "java/lang/Math"
abbrev cJ6_max : ByteArray := prog_16_method_65_code
def yJ6_max : MethodName := ⟨RJ6, "max", "(II)I"⟩
def dkwJ6_max_0 : List UInt8 := [26, 27, 161, 0, 7, 26, 167, 0, 4, 27, 172]
abbrev dktJ6_max_0 : List UInt8 := dkwJ6_max_0 ++ []
theorem dksJ6_max_0 : cJ6_max.data.toList.drop 0 = dktJ6_max_0 := by decide +kernel
theorem dJ6_max_0 : decode cJ6_max 0 = .ok (.iload_n 0, 1) := dk_26 (dk_at dksJ6_max_0 0 rfl rfl)
theorem dJ6_max_1 : decode cJ6_max 1 = .ok (.iload_n 1, 1) := dk_27 (dk_at dksJ6_max_0 1 rfl rfl)
theorem dJ6_max_2 : decode cJ6_max 2 = .ok (.if_icmp .lt 7, 3) := dk_161 0 7 (dk_at dksJ6_max_0 2 rfl rfl)
theorem dJ6_max_5 : decode cJ6_max 5 = .ok (.iload_n 0, 1) := dk_26 (dk_at dksJ6_max_0 5 rfl rfl)
theorem dJ6_max_6 : decode cJ6_max 6 = .ok (.goto 4, 3) := dk_167 0 4 (dk_at dksJ6_max_0 6 rfl rfl)
theorem dJ6_max_9 : decode cJ6_max 9 = .ok (.iload_n 1, 1) := dk_27 (dk_at dksJ6_max_0 9 rfl rfl)
theorem dJ6_max_10 : decode cJ6_max 10 = .ok (.ireturn, 1) := dk_172 (dk_at dksJ6_max_0 10 rfl rfl)
abbrev cJ6_min : ByteArray := prog_16_method_69_code
def yJ6_min : MethodName := ⟨RJ6, "min", "(II)I"⟩
def dkwJ6_min_0 : List UInt8 := [26, 27, 163, 0, 7, 26, 167, 0, 4, 27, 172]
abbrev dktJ6_min_0 : List UInt8 := dkwJ6_min_0 ++ []
theorem dksJ6_min_0 : cJ6_min.data.toList.drop 0 = dktJ6_min_0 := by decide +kernel
theorem dJ6_min_0 : decode cJ6_min 0 = .ok (.iload_n 0, 1) := dk_26 (dk_at dksJ6_min_0 0 rfl rfl)
theorem dJ6_min_1 : decode cJ6_min 1 = .ok (.iload_n 1, 1) := dk_27 (dk_at dksJ6_min_0 1 rfl rfl)
theorem dJ6_min_2 : decode cJ6_min 2 = .ok (.if_icmp .gt 7, 3) := dk_163 0 7 (dk_at dksJ6_min_0 2 rfl rfl)
theorem dJ6_min_5 : decode cJ6_min 5 = .ok (.iload_n 0, 1) := dk_26 (dk_at dksJ6_min_0 5 rfl rfl)
theorem dJ6_min_6 : decode cJ6_min 6 = .ok (.goto 4, 3) := dk_167 0 4 (dk_at dksJ6_min_0 6 rfl rfl)
theorem dJ6_min_9 : decode cJ6_min 9 = .ok (.iload_n 1, 1) := dk_27 (dk_at dksJ6_min_0 9 rfl rfl)
theorem dJ6_min_10 : decode cJ6_min 10 = .ok (.ireturn, 1) := dk_172 (dk_at dksJ6_min_0 10 rfl rfl)
abbrev cJ6_max_2 : ByteArray := prog_16_method_66_code
def yJ6_max_2 : MethodName := ⟨RJ6, "max", "(JJ)J"⟩
def dkwJ6_max_2_0 : List UInt8 := [30, 32, 148, 155, 0, 7, 30, 167, 0, 4, 32, 173]
abbrev dktJ6_max_2_0 : List UInt8 := dkwJ6_max_2_0 ++ []
theorem dksJ6_max_2_0 : cJ6_max_2.data.toList.drop 0 = dktJ6_max_2_0 := by decide +kernel
theorem dJ6_max_2_0 : decode cJ6_max_2 0 = .ok (.lload_n 0, 1) := dk_30 (dk_at dksJ6_max_2_0 0 rfl rfl)
theorem dJ6_max_2_1 : decode cJ6_max_2 1 = .ok (.lload_n 2, 1) := dk_32 (dk_at dksJ6_max_2_0 1 rfl rfl)
theorem dJ6_max_2_2 : decode cJ6_max_2 2 = .ok (.lcmp, 1) := dk_148 (dk_at dksJ6_max_2_0 2 rfl rfl)
theorem dJ6_max_2_3 : decode cJ6_max_2 3 = .ok (.ifCond .lt 7, 3) := dk_155 0 7 (dk_at dksJ6_max_2_0 3 rfl rfl)
theorem dJ6_max_2_6 : decode cJ6_max_2 6 = .ok (.lload_n 0, 1) := dk_30 (dk_at dksJ6_max_2_0 6 rfl rfl)
theorem dJ6_max_2_7 : decode cJ6_max_2 7 = .ok (.goto 4, 3) := dk_167 0 4 (dk_at dksJ6_max_2_0 7 rfl rfl)
theorem dJ6_max_2_10 : decode cJ6_max_2 10 = .ok (.lload_n 2, 1) := dk_32 (dk_at dksJ6_max_2_0 10 rfl rfl)
theorem dJ6_max_2_11 : decode cJ6_max_2 11 = .ok (.lreturn, 1) := dk_173 (dk_at dksJ6_max_2_0 11 rfl rfl)
theorem q149 : (Jvm.Cond.initialized "java/lang/Math") ∈ lw_all := lw_g (lw_at lw_m1 19 rfl) rfl
theorem q924 : (Jvm.Cond.static ({ cls := "java/lang/Math", name := "max", desc := "(II)I" } : Jvm.MethodName)) ∈ lw_all := lw_g (lw_at lw_m4 74 rfl) rfl
theorem q925 : (Jvm.Cond.code ({ cls := "java/lang/Math", name := "max", desc := "(II)I" } : Jvm.MethodName) prog_16_method_65_code (2 : Nat) (Option.some Jvm.ClassFile.FieldType.int)) ∈ lw_all := lw_g (lw_at lw_m4 75 rfl) rfl
theorem q1188 : (Jvm.Cond.static ({ cls := "java/lang/Math", name := "min", desc := "(II)I" } : Jvm.MethodName)) ∈ lw_all := lw_g (lw_at lw_m5 98 rfl) rfl
theorem q1189 : (Jvm.Cond.code ({ cls := "java/lang/Math", name := "min", desc := "(II)I" } : Jvm.MethodName) prog_16_method_69_code (2 : Nat) (Option.some Jvm.ClassFile.FieldType.int)) ∈ lw_all := lw_g (lw_at lw_m5 99 rfl) rfl
theorem q1688 : (Jvm.Cond.static ({ cls := "java/lang/Math", name := "max", desc := "(JJ)J" } : Jvm.MethodName)) ∈ lw_all := lw_g (lw_at lw_m7 118 rfl) rfl
theorem q1689 : (Jvm.Cond.code ({ cls := "java/lang/Math", name := "max", desc := "(JJ)J" } : Jvm.MethodName) prog_16_method_66_code (4 : Nat) (Option.some Jvm.ClassFile.FieldType.long)) ∈ lw_all := lw_g (lw_at lw_m7 119 rfl) rfl
theorem q181 : (Jvm.Cond.arrayClass Jvm.ClassFile.FieldType.int) ∈ lw_all := lw_g (lw_at lw_m1 51 rfl) rfl
set_option maxRecDepth 100000
theorem q182 : (Jvm.Cond.arrayClass Jvm.ClassFile.FieldType.byte) ∈ lw_all := lw_g (lw_at lw_m1 52 rfl) rfl
theorem q251 : (Jvm.Cond.arrayClass Jvm.ClassFile.FieldType.long) ∈ lw_all := lw_g (lw_at lw_m1 121 rfl) rfl
theorem q252 : (Jvm.Cond.arrayClass Jvm.ClassFile.FieldType.boolean) ∈ lw_all := lw_g (lw_at lw_m1 122 rfl) rfl
theorem q262 : (Jvm.Cond.arrayOver (Jvm.ClassFile.FieldType.object "NandHouse$Knot")) ∈ lw_tbl := lw_at lw_m1 132 rfl
theorem q142 : (Jvm.Cond.initialized "java/lang/System") ∈ lw_all := lw_g (lw_at lw_m1 12 rfl) rfl
set_option maxRecDepth 100000
theorem q698 : (Jvm.Cond.static ({ cls := "java/lang/System", name := "arraycopy", desc := "(Ljava/lang/Object;ILjava/lang/Object;II)V" } : Jvm.MethodName)) ∈ lw_all := lw_g (lw_at lw_m3 88 rfl) rfl
theorem q699 : (Jvm.Cond.native ({ cls := "java/lang/System", name := "arraycopy", desc := "(Ljava/lang/Object;ILjava/lang/Object;II)V" } : Jvm.MethodName)) ∈ lw_all := lw_g (lw_at lw_m3 89 rfl) rfl
theorem q147 : (Jvm.Cond.initialized "java/lang/Number") ∈ lw_all := lw_g (lw_at lw_m1 17 rfl) rfl
set_option maxRecDepth 100000
