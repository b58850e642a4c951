/-! java/util/Arrays -/
set_option maxRecDepth 100000
def RJ0 : String := "java/util/Arrays"
abbrev cJ0_fill : ByteArray := prog_39_method_103_code
def yJ0_fill : MethodName := ⟨RJ0, "fill", "([II)V"⟩
def dkwJ0_fill_0 : List UInt8 := [3, 61, 42, 190, 62, 28, 29, 162, 0, 13, 42, 28, 27, 79, 132, 2, 1, 167, 255, 244, 177]
abbrev dktJ0_fill_0 : List UInt8 := dkwJ0_fill_0 ++ []
theorem dksJ0_fill_0 : cJ0_fill.data.toList.drop 0 = dktJ0_fill_0 := by decide +kernel
theorem dJ0_fill_0 : decode cJ0_fill 0 = .ok (.iconst 0, 1) := dk_3 (dk_at dksJ0_fill_0 0 rfl rfl)
theorem dJ0_fill_1 : decode cJ0_fill 1 = .ok (.istore_n 2, 1) := dk_61 (dk_at dksJ0_fill_0 1 rfl rfl)
theorem dJ0_fill_2 : decode cJ0_fill 2 = .ok (.aload_n 0, 1) := dk_42 (dk_at dksJ0_fill_0 2 rfl rfl)
theorem dJ0_fill_3 : decode cJ0_fill 3 = .ok (.arraylength, 1) := dk_190 (dk_at dksJ0_fill_0 3 rfl rfl)
theorem dJ0_fill_4 : decode cJ0_fill 4 = .ok (.istore_n 3, 1) := dk_62 (dk_at dksJ0_fill_0 4 rfl rfl)
theorem dJ0_fill_5 : decode cJ0_fill 5 = .ok (.iload_n 2, 1) := dk_28 (dk_at dksJ0_fill_0 5 rfl rfl)
theorem dJ0_fill_6 : decode cJ0_fill 6 = .ok (.iload_n 3, 1) := dk_29 (dk_at dksJ0_fill_0 6 rfl rfl)
theorem dJ0_fill_7 : decode cJ0_fill 7 = .ok (.if_icmp .ge 13, 3) := dk_162 0 13 (dk_at dksJ0_fill_0 7 rfl rfl)
theorem dJ0_fill_10 : decode cJ0_fill 10 = .ok (.aload_n 0, 1) := dk_42 (dk_at dksJ0_fill_0 10 rfl rfl)
theorem dJ0_fill_11 : decode cJ0_fill 11 = .ok (.iload_n 2, 1) := dk_28 (dk_at dksJ0_fill_0 11 rfl rfl)
theorem dJ0_fill_12 : decode cJ0_fill 12 = .ok (.iload_n 1, 1) := dk_27 (dk_at dksJ0_fill_0 12 rfl rfl)
theorem dJ0_fill_13 : decode cJ0_fill 13 = .ok (.iastore, 1) := dk_79 (dk_at dksJ0_fill_0 13 rfl rfl)
theorem dJ0_fill_14 : decode cJ0_fill 14 = .ok (.iinc 2 1, 3) := dk_132 2 1 (dk_at dksJ0_fill_0 14 rfl rfl)
theorem dJ0_fill_17 : decode cJ0_fill 17 = .ok (.goto (-12), 3) := dk_167 255 244 (dk_at dksJ0_fill_0 17 rfl rfl)
theorem dJ0_fill_20 : decode cJ0_fill 20 = .ok (.return_, 1) := dk_177 (dk_at dksJ0_fill_0 20 rfl rfl)
abbrev cJ0_copyOf : ByteArray := prog_39_method_119_code
def yJ0_copyOf : MethodName := ⟨RJ0, "copyOf", "([Ljava/lang/Object;I)[Ljava/lang/Object;"⟩
def dkwJ0_copyOf_0 : List UInt8 := [42, 27, 42, 182, 0, 86, 184, 1, 44, 176]
abbrev dktJ0_copyOf_0 : List UInt8 := dkwJ0_copyOf_0 ++ []
theorem dksJ0_copyOf_0 : cJ0_copyOf.data.toList.drop 0 = dktJ0_copyOf_0 := by decide +kernel
theorem dJ0_copyOf_0 : decode cJ0_copyOf 0 = .ok (.aload_n 0, 1) := dk_42 (dk_at dksJ0_copyOf_0 0 rfl rfl)
theorem dJ0_copyOf_1 : decode cJ0_copyOf 1 = .ok (.iload_n 1, 1) := dk_27 (dk_at dksJ0_copyOf_0 1 rfl rfl)
theorem dJ0_copyOf_2 : decode cJ0_copyOf 2 = .ok (.aload_n 0, 1) := dk_42 (dk_at dksJ0_copyOf_0 2 rfl rfl)
theorem dJ0_copyOf_3 : decode cJ0_copyOf 3 = .ok (.invokevirtual 86, 3) := dk_182 0 86 (dk_at dksJ0_copyOf_0 3 rfl rfl)
theorem dJ0_copyOf_6 : decode cJ0_copyOf 6 = .ok (.invokestatic 300, 3) := dk_184 1 44 (dk_at dksJ0_copyOf_0 6 rfl rfl)
theorem dJ0_copyOf_9 : decode cJ0_copyOf 9 = .ok (.areturn, 1) := dk_176 (dk_at dksJ0_copyOf_0 9 rfl rfl)
abbrev cJ0_copyOf_2 : ByteArray := prog_39_method_120_code
def yJ0_copyOf_2 : MethodName := ⟨RJ0, "copyOf", "([Ljava/lang/Object;ILjava/lang/Class;)[Ljava/lang/Object;"⟩
def dkwJ0_copyOf_2_1 : List UInt8 := [78, 42, 3, 45, 3, 42, 190, 27, 184, 1, 48, 184, 0, 150, 45, 176]
abbrev dktJ0_copyOf_2_1 : List UInt8 := dkwJ0_copyOf_2_1 ++ []
def dkwJ0_copyOf_2_0 : List UInt8 := [44, 18, 110, 166, 0, 10, 27, 189, 0, 2, 167, 0, 14, 44, 182, 0, 90, 27, 184, 0, 95, 192, 0, 110]
abbrev dktJ0_copyOf_2_0 : List UInt8 := dkwJ0_copyOf_2_0 ++ dktJ0_copyOf_2_1
theorem dksJ0_copyOf_2_0 : cJ0_copyOf_2.data.toList.drop 0 = dktJ0_copyOf_2_0 := by decide +kernel
theorem dksJ0_copyOf_2_1 : cJ0_copyOf_2.data.toList.drop 24 = dktJ0_copyOf_2_1 := dk_seg dksJ0_copyOf_2_0 24 rfl rfl
theorem dJ0_copyOf_2_0 : decode cJ0_copyOf_2 0 = .ok (.aload_n 2, 1) := dk_44 (dk_at dksJ0_copyOf_2_0 0 rfl rfl)
theorem dJ0_copyOf_2_1 : decode cJ0_copyOf_2 1 = .ok (.ldc 110, 2) := dk_18 110 (dk_at dksJ0_copyOf_2_0 1 rfl rfl)
theorem dJ0_copyOf_2_3 : decode cJ0_copyOf_2 3 = .ok (.if_acmp .ne 10, 3) := dk_166 0 10 (dk_at dksJ0_copyOf_2_0 3 rfl rfl)
theorem dJ0_copyOf_2_6 : decode cJ0_copyOf_2 6 = .ok (.iload_n 1, 1) := dk_27 (dk_at dksJ0_copyOf_2_0 6 rfl rfl)
theorem dJ0_copyOf_2_7 : decode cJ0_copyOf_2 7 = .ok (.anewarray 2, 3) := dk_189 0 2 (dk_at dksJ0_copyOf_2_0 7 rfl rfl)
theorem dJ0_copyOf_2_10 : decode cJ0_copyOf_2 10 = .ok (.goto 14, 3) := dk_167 0 14 (dk_at dksJ0_copyOf_2_0 10 rfl rfl)
theorem dJ0_copyOf_2_13 : decode cJ0_copyOf_2 13 = .ok (.aload_n 2, 1) := dk_44 (dk_at dksJ0_copyOf_2_0 13 rfl rfl)
theorem dJ0_copyOf_2_14 : decode cJ0_copyOf_2 14 = .ok (.invokevirtual 90, 3) := dk_182 0 90 (dk_at dksJ0_copyOf_2_0 14 rfl rfl)
theorem dJ0_copyOf_2_17 : decode cJ0_copyOf_2 17 = .ok (.iload_n 1, 1) := dk_27 (dk_at dksJ0_copyOf_2_0 17 rfl rfl)
theorem dJ0_copyOf_2_18 : decode cJ0_copyOf_2 18 = .ok (.invokestatic 95, 3) := dk_184 0 95 (dk_at dksJ0_copyOf_2_0 18 rfl rfl)
theorem dJ0_copyOf_2_21 : decode cJ0_copyOf_2 21 = .ok (.checkcast 110, 3) := dk_192 0 110 (dk_at dksJ0_copyOf_2_0 21 rfl rfl)
theorem dJ0_copyOf_2_24 : decode cJ0_copyOf_2 24 = .ok (.astore_n 3, 1) := dk_78 (dk_at dksJ0_copyOf_2_1 0 rfl rfl)
theorem dJ0_copyOf_2_25 : decode cJ0_copyOf_2 25 = .ok (.aload_n 0, 1) := dk_42 (dk_at dksJ0_copyOf_2_1 1 rfl rfl)
theorem dJ0_copyOf_2_26 : decode cJ0_copyOf_2 26 = .ok (.iconst 0, 1) := dk_3 (dk_at dksJ0_copyOf_2_1 2 rfl rfl)
theorem dJ0_copyOf_2_27 : decode cJ0_copyOf_2 27 = .ok (.aload_n 3, 1) := dk_45 (dk_at dksJ0_copyOf_2_1 3 rfl rfl)
theorem dJ0_copyOf_2_28 : decode cJ0_copyOf_2 28 = .ok (.iconst 0, 1) := dk_3 (dk_at dksJ0_copyOf_2_1 4 rfl rfl)
theorem dJ0_copyOf_2_29 : decode cJ0_copyOf_2 29 = .ok (.aload_n 0, 1) := dk_42 (dk_at dksJ0_copyOf_2_1 5 rfl rfl)
theorem dJ0_copyOf_2_30 : decode cJ0_copyOf_2 30 = .ok (.arraylength, 1) := dk_190 (dk_at dksJ0_copyOf_2_1 6 rfl rfl)
theorem dJ0_copyOf_2_31 : decode cJ0_copyOf_2 31 = .ok (.iload_n 1, 1) := dk_27 (dk_at dksJ0_copyOf_2_1 7 rfl rfl)
theorem dJ0_copyOf_2_32 : decode cJ0_copyOf_2 32 = .ok (.invokestatic 304, 3) := dk_184 1 48 (dk_at dksJ0_copyOf_2_1 8 rfl rfl)
theorem dJ0_copyOf_2_35 : decode cJ0_copyOf_2 35 = .ok (.invokestatic 150, 3) := dk_184 0 150 (dk_at dksJ0_copyOf_2_1 11 rfl rfl)
theorem dJ0_copyOf_2_38 : decode cJ0_copyOf_2 38 = .ok (.aload_n 3, 1) := dk_45 (dk_at dksJ0_copyOf_2_1 14 rfl rfl)
theorem dJ0_copyOf_2_39 : decode cJ0_copyOf_2 39 = .ok (.areturn, 1) := dk_176 (dk_at dksJ0_copyOf_2_1 15 rfl rfl)
abbrev cJ0_fill_2 : ByteArray := prog_39_method_104_code
def yJ0_fill_2 : MethodName := ⟨RJ0, "fill", "([IIII)V"⟩
def dkwJ0_fill_2_1 : List UInt8 := [167, 255, 242, 177]
abbrev dktJ0_fill_2_1 : List UInt8 := dkwJ0_fill_2_1 ++ []
def dkwJ0_fill_2_0 : List UInt8 := [42, 190, 27, 28, 184, 0, 13, 27, 54, 4, 21, 4, 28, 162, 0, 14, 42, 21, 4, 29, 79, 132, 4, 1]
abbrev dktJ0_fill_2_0 : List UInt8 := dkwJ0_fill_2_0 ++ dktJ0_fill_2_1
theorem dksJ0_fill_2_0 : cJ0_fill_2.data.toList.drop 0 = dktJ0_fill_2_0 := by decide +kernel
theorem dksJ0_fill_2_1 : cJ0_fill_2.data.toList.drop 24 = dktJ0_fill_2_1 := dk_seg dksJ0_fill_2_0 24 rfl rfl
theorem dJ0_fill_2_0 : decode cJ0_fill_2 0 = .ok (.aload_n 0, 1) := dk_42 (dk_at dksJ0_fill_2_0 0 rfl rfl)
theorem dJ0_fill_2_1 : decode cJ0_fill_2 1 = .ok (.arraylength, 1) := dk_190 (dk_at dksJ0_fill_2_0 1 rfl rfl)
theorem dJ0_fill_2_2 : decode cJ0_fill_2 2 = .ok (.iload_n 1, 1) := dk_27 (dk_at dksJ0_fill_2_0 2 rfl rfl)
theorem dJ0_fill_2_3 : decode cJ0_fill_2 3 = .ok (.iload_n 2, 1) := dk_28 (dk_at dksJ0_fill_2_0 3 rfl rfl)
theorem dJ0_fill_2_4 : decode cJ0_fill_2 4 = .ok (.invokestatic 13, 3) := dk_184 0 13 (dk_at dksJ0_fill_2_0 4 rfl rfl)
theorem dJ0_fill_2_7 : decode cJ0_fill_2 7 = .ok (.iload_n 1, 1) := dk_27 (dk_at dksJ0_fill_2_0 7 rfl rfl)
theorem dJ0_fill_2_8 : decode cJ0_fill_2 8 = .ok (.istore 4, 2) := dk_54 4 (dk_at dksJ0_fill_2_0 8 rfl rfl)
theorem dJ0_fill_2_10 : decode cJ0_fill_2 10 = .ok (.iload 4, 2) := dk_21 4 (dk_at dksJ0_fill_2_0 10 rfl rfl)
theorem dJ0_fill_2_12 : decode cJ0_fill_2 12 = .ok (.iload_n 2, 1) := dk_28 (dk_at dksJ0_fill_2_0 12 rfl rfl)
theorem dJ0_fill_2_13 : decode cJ0_fill_2 13 = .ok (.if_icmp .ge 14, 3) := dk_162 0 14 (dk_at dksJ0_fill_2_0 13 rfl rfl)
theorem dJ0_fill_2_16 : decode cJ0_fill_2 16 = .ok (.aload_n 0, 1) := dk_42 (dk_at dksJ0_fill_2_0 16 rfl rfl)
theorem dJ0_fill_2_17 : decode cJ0_fill_2 17 = .ok (.iload 4, 2) := dk_21 4 (dk_at dksJ0_fill_2_0 17 rfl rfl)
theorem dJ0_fill_2_19 : decode cJ0_fill_2 19 = .ok (.iload_n 3, 1) := dk_29 (dk_at dksJ0_fill_2_0 19 rfl rfl)
theorem dJ0_fill_2_20 : decode cJ0_fill_2 20 = .ok (.iastore, 1) := dk_79 (dk_at dksJ0_fill_2_0 20 rfl rfl)
theorem dJ0_fill_2_21 : decode cJ0_fill_2 21 = .ok (.iinc 4 1, 3) := dk_132 4 1 (dk_at dksJ0_fill_2_0 21 rfl rfl)
theorem dJ0_fill_2_24 : decode cJ0_fill_2 24 = .ok (.goto (-14), 3) := dk_167 255 242 (dk_at dksJ0_fill_2_1 0 rfl rfl)
theorem dJ0_fill_2_27 : decode cJ0_fill_2 27 = .ok (.return_, 1) := dk_177 (dk_at dksJ0_fill_2_1 3 rfl rfl)
abbrev cJ0_rangeCheck : ByteArray := prog_39_method_30_code
def yJ0_rangeCheck : MethodName := ⟨RJ0, "rangeCheck", "(III)V"⟩
def dkwJ0_rangeCheck_3 : List UInt8 := [183, 0, 70, 191, 177]
abbrev dktJ0_rangeCheck_3 : List UInt8 := dkwJ0_rangeCheck_3 ++ []
def dkwJ0_rangeCheck_2 : List UInt8 := [27, 156, 0, 12, 187, 0, 68, 89, 27, 183, 0, 70, 191, 28, 26, 164, 0, 12, 187, 0, 68, 89, 28]
abbrev dktJ0_rangeCheck_2 : List UInt8 := dkwJ0_rangeCheck_2 ++ dktJ0_rangeCheck_3
def dkwJ0_rangeCheck_1 : List UInt8 := [182, 0, 54, 18, 57, 182, 0, 50, 28, 182, 0, 54, 18, 59, 182, 0, 50, 182, 0, 61, 183, 0, 65, 191]
abbrev dktJ0_rangeCheck_1 : List UInt8 := dkwJ0_rangeCheck_1 ++ dktJ0_rangeCheck_2
def dkwJ0_rangeCheck_0 : List UInt8 := [27, 28, 164, 0, 44, 187, 0, 43, 89, 187, 0, 45, 89, 183, 0, 47, 18, 48, 182, 0, 50, 27]
abbrev dktJ0_rangeCheck_0 : List UInt8 := dkwJ0_rangeCheck_0 ++ dktJ0_rangeCheck_1
theorem dksJ0_rangeCheck_0 : cJ0_rangeCheck.data.toList.drop 0 = dktJ0_rangeCheck_0 := by decide +kernel
theorem dksJ0_rangeCheck_1 : cJ0_rangeCheck.data.toList.drop 22 = dktJ0_rangeCheck_1 := dk_seg dksJ0_rangeCheck_0 22 rfl rfl
theorem dksJ0_rangeCheck_2 : cJ0_rangeCheck.data.toList.drop 46 = dktJ0_rangeCheck_2 := dk_seg dksJ0_rangeCheck_1 24 rfl rfl
theorem dksJ0_rangeCheck_3 : cJ0_rangeCheck.data.toList.drop 69 = dktJ0_rangeCheck_3 := dk_seg dksJ0_rangeCheck_2 23 rfl rfl
theorem dJ0_rangeCheck_0 : decode cJ0_rangeCheck 0 = .ok (.iload_n 1, 1) := dk_27 (dk_at dksJ0_rangeCheck_0 0 rfl rfl)
theorem dJ0_rangeCheck_1 : decode cJ0_rangeCheck 1 = .ok (.iload_n 2, 1) := dk_28 (dk_at dksJ0_rangeCheck_0 1 rfl rfl)
theorem dJ0_rangeCheck_2 : decode cJ0_rangeCheck 2 = .ok (.if_icmp .le 44, 3) := dk_164 0 44 (dk_at dksJ0_rangeCheck_0 2 rfl rfl)
theorem dJ0_rangeCheck_5 : decode cJ0_rangeCheck 5 = .ok (.new 43, 3) := dk_187 0 43 (dk_at dksJ0_rangeCheck_0 5 rfl rfl)
theorem dJ0_rangeCheck_8 : decode cJ0_rangeCheck 8 = .ok (.dup, 1) := dk_89 (dk_at dksJ0_rangeCheck_0 8 rfl rfl)
theorem dJ0_rangeCheck_9 : decode cJ0_rangeCheck 9 = .ok (.new 45, 3) := dk_187 0 45 (dk_at dksJ0_rangeCheck_0 9 rfl rfl)
theorem dJ0_rangeCheck_12 : decode cJ0_rangeCheck 12 = .ok (.dup, 1) := dk_89 (dk_at dksJ0_rangeCheck_0 12 rfl rfl)
theorem dJ0_rangeCheck_13 : decode cJ0_rangeCheck 13 = .ok (.invokespecial 47, 3) := dk_183 0 47 (dk_at dksJ0_rangeCheck_0 13 rfl rfl)
theorem dJ0_rangeCheck_16 : decode cJ0_rangeCheck 16 = .ok (.ldc 48, 2) := dk_18 48 (dk_at dksJ0_rangeCheck_0 16 rfl rfl)
theorem dJ0_rangeCheck_18 : decode cJ0_rangeCheck 18 = .ok (.invokevirtual 50, 3) := dk_182 0 50 (dk_at dksJ0_rangeCheck_0 18 rfl rfl)
theorem dJ0_rangeCheck_21 : decode cJ0_rangeCheck 21 = .ok (.iload_n 1, 1) := dk_27 (dk_at dksJ0_rangeCheck_0 21 rfl rfl)
theorem dJ0_rangeCheck_22 : decode cJ0_rangeCheck 22 = .ok (.invokevirtual 54, 3) := dk_182 0 54 (dk_at dksJ0_rangeCheck_1 0 rfl rfl)
theorem dJ0_rangeCheck_25 : decode cJ0_rangeCheck 25 = .ok (.ldc 57, 2) := dk_18 57 (dk_at dksJ0_rangeCheck_1 3 rfl rfl)
theorem dJ0_rangeCheck_27 : decode cJ0_rangeCheck 27 = .ok (.invokevirtual 50, 3) := dk_182 0 50 (dk_at dksJ0_rangeCheck_1 5 rfl rfl)
theorem dJ0_rangeCheck_30 : decode cJ0_rangeCheck 30 = .ok (.iload_n 2, 1) := dk_28 (dk_at dksJ0_rangeCheck_1 8 rfl rfl)
theorem dJ0_rangeCheck_31 : decode cJ0_rangeCheck 31 = .ok (.invokevirtual 54, 3) := dk_182 0 54 (dk_at dksJ0_rangeCheck_1 9 rfl rfl)
theorem dJ0_rangeCheck_34 : decode cJ0_rangeCheck 34 = .ok (.ldc 59, 2) := dk_18 59 (dk_at dksJ0_rangeCheck_1 12 rfl rfl)
theorem dJ0_rangeCheck_36 : decode cJ0_rangeCheck 36 = .ok (.invokevirtual 50, 3) := dk_182 0 50 (dk_at dksJ0_rangeCheck_1 14 rfl rfl)
theorem dJ0_rangeCheck_39 : decode cJ0_rangeCheck 39 = .ok (.invokevirtual 61, 3) := dk_182 0 61 (dk_at dksJ0_rangeCheck_1 17 rfl rfl)
theorem dJ0_rangeCheck_42 : decode cJ0_rangeCheck 42 = .ok (.invokespecial 65, 3) := dk_183 0 65 (dk_at dksJ0_rangeCheck_1 20 rfl rfl)
theorem dJ0_rangeCheck_45 : decode cJ0_rangeCheck 45 = .ok (.athrow, 1) := dk_191 (dk_at dksJ0_rangeCheck_1 23 rfl rfl)
theorem dJ0_rangeCheck_46 : decode cJ0_rangeCheck 46 = .ok (.iload_n 1, 1) := dk_27 (dk_at dksJ0_rangeCheck_2 0 rfl rfl)
theorem dJ0_rangeCheck_47 : decode cJ0_rangeCheck 47 = .ok (.ifCond .ge 12, 3) := dk_156 0 12 (dk_at dksJ0_rangeCheck_2 1 rfl rfl)
theorem dJ0_rangeCheck_50 : decode cJ0_rangeCheck 50 = .ok (.new 68, 3) := dk_187 0 68 (dk_at dksJ0_rangeCheck_2 4 rfl rfl)
theorem dJ0_rangeCheck_53 : decode cJ0_rangeCheck 53 = .ok (.dup, 1) := dk_89 (dk_at dksJ0_rangeCheck_2 7 rfl rfl)
theorem dJ0_rangeCheck_54 : decode cJ0_rangeCheck 54 = .ok (.iload_n 1, 1) := dk_27 (dk_at dksJ0_rangeCheck_2 8 rfl rfl)
theorem dJ0_rangeCheck_55 : decode cJ0_rangeCheck 55 = .ok (.invokespecial 70, 3) := dk_183 0 70 (dk_at dksJ0_rangeCheck_2 9 rfl rfl)
theorem dJ0_rangeCheck_58 : decode cJ0_rangeCheck 58 = .ok (.athrow, 1) := dk_191 (dk_at dksJ0_rangeCheck_2 12 rfl rfl)
theorem dJ0_rangeCheck_59 : decode cJ0_rangeCheck 59 = .ok (.iload_n 2, 1) := dk_28 (dk_at dksJ0_rangeCheck_2 13 rfl rfl)
theorem dJ0_rangeCheck_60 : decode cJ0_rangeCheck 60 = .ok (.iload_n 0, 1) := dk_26 (dk_at dksJ0_rangeCheck_2 14 rfl rfl)
theorem dJ0_rangeCheck_61 : decode cJ0_rangeCheck 61 = .ok (.if_icmp .le 12, 3) := dk_164 0 12 (dk_at dksJ0_rangeCheck_2 15 rfl rfl)
theorem dJ0_rangeCheck_64 : decode cJ0_rangeCheck 64 = .ok (.new 68, 3) := dk_187 0 68 (dk_at dksJ0_rangeCheck_2 18 rfl rfl)
theorem dJ0_rangeCheck_67 : decode cJ0_rangeCheck 67 = .ok (.dup, 1) := dk_89 (dk_at dksJ0_rangeCheck_2 21 rfl rfl)
theorem dJ0_rangeCheck_68 : decode cJ0_rangeCheck 68 = .ok (.iload_n 2, 1) := dk_28 (dk_at dksJ0_rangeCheck_2 22 rfl rfl)
theorem dJ0_rangeCheck_69 : decode cJ0_rangeCheck 69 = .ok (.invokespecial 70, 3) := dk_183 0 70 (dk_at dksJ0_rangeCheck_3 0 rfl rfl)
theorem dJ0_rangeCheck_72 : decode cJ0_rangeCheck 72 = .ok (.athrow, 1) := dk_191 (dk_at dksJ0_rangeCheck_3 3 rfl rfl)
theorem dJ0_rangeCheck_73 : decode cJ0_rangeCheck 73 = .ok (.return_, 1) := dk_177 (dk_at dksJ0_rangeCheck_3 4 rfl rfl)
theorem q127 : (Jvm.Cond.initialized "java/util/Arrays") ∈ lw_all := lw_g (lw_at lw_m1 3 rfl) rfl
theorem q176 : (Jvm.Cond.static ({ cls := "java/util/Arrays", name := "fill", desc := "([II)V" } : Jvm.MethodName)) ∈ lw_all := lw_g (lw_at lw_m1 52 rfl) rfl
theorem q177 : (Jvm.Cond.code ({ cls := "java/util/Arrays", name := "fill", desc := "([II)V" } : Jvm.MethodName) prog_39_method_103_code (4 : Nat) (Option.none : Option Jvm.ClassFile.FieldType)) ∈ lw_all := lw_g (lw_at lw_m1 53 rfl) rfl
theorem q777 : (Jvm.Cond.static ({ cls := "java/util/Arrays", name := "copyOf", desc := "([Ljava/lang/Object;I)[Ljava/lang/Object;" } : Jvm.MethodName)) ∈ lw_all := lw_g (lw_at lw_m3 173 rfl) rfl
theorem q778 : (Jvm.Cond.code ({ cls := "java/util/Arrays", name := "copyOf", desc := "([Ljava/lang/Object;I)[Ljava/lang/Object;" } : Jvm.MethodName) prog_39_method_119_code (2 : Nat) (Option.some (Jvm.ClassFile.FieldType.array (Jvm.ClassFile.FieldType.object "java/lang/Object")))) ∈ lw_all := lw_g (lw_at lw_m3 174 rfl) rfl
theorem q779 : (Jvm.Cond.methodLink "java/util/Arrays" (86 : Nat) ({ cls := "java/lang/Object", name := "getClass", desc := "()Ljava/lang/Class;" } : Jvm.MethodName)) ∈ lw_all := lw_g (lw_at lw_m3 175 rfl) rfl
theorem q799 : (Jvm.Cond.methodLink "java/util/Arrays" (300 : Nat) ({ cls := "java/util/Arrays", name := "copyOf", desc := "([Ljava/lang/Object;ILjava/lang/Class;)[Ljava/lang/Object;" } : Jvm.MethodName)) ∈ lw_all := lw_g (lw_at lw_m3 195 rfl) rfl
theorem q800 : (Jvm.Cond.static ({ cls := "java/util/Arrays", name := "copyOf", desc := "([Ljava/lang/Object;ILjava/lang/Class;)[Ljava/lang/Object;" } : Jvm.MethodName)) ∈ lw_all := lw_g (lw_at lw_m3 196 rfl) rfl
theorem q801 : (Jvm.Cond.code ({ cls := "java/util/Arrays", name := "copyOf", desc := "([Ljava/lang/Object;ILjava/lang/Class;)[Ljava/lang/Object;" } : Jvm.MethodName) prog_39_method_120_code (4 : Nat) (Option.some (Jvm.ClassFile.FieldType.array (Jvm.ClassFile.FieldType.object "java/lang/Object")))) ∈ lw_all := lw_g (lw_at lw_m3 197 rfl) rfl
theorem q802 : (Jvm.Cond.classLink "java/util/Arrays" (110 : Nat) "[Ljava/lang/Object;") ∈ lw_all := lw_g (lw_at lw_m3 198 rfl) rfl
theorem q804 : (Jvm.Cond.classLink "java/util/Arrays" (2 : Nat) "java/lang/Object") ∈ lw_all := lw_g (lw_at lw_m3 200 rfl) rfl
theorem q805 : (Jvm.Cond.methodLink "java/util/Arrays" (304 : Nat) ({ cls := "java/lang/Math", name := "min", desc := "(II)I" } : Jvm.MethodName)) ∈ lw_all := lw_g (lw_at lw_m3 201 rfl) rfl
theorem q806 : (Jvm.Cond.methodLink "java/util/Arrays" (150 : Nat) ({ cls := "java/lang/System", name := "arraycopy", desc := "(Ljava/lang/Object;ILjava/lang/Object;II)V" } : Jvm.MethodName)) ∈ lw_all := lw_g (lw_at lw_m3 202 rfl) rfl
theorem q1164 : (Jvm.Cond.static ({ cls := "java/util/Arrays", name := "fill", desc := "([IIII)V" } : Jvm.MethodName)) ∈ lw_all := lw_g (lw_at lw_m5 80 rfl) rfl
theorem q1165 : (Jvm.Cond.code ({ cls := "java/util/Arrays", name := "fill", desc := "([IIII)V" } : Jvm.MethodName) prog_39_method_104_code (5 : Nat) (Option.none : Option Jvm.ClassFile.FieldType)) ∈ lw_all := lw_g (lw_at lw_m5 81 rfl) rfl
theorem q1166 : (Jvm.Cond.methodLink "java/util/Arrays" (13 : Nat) ({ cls := "java/util/Arrays", name := "rangeCheck", desc := "(III)V" } : Jvm.MethodName)) ∈ lw_all := lw_g (lw_at lw_m5 82 rfl) rfl
theorem q1167 : (Jvm.Cond.static ({ cls := "java/util/Arrays", name := "rangeCheck", desc := "(III)V" } : Jvm.MethodName)) ∈ lw_all := lw_g (lw_at lw_m5 83 rfl) rfl
theorem q1168 : (Jvm.Cond.code ({ cls := "java/util/Arrays", name := "rangeCheck", desc := "(III)V" } : Jvm.MethodName) prog_39_method_30_code (3 : Nat) (Option.none : Option Jvm.ClassFile.FieldType)) ∈ lw_all := lw_g (lw_at lw_m5 84 rfl) rfl
/-! java/lang/Math -/
set_option maxRecDepth 100000
def RJ1 : String := "java/lang/Math"
abbrev cJ1_min : ByteArray := prog_26_method_69_code
def yJ1_min : MethodName := ⟨RJ1, "min", "(II)I"⟩
def dkwJ1_min_0 : List UInt8 := [26, 27, 163, 0, 7, 26, 167, 0, 4, 27, 172]
abbrev dktJ1_min_0 : List UInt8 := dkwJ1_min_0 ++ []
theorem dksJ1_min_0 : cJ1_min.data.toList.drop 0 = dktJ1_min_0 := by decide +kernel
theorem dJ1_min_0 : decode cJ1_min 0 = .ok (.iload_n 0, 1) := dk_26 (dk_at dksJ1_min_0 0 rfl rfl)
theorem dJ1_min_1 : decode cJ1_min 1 = .ok (.iload_n 1, 1) := dk_27 (dk_at dksJ1_min_0 1 rfl rfl)
theorem dJ1_min_2 : decode cJ1_min 2 = .ok (.if_icmp .gt 7, 3) := dk_163 0 7 (dk_at dksJ1_min_0 2 rfl rfl)
theorem dJ1_min_5 : decode cJ1_min 5 = .ok (.iload_n 0, 1) := dk_26 (dk_at dksJ1_min_0 5 rfl rfl)
theorem dJ1_min_6 : decode cJ1_min 6 = .ok (.goto 4, 3) := dk_167 0 4 (dk_at dksJ1_min_0 6 rfl rfl)
theorem dJ1_min_9 : decode cJ1_min 9 = .ok (.iload_n 1, 1) := dk_27 (dk_at dksJ1_min_0 9 rfl rfl)
theorem dJ1_min_10 : decode cJ1_min 10 = .ok (.ireturn, 1) := dk_172 (dk_at dksJ1_min_0 10 rfl rfl)
abbrev cJ1_max : ByteArray := prog_26_method_65_code
def yJ1_max : MethodName := ⟨RJ1, "max", "(II)I"⟩
def dkwJ1_max_0 : List UInt8 := [26, 27, 161, 0, 7, 26, 167, 0, 4, 27, 172]
abbrev dktJ1_max_0 : List UInt8 := dkwJ1_max_0 ++ []
theorem dksJ1_max_0 : cJ1_max.data.toList.drop 0 = dktJ1_max_0 := by decide +kernel
theorem dJ1_max_0 : decode cJ1_max 0 = .ok (.iload_n 0, 1) := dk_26 (dk_at dksJ1_max_0 0 rfl rfl)
theorem dJ1_max_1 : decode cJ1_max 1 = .ok (.iload_n 1, 1) := dk_27 (dk_at dksJ1_max_0 1 rfl rfl)
theorem dJ1_max_2 : decode cJ1_max 2 = .ok (.if_icmp .lt 7, 3) := dk_161 0 7 (dk_at dksJ1_max_0 2 rfl rfl)
theorem dJ1_max_5 : decode cJ1_max 5 = .ok (.iload_n 0, 1) := dk_26 (dk_at dksJ1_max_0 5 rfl rfl)
theorem dJ1_max_6 : decode cJ1_max 6 = .ok (.goto 4, 3) := dk_167 0 4 (dk_at dksJ1_max_0 6 rfl rfl)
theorem dJ1_max_9 : decode cJ1_max 9 = .ok (.iload_n 1, 1) := dk_27 (dk_at dksJ1_max_0 9 rfl rfl)
theorem dJ1_max_10 : decode cJ1_max 10 = .ok (.ireturn, 1) := dk_172 (dk_at dksJ1_max_0 10 rfl rfl)
abbrev cJ1_min_2 : ByteArray := prog_26_method_70_code
def yJ1_min_2 : MethodName := ⟨RJ1, "min", "(JJ)J"⟩
def dkwJ1_min_2_0 : List UInt8 := [30, 32, 148, 157, 0, 7, 30, 167, 0, 4, 32, 173]
abbrev dktJ1_min_2_0 : List UInt8 := dkwJ1_min_2_0 ++ []
theorem dksJ1_min_2_0 : cJ1_min_2.data.toList.drop 0 = dktJ1_min_2_0 := by decide +kernel
theorem dJ1_min_2_0 : decode cJ1_min_2 0 = .ok (.lload_n 0, 1) := dk_30 (dk_at dksJ1_min_2_0 0 rfl rfl)
theorem dJ1_min_2_1 : decode cJ1_min_2 1 = .ok (.lload_n 2, 1) := dk_32 (dk_at dksJ1_min_2_0 1 rfl rfl)
theorem dJ1_min_2_2 : decode cJ1_min_2 2 = .ok (.lcmp, 1) := dk_148 (dk_at dksJ1_min_2_0 2 rfl rfl)
theorem dJ1_min_2_3 : decode cJ1_min_2 3 = .ok (.ifCond .gt 7, 3) := dk_157 0 7 (dk_at dksJ1_min_2_0 3 rfl rfl)
theorem dJ1_min_2_6 : decode cJ1_min_2 6 = .ok (.lload_n 0, 1) := dk_30 (dk_at dksJ1_min_2_0 6 rfl rfl)
theorem dJ1_min_2_7 : decode cJ1_min_2 7 = .ok (.goto 4, 3) := dk_167 0 4 (dk_at dksJ1_min_2_0 7 rfl rfl)
theorem dJ1_min_2_10 : decode cJ1_min_2 10 = .ok (.lload_n 2, 1) := dk_32 (dk_at dksJ1_min_2_0 10 rfl rfl)
theorem dJ1_min_2_11 : decode cJ1_min_2 11 = .ok (.lreturn, 1) := dk_173 (dk_at dksJ1_min_2_0 11 rfl rfl)
abbrev cJ1_max_2 : ByteArray := prog_26_method_66_code
def yJ1_max_2 : MethodName := ⟨RJ1, "max", "(JJ)J"⟩
def dkwJ1_max_2_0 : List UInt8 := [30, 32, 148, 155, 0, 7, 30, 167, 0, 4, 32, 173]
abbrev dktJ1_max_2_0 : List UInt8 := dkwJ1_max_2_0 ++ []
theorem dksJ1_max_2_0 : cJ1_max_2.data.toList.drop 0 = dktJ1_max_2_0 := by decide +kernel
theorem dJ1_max_2_0 : decode cJ1_max_2 0 = .ok (.lload_n 0, 1) := dk_30 (dk_at dksJ1_max_2_0 0 rfl rfl)
theorem dJ1_max_2_1 : decode cJ1_max_2 1 = .ok (.lload_n 2, 1) := dk_32 (dk_at dksJ1_max_2_0 1 rfl rfl)
theorem dJ1_max_2_2 : decode cJ1_max_2 2 = .ok (.lcmp, 1) := dk_148 (dk_at dksJ1_max_2_0 2 rfl rfl)
theorem dJ1_max_2_3 : decode cJ1_max_2 3 = .ok (.ifCond .lt 7, 3) := dk_155 0 7 (dk_at dksJ1_max_2_0 3 rfl rfl)
theorem dJ1_max_2_6 : decode cJ1_max_2 6 = .ok (.lload_n 0, 1) := dk_30 (dk_at dksJ1_max_2_0 6 rfl rfl)
theorem dJ1_max_2_7 : decode cJ1_max_2 7 = .ok (.goto 4, 3) := dk_167 0 4 (dk_at dksJ1_max_2_0 7 rfl rfl)
theorem dJ1_max_2_10 : decode cJ1_max_2 10 = .ok (.lload_n 2, 1) := dk_32 (dk_at dksJ1_max_2_0 10 rfl rfl)
theorem dJ1_max_2_11 : decode cJ1_max_2 11 = .ok (.lreturn, 1) := dk_173 (dk_at dksJ1_max_2_0 11 rfl rfl)
abbrev cJ1_abs : ByteArray := prog_26_method_59_code
def yJ1_abs : MethodName := ⟨RJ1, "abs", "(I)I"⟩
def dkwJ1_abs_0 : List UInt8 := [26, 156, 0, 8, 26, 116, 167, 0, 4, 26, 172]
abbrev dktJ1_abs_0 : List UInt8 := dkwJ1_abs_0 ++ []
theorem dksJ1_abs_0 : cJ1_abs.data.toList.drop 0 = dktJ1_abs_0 := by decide +kernel
theorem dJ1_abs_0 : decode cJ1_abs 0 = .ok (.iload_n 0, 1) := dk_26 (dk_at dksJ1_abs_0 0 rfl rfl)
theorem dJ1_abs_1 : decode cJ1_abs 1 = .ok (.ifCond .ge 8, 3) := dk_156 0 8 (dk_at dksJ1_abs_0 1 rfl rfl)
theorem dJ1_abs_4 : decode cJ1_abs 4 = .ok (.iload_n 0, 1) := dk_26 (dk_at dksJ1_abs_0 4 rfl rfl)
theorem dJ1_abs_5 : decode cJ1_abs 5 = .ok (.ineg, 1) := dk_116 (dk_at dksJ1_abs_0 5 rfl rfl)
theorem dJ1_abs_6 : decode cJ1_abs 6 = .ok (.goto 4, 3) := dk_167 0 4 (dk_at dksJ1_abs_0 6 rfl rfl)
theorem dJ1_abs_9 : decode cJ1_abs 9 = .ok (.iload_n 0, 1) := dk_26 (dk_at dksJ1_abs_0 9 rfl rfl)
theorem dJ1_abs_10 : decode cJ1_abs 10 = .ok (.ireturn, 1) := dk_172 (dk_at dksJ1_abs_0 10 rfl rfl)
theorem q128 : (Jvm.Cond.initialized "java/lang/Math") ∈ lw_all := lw_g (lw_at lw_m1 4 rfl) rfl
theorem q238 : (Jvm.Cond.static ({ cls := "java/lang/Math", name := "min", desc := "(II)I" } : Jvm.MethodName)) ∈ lw_all := lw_g (lw_at lw_m1 114 rfl) rfl
theorem q239 : (Jvm.Cond.code ({ cls := "java/lang/Math", name := "min", desc := "(II)I" } : Jvm.MethodName) prog_26_method_69_code (2 : Nat) (Option.some Jvm.ClassFile.FieldType.int)) ∈ lw_all := lw_g (lw_at lw_m1 115 rfl) rfl
theorem q241 : (Jvm.Cond.static ({ cls := "java/lang/Math", name := "max", desc := "(II)I" } : Jvm.MethodName)) ∈ lw_all := lw_g (lw_at lw_m1 117 rfl) rfl
theorem q242 : (Jvm.Cond.code ({ cls := "java/lang/Math", name := "max", desc := "(II)I" } : Jvm.MethodName) prog_26_method_65_code (2 : Nat) (Option.some Jvm.ClassFile.FieldType.int)) ∈ lw_all := lw_g (lw_at lw_m1 118 rfl) rfl
theorem q993 : (Jvm.Cond.static ({ cls := "java/lang/Math", name := "min", desc := "(JJ)J" } : Jvm.MethodName)) ∈ lw_all := lw_g (lw_at lw_m4 149 rfl) rfl
theorem q994 : (Jvm.Cond.code ({ cls := "java/lang/Math", name := "min", desc := "(JJ)J" } : Jvm.MethodName) prog_26_method_70_code (4 : Nat) (Option.some Jvm.ClassFile.FieldType.long)) ∈ lw_all := lw_g (lw_at lw_m4 150 rfl) rfl
theorem q996 : (Jvm.Cond.static ({ cls := "java/lang/Math", name := "max", desc := "(JJ)J" } : Jvm.MethodName)) ∈ lw_all := lw_g (lw_at lw_m4 152 rfl) rfl
theorem q997 : (Jvm.Cond.code ({ cls := "java/lang/Math", name := "max", desc := "(JJ)J" } : Jvm.MethodName) prog_26_method_66_code (4 : Nat) (Option.some Jvm.ClassFile.FieldType.long)) ∈ lw_all := lw_g (lw_at lw_m4 153 rfl) rfl
theorem q1189 : (Jvm.Cond.static ({ cls := "java/lang/Math", name := "abs", desc := "(I)I" } : Jvm.MethodName)) ∈ lw_all := lw_g (lw_at lw_m5 105 rfl) rfl
theorem q1190 : (Jvm.Cond.code ({ cls := "java/lang/Math", name := "abs", desc := "(I)I" } : Jvm.MethodName) prog_26_method_59_code (1 : Nat) (Option.some Jvm.ClassFile.FieldType.int)) ∈ lw_all := lw_g (lw_at lw_m5 106 rfl) rfl
/-! java/lang/Exception -/
set_option maxRecDepth 100000
def RJ10 : String := "java/lang/Exception"
abbrev cJ10_init : ByteArray := prog_22_method_1_code
def yJ10_init : MethodName := ⟨RJ10, "<init>", "()V"⟩
theorem dJ10_init_0 : decode cJ10_init 0 = .ok (.aload_n 0, 1) := by decide +kernel
theorem dJ10_init_1 : decode cJ10_init 1 = .ok (.invokespecial 1, 3) := by decide +kernel
theorem dJ10_init_4 : decode cJ10_init 4 = .ok (.return_, 1) := by decide +kernel
theorem q141 : (Jvm.Cond.initialized "java/lang/Exception") ∈ lw_all := lw_g (lw_at lw_m1 17 rfl) rfl
theorem q564 : (Jvm.Cond.declares ({ cls := "java/lang/Exception", name := "<init>", desc := "()V" } : Jvm.MethodName)) ∈ lw_tbl := lw_at lw_m2 200 rfl
theorem q565 : (Jvm.Cond.declares ({ cls := "java/lang/Exception", name := "<init>", desc := "(Ljava/lang/String;)V" } : Jvm.MethodName)) ∈ lw_tbl := lw_at lw_m2 201 rfl
theorem q602 : (Jvm.Cond.instanceMethod ({ cls := "java/lang/Exception", name := "<init>", desc := "()V" } : Jvm.MethodName)) ∈ lw_all := lw_g (lw_at lw_m2 238 rfl) rfl
theorem q603 : (Jvm.Cond.code ({ cls := "java/lang/Exception", name := "<init>", desc := "()V" } : Jvm.MethodName) prog_22_method_1_code (1 : Nat) (Option.none : Option Jvm.ClassFile.FieldType)) ∈ lw_all := lw_g (lw_at lw_m2 239 rfl) rfl
theorem q604 : (Jvm.Cond.methodLink "java/lang/Exception" (1 : Nat) ({ cls := "java/lang/Throwable", name := "<init>", desc := "()V" } : Jvm.MethodName)) ∈ lw_all := lw_g (lw_at lw_m3 0 rfl) rfl
/-! java/lang/Record -/
set_option maxRecDepth 100000
def RJ11 : String := "java/lang/Record"
abbrev cJ11_init : ByteArray := prog_28_method_1_code
def yJ11_init : MethodName := ⟨RJ11, "<init>", "()V"⟩
theorem dJ11_init_0 : decode cJ11_init 0 = .ok (.aload_n 0, 1) := by decide +kernel
theorem dJ11_init_1 : decode cJ11_init 1 = .ok (.invokespecial 1, 3) := by decide +kernel
theorem dJ11_init_4 : decode cJ11_init 4 = .ok (.return_, 1) := by decide +kernel
theorem q143 : (Jvm.Cond.initialized "java/lang/Record") ∈ lw_all := lw_g (lw_at lw_m1 19 rfl) rfl
theorem q653 : (Jvm.Cond.instanceMethod ({ cls := "java/lang/Record", name := "<init>", desc := "()V" } : Jvm.MethodName)) ∈ lw_all := lw_g (lw_at lw_m3 49 rfl) rfl
theorem q654 : (Jvm.Cond.code ({ cls := "java/lang/Record", name := "<init>", desc := "()V" } : Jvm.MethodName) prog_28_method_1_code (1 : Nat) (Option.none : Option Jvm.ClassFile.FieldType)) ∈ lw_all := lw_g (lw_at lw_m3 50 rfl) rfl
theorem q655 : (Jvm.Cond.methodLink "java/lang/Record" (1 : Nat) ({ cls := "java/lang/Object", name := "<init>", desc := "()V" } : Jvm.MethodName)) ∈ lw_all := lw_g (lw_at lw_m3 51 rfl) rfl
/-! java/lang/Number -/
set_option maxRecDepth 100000
def RJ12 : String := "java/lang/Number"
abbrev cJ12_init : ByteArray := prog_27_method_1_code
def yJ12_init : MethodName := ⟨RJ12, "<init>", "()V"⟩
theorem dJ12_init_0 : decode cJ12_init 0 = .ok (.aload_n 0, 1) := by decide +kernel
theorem dJ12_init_1 : decode cJ12_init 1 = .ok (.invokespecial 1, 3) := by decide +kernel
theorem dJ12_init_4 : decode cJ12_init 4 = .ok (.return_, 1) := by decide +kernel
theorem q149 : (Jvm.Cond.initialized "java/lang/Number") ∈ lw_all := lw_g (lw_at lw_m1 25 rfl) rfl
theorem q745 : (Jvm.Cond.instanceMethod ({ cls := "java/lang/Number", name := "<init>", desc := "()V" } : Jvm.MethodName)) ∈ lw_all := lw_g (lw_at lw_m3 141 rfl) rfl
theorem q746 : (Jvm.Cond.code ({ cls := "java/lang/Number", name := "<init>", desc := "()V" } : Jvm.MethodName) prog_27_method_1_code (1 : Nat) (Option.none : Option Jvm.ClassFile.FieldType)) ∈ lw_all := lw_g (lw_at lw_m3 142 rfl) rfl
theorem q747 : (Jvm.Cond.methodLink "java/lang/Number" (1 : Nat) ({ cls := "java/lang/Object", name := "<init>", desc := "()V" } : Jvm.MethodName)) ∈ lw_all := lw_g (lw_at lw_m3 143 rfl) rfl
/-! java/lang/Integer -/
set_option maxRecDepth 100000
def RJ13 : String := "java/lang/Integer"
def TJ13 : u_T := fun k => match k with
  | _ => ("java/lang/Integer", "value", "I", true)
def tyJ13 : Nat → FieldType := fun k => match k with
  | _ => .int
abbrev wsJ130 : List Cond := u_ws RJ13 TJ13 1
theorem nmJ13 : ∀ a, a < 1 → ∀ b, b < 1 → a ≠ b → (TJ13 a).2.1 ≠ (TJ13 b).2.1 := by decide +kernel
theorem tyJ13_ok : ∀ k, k < 1 → parseFieldDescriptor (TJ13 k).2.2.1 = some (tyJ13 k) := by decide +kernel
abbrev cJ13_valueOf : ByteArray := prog_23_method_22_code
def yJ13_valueOf : MethodName := ⟨RJ13, "valueOf", "(I)Ljava/lang/Integer;"⟩
def dkwJ13_valueOf_1 : List UInt8 := [187, 0, 1, 89, 26, 183, 0, 199, 176]
abbrev dktJ13_valueOf_1 : List UInt8 := dkwJ13_valueOf_1 ++ []
def dkwJ13_valueOf_0 : List UInt8 := [26, 16, 128, 161, 0, 20, 26, 178, 0, 191, 163, 0, 13, 178, 0, 195, 26, 17, 0, 128, 96, 50, 176]
abbrev dktJ13_valueOf_0 : List UInt8 := dkwJ13_valueOf_0 ++ dktJ13_valueOf_1
theorem dksJ13_valueOf_0 : cJ13_valueOf.data.toList.drop 0 = dktJ13_valueOf_0 := by decide +kernel
theorem dksJ13_valueOf_1 : cJ13_valueOf.data.toList.drop 23 = dktJ13_valueOf_1 := dk_seg dksJ13_valueOf_0 23 rfl rfl
theorem dJ13_valueOf_0 : decode cJ13_valueOf 0 = .ok (.iload_n 0, 1) := dk_26 (dk_at dksJ13_valueOf_0 0 rfl rfl)
theorem dJ13_valueOf_1 : decode cJ13_valueOf 1 = .ok (.bipush (-128), 2) := dk_16 128 (dk_at dksJ13_valueOf_0 1 rfl rfl)
theorem dJ13_valueOf_3 : decode cJ13_valueOf 3 = .ok (.if_icmp .lt 20, 3) := dk_161 0 20 (dk_at dksJ13_valueOf_0 3 rfl rfl)
theorem dJ13_valueOf_6 : decode cJ13_valueOf 6 = .ok (.iload_n 0, 1) := dk_26 (dk_at dksJ13_valueOf_0 6 rfl rfl)
theorem dJ13_valueOf_7 : decode cJ13_valueOf 7 = .ok (.getstatic 191, 3) := dk_178 0 191 (dk_at dksJ13_valueOf_0 7 rfl rfl)
theorem dJ13_valueOf_10 : decode cJ13_valueOf 10 = .ok (.if_icmp .gt 13, 3) := dk_163 0 13 (dk_at dksJ13_valueOf_0 10 rfl rfl)
theorem dJ13_valueOf_13 : decode cJ13_valueOf 13 = .ok (.getstatic 195, 3) := dk_178 0 195 (dk_at dksJ13_valueOf_0 13 rfl rfl)
theorem dJ13_valueOf_16 : decode cJ13_valueOf 16 = .ok (.iload_n 0, 1) := dk_26 (dk_at dksJ13_valueOf_0 16 rfl rfl)
theorem dJ13_valueOf_17 : decode cJ13_valueOf 17 = .ok (.sipush 128, 3) := dk_17 0 128 (dk_at dksJ13_valueOf_0 17 rfl rfl)
theorem dJ13_valueOf_20 : decode cJ13_valueOf 20 = .ok (.iadd, 1) := dk_96 (dk_at dksJ13_valueOf_0 20 rfl rfl)
theorem dJ13_valueOf_21 : decode cJ13_valueOf 21 = .ok (.aaload, 1) := dk_50 (dk_at dksJ13_valueOf_0 21 rfl rfl)
theorem dJ13_valueOf_22 : decode cJ13_valueOf 22 = .ok (.areturn, 1) := dk_176 (dk_at dksJ13_valueOf_0 22 rfl rfl)
theorem dJ13_valueOf_23 : decode cJ13_valueOf 23 = .ok (.new 1, 3) := dk_187 0 1 (dk_at dksJ13_valueOf_1 0 rfl rfl)
theorem dJ13_valueOf_26 : decode cJ13_valueOf 26 = .ok (.dup, 1) := dk_89 (dk_at dksJ13_valueOf_1 3 rfl rfl)
theorem dJ13_valueOf_27 : decode cJ13_valueOf 27 = .ok (.iload_n 0, 1) := dk_26 (dk_at dksJ13_valueOf_1 4 rfl rfl)
theorem dJ13_valueOf_28 : decode cJ13_valueOf 28 = .ok (.invokespecial 199, 3) := dk_183 0 199 (dk_at dksJ13_valueOf_1 5 rfl rfl)
theorem dJ13_valueOf_31 : decode cJ13_valueOf 31 = .ok (.areturn, 1) := dk_176 (dk_at dksJ13_valueOf_1 8 rfl rfl)
abbrev cJ13_init : ByteArray := prog_23_method_23_code
def yJ13_init : MethodName := ⟨RJ13, "<init>", "(I)V"⟩
def dkwJ13_init_0 : List UInt8 := [42, 183, 0, 202, 42, 27, 181, 0, 205, 177]
abbrev dktJ13_init_0 : List UInt8 := dkwJ13_init_0 ++ []
theorem dksJ13_init_0 : cJ13_init.data.toList.drop 0 = dktJ13_init_0 := by decide +kernel
theorem dJ13_init_0 : decode cJ13_init 0 = .ok (.aload_n 0, 1) := dk_42 (dk_at dksJ13_init_0 0 rfl rfl)
theorem dJ13_init_1 : decode cJ13_init 1 = .ok (.invokespecial 202, 3) := dk_183 0 202 (dk_at dksJ13_init_0 1 rfl rfl)
theorem dJ13_init_4 : decode cJ13_init 4 = .ok (.aload_n 0, 1) := dk_42 (dk_at dksJ13_init_0 4 rfl rfl)
theorem dJ13_init_5 : decode cJ13_init 5 = .ok (.iload_n 1, 1) := dk_27 (dk_at dksJ13_init_0 5 rfl rfl)
theorem dJ13_init_6 : decode cJ13_init 6 = .ok (.putfield 205, 3) := dk_181 0 205 (dk_at dksJ13_init_0 6 rfl rfl)
theorem dJ13_init_9 : decode cJ13_init 9 = .ok (.return_, 1) := dk_177 (dk_at dksJ13_init_0 9 rfl rfl)
abbrev cJ13_intValue : ByteArray := prog_23_method_27_code
def yJ13_intValue : MethodName := ⟨RJ13, "intValue", "()I"⟩
theorem dJ13_intValue_0 : decode cJ13_intValue 0 = .ok (.aload_n 0, 1) := by decide +kernel
theorem dJ13_intValue_1 : decode cJ13_intValue 1 = .ok (.getfield 205, 3) := by decide +kernel
theorem dJ13_intValue_4 : decode cJ13_intValue 4 = .ok (.ireturn, 1) := by decide +kernel
theorem q150 : (Jvm.Cond.initialized "java/lang/Integer") ∈ lw_all := lw_g (lw_at lw_m1 26 rfl) rfl
theorem q733 : (Jvm.Cond.static ({ cls := "java/lang/Integer", name := "valueOf", desc := "(I)Ljava/lang/Integer;" } : Jvm.MethodName)) ∈ lw_all := lw_g (lw_at lw_m3 129 rfl) rfl
theorem q734 : (Jvm.Cond.code ({ cls := "java/lang/Integer", name := "valueOf", desc := "(I)Ljava/lang/Integer;" } : Jvm.MethodName) prog_23_method_22_code (1 : Nat) (Option.some (Jvm.ClassFile.FieldType.object "java/lang/Integer"))) ∈ lw_all := lw_g (lw_at lw_m3 130 rfl) rfl
theorem q735 : (Jvm.Cond.fieldLink "java/lang/Integer" (191 : Nat) "java/lang/Integer$IntegerCache" "high" "I") ∈ lw_all := lw_g (lw_at lw_m3 131 rfl) rfl
theorem q737 : (Jvm.Cond.fieldLink "java/lang/Integer" (195 : Nat) "java/lang/Integer$IntegerCache" "cache" "[Ljava/lang/Integer;") ∈ lw_all := lw_g (lw_at lw_m3 133 rfl) rfl
theorem q739 : (Jvm.Cond.classLink "java/lang/Integer" (1 : Nat) "java/lang/Integer") ∈ lw_all := lw_g (lw_at lw_m3 135 rfl) rfl
theorem q740 : (Jvm.Cond.instantiable "java/lang/Integer" (1 : Nat)) ∈ lw_all := lw_g (lw_at lw_m3 136 rfl) rfl
theorem q741 : (Jvm.Cond.methodLink "java/lang/Integer" (199 : Nat) ({ cls := "java/lang/Integer", name := "<init>", desc := "(I)V" } : Jvm.MethodName)) ∈ lw_all := lw_g (lw_at lw_m3 137 rfl) rfl
theorem q742 : (Jvm.Cond.instanceMethod ({ cls := "java/lang/Integer", name := "<init>", desc := "(I)V" } : Jvm.MethodName)) ∈ lw_all := lw_g (lw_at lw_m3 138 rfl) rfl
theorem q743 : (Jvm.Cond.code ({ cls := "java/lang/Integer", name := "<init>", desc := "(I)V" } : Jvm.MethodName) prog_23_method_23_code (2 : Nat) (Option.none : Option Jvm.ClassFile.FieldType)) ∈ lw_all := lw_g (lw_at lw_m3 139 rfl) rfl
theorem q744 : (Jvm.Cond.methodLink "java/lang/Integer" (202 : Nat) ({ cls := "java/lang/Number", name := "<init>", desc := "()V" } : Jvm.MethodName)) ∈ lw_all := lw_g (lw_at lw_m3 140 rfl) rfl
theorem q748 : (Jvm.Cond.fieldLink "java/lang/Integer" (205 : Nat) "java/lang/Integer" "value" "I") ∈ lw_all := lw_g (lw_at lw_m3 144 rfl) rfl
theorem q749 : (Jvm.Cond.laysFinal "java/lang/Integer" "java/lang/Integer" "value" "I") ∈ lw_all := lw_g (lw_at lw_m3 145 rfl) rfl
theorem q750 : (Jvm.Cond.soleField "java/lang/Integer" "value") ∈ lw_all := lw_g (lw_at lw_m3 146 rfl) rfl
theorem q751 : (Jvm.Cond.superclass "java/lang/Integer" "java/lang/Number") ∈ lw_all := lw_g (lw_at lw_m3 147 rfl) rfl
theorem q796 : (Jvm.Cond.selects "java/lang/Integer" ({ cls := "java/lang/Object", name := "getClass", desc := "()Ljava/lang/Class;" } : Jvm.MethodName) ({ cls := "java/lang/Object", name := "getClass", desc := "()Ljava/lang/Class;" } : Jvm.MethodName)) ∈ lw_all := lw_g (lw_at lw_m3 192 rfl) rfl
theorem q987 : (Jvm.Cond.instanceMethod ({ cls := "java/lang/Integer", name := "intValue", desc := "()I" } : Jvm.MethodName)) ∈ lw_all := lw_g (lw_at lw_m4 143 rfl) rfl
theorem q988 : (Jvm.Cond.selects "java/lang/Integer" ({ cls := "java/lang/Integer", name := "intValue", desc := "()I" } : Jvm.MethodName) ({ cls := "java/lang/Integer", name := "intValue", desc := "()I" } : Jvm.MethodName)) ∈ lw_all := lw_g (lw_at lw_m4 144 rfl) rfl
theorem q989 : (Jvm.Cond.code ({ cls := "java/lang/Integer", name := "intValue", desc := "()I" } : Jvm.MethodName) prog_23_method_27_code (1 : Nat) (Option.some Jvm.ClassFile.FieldType.int)) ∈ lw_all := lw_g (lw_at lw_m4 145 rfl) rfl
theorem q1913 : (Jvm.Cond.castable "java/lang/Integer" "java/lang/Object") ∈ lw_tbl := lw_at lw_m8 109 rfl
theorem in_J13 : ∀ w ∈ wsJ130, w ∈ lw_all := lw_in wsJ130 [749] (by decide +kernel) (by decide +kernel)
/-! jdk/internal/util/ArraysSupport -/
set_option maxRecDepth 100000
def RJ14 : String := "jdk/internal/util/ArraysSupport"
abbrev cJ14_newLength : ByteArray := prog_45_method_27_code
def yJ14_newLength : MethodName := ⟨RJ14, "newLength", "(III)I"⟩
def dkwJ14_newLength_1 : List UInt8 := [184, 0, 201, 172]
abbrev dktJ14_newLength_1 : List UInt8 := dkwJ14_newLength_1 ++ []
def dkwJ14_newLength_0 : List UInt8 := [26, 27, 28, 184, 0, 194, 96, 62, 3, 29, 162, 0, 11, 29, 18, 200, 163, 0, 5, 29, 172, 26, 27]
abbrev dktJ14_newLength_0 : List UInt8 := dkwJ14_newLength_0 ++ dktJ14_newLength_1
theorem dksJ14_newLength_0 : cJ14_newLength.data.toList.drop 0 = dktJ14_newLength_0 := by decide +kernel
theorem dksJ14_newLength_1 : cJ14_newLength.data.toList.drop 23 = dktJ14_newLength_1 := dk_seg dksJ14_newLength_0 23 rfl rfl
theorem dJ14_newLength_0 : decode cJ14_newLength 0 = .ok (.iload_n 0, 1) := dk_26 (dk_at dksJ14_newLength_0 0 rfl rfl)
theorem dJ14_newLength_1 : decode cJ14_newLength 1 = .ok (.iload_n 1, 1) := dk_27 (dk_at dksJ14_newLength_0 1 rfl rfl)
theorem dJ14_newLength_2 : decode cJ14_newLength 2 = .ok (.iload_n 2, 1) := dk_28 (dk_at dksJ14_newLength_0 2 rfl rfl)
theorem dJ14_newLength_3 : decode cJ14_newLength 3 = .ok (.invokestatic 194, 3) := dk_184 0 194 (dk_at dksJ14_newLength_0 3 rfl rfl)
theorem dJ14_newLength_6 : decode cJ14_newLength 6 = .ok (.iadd, 1) := dk_96 (dk_at dksJ14_newLength_0 6 rfl rfl)
theorem dJ14_newLength_7 : decode cJ14_newLength 7 = .ok (.istore_n 3, 1) := dk_62 (dk_at dksJ14_newLength_0 7 rfl rfl)
theorem dJ14_newLength_8 : decode cJ14_newLength 8 = .ok (.iconst 0, 1) := dk_3 (dk_at dksJ14_newLength_0 8 rfl rfl)
theorem dJ14_newLength_9 : decode cJ14_newLength 9 = .ok (.iload_n 3, 1) := dk_29 (dk_at dksJ14_newLength_0 9 rfl rfl)
theorem dJ14_newLength_10 : decode cJ14_newLength 10 = .ok (.if_icmp .ge 11, 3) := dk_162 0 11 (dk_at dksJ14_newLength_0 10 rfl rfl)
theorem dJ14_newLength_13 : decode cJ14_newLength 13 = .ok (.iload_n 3, 1) := dk_29 (dk_at dksJ14_newLength_0 13 rfl rfl)
theorem dJ14_newLength_14 : decode cJ14_newLength 14 = .ok (.ldc 200, 2) := dk_18 200 (dk_at dksJ14_newLength_0 14 rfl rfl)
theorem dJ14_newLength_16 : decode cJ14_newLength 16 = .ok (.if_icmp .gt 5, 3) := dk_163 0 5 (dk_at dksJ14_newLength_0 16 rfl rfl)
theorem dJ14_newLength_19 : decode cJ14_newLength 19 = .ok (.iload_n 3, 1) := dk_29 (dk_at dksJ14_newLength_0 19 rfl rfl)
theorem dJ14_newLength_20 : decode cJ14_newLength 20 = .ok (.ireturn, 1) := dk_172 (dk_at dksJ14_newLength_0 20 rfl rfl)
theorem dJ14_newLength_21 : decode cJ14_newLength 21 = .ok (.iload_n 0, 1) := dk_26 (dk_at dksJ14_newLength_0 21 rfl rfl)
theorem dJ14_newLength_22 : decode cJ14_newLength 22 = .ok (.iload_n 1, 1) := dk_27 (dk_at dksJ14_newLength_0 22 rfl rfl)
theorem dJ14_newLength_23 : decode cJ14_newLength 23 = .ok (.invokestatic 201, 3) := dk_184 0 201 (dk_at dksJ14_newLength_1 0 rfl rfl)
theorem dJ14_newLength_26 : decode cJ14_newLength 26 = .ok (.ireturn, 1) := dk_172 (dk_at dksJ14_newLength_1 3 rfl rfl)
abbrev cJ14_hugeLength : ByteArray := prog_45_method_28_code
def yJ14_hugeLength : MethodName := ⟨RJ14, "hugeLength", "(II)I"⟩
def dkwJ14_hugeLength_2 : List UInt8 := [191, 28, 18, 200, 163, 0, 6, 18, 200, 172, 28, 172]
abbrev dktJ14_hugeLength_2 : List UInt8 := dkwJ14_hugeLength_2 ++ []
def dkwJ14_hugeLength_1 : List UInt8 := [26, 182, 0, 98, 18, 208, 182, 0, 94, 27, 182, 0, 98, 18, 210, 182, 0, 94, 182, 0, 101, 183, 0, 212]
abbrev dktJ14_hugeLength_1 : List UInt8 := dkwJ14_hugeLength_1 ++ dktJ14_hugeLength_2
def dkwJ14_hugeLength_0 : List UInt8 := [26, 27, 96, 61, 28, 156, 0, 44, 187, 0, 204, 89, 187, 0, 89, 89, 183, 0, 91, 18, 206, 182, 0, 94]
abbrev dktJ14_hugeLength_0 : List UInt8 := dkwJ14_hugeLength_0 ++ dktJ14_hugeLength_1
theorem dksJ14_hugeLength_0 : cJ14_hugeLength.data.toList.drop 0 = dktJ14_hugeLength_0 := by decide +kernel
theorem dksJ14_hugeLength_1 : cJ14_hugeLength.data.toList.drop 24 = dktJ14_hugeLength_1 := dk_seg dksJ14_hugeLength_0 24 rfl rfl
theorem dksJ14_hugeLength_2 : cJ14_hugeLength.data.toList.drop 48 = dktJ14_hugeLength_2 := dk_seg dksJ14_hugeLength_1 24 rfl rfl
theorem dJ14_hugeLength_0 : decode cJ14_hugeLength 0 = .ok (.iload_n 0, 1) := dk_26 (dk_at dksJ14_hugeLength_0 0 rfl rfl)
theorem dJ14_hugeLength_1 : decode cJ14_hugeLength 1 = .ok (.iload_n 1, 1) := dk_27 (dk_at dksJ14_hugeLength_0 1 rfl rfl)
theorem dJ14_hugeLength_2 : decode cJ14_hugeLength 2 = .ok (.iadd, 1) := dk_96 (dk_at dksJ14_hugeLength_0 2 rfl rfl)
theorem dJ14_hugeLength_3 : decode cJ14_hugeLength 3 = .ok (.istore_n 2, 1) := dk_61 (dk_at dksJ14_hugeLength_0 3 rfl rfl)
theorem dJ14_hugeLength_4 : decode cJ14_hugeLength 4 = .ok (.iload_n 2, 1) := dk_28 (dk_at dksJ14_hugeLength_0 4 rfl rfl)
theorem dJ14_hugeLength_5 : decode cJ14_hugeLength 5 = .ok (.ifCond .ge 44, 3) := dk_156 0 44 (dk_at dksJ14_hugeLength_0 5 rfl rfl)
theorem dJ14_hugeLength_8 : decode cJ14_hugeLength 8 = .ok (.new 204, 3) := dk_187 0 204 (dk_at dksJ14_hugeLength_0 8 rfl rfl)
theorem dJ14_hugeLength_11 : decode cJ14_hugeLength 11 = .ok (.dup, 1) := dk_89 (dk_at dksJ14_hugeLength_0 11 rfl rfl)
theorem dJ14_hugeLength_12 : decode cJ14_hugeLength 12 = .ok (.new 89, 3) := dk_187 0 89 (dk_at dksJ14_hugeLength_0 12 rfl rfl)
theorem dJ14_hugeLength_15 : decode cJ14_hugeLength 15 = .ok (.dup, 1) := dk_89 (dk_at dksJ14_hugeLength_0 15 rfl rfl)
theorem dJ14_hugeLength_16 : decode cJ14_hugeLength 16 = .ok (.invokespecial 91, 3) := dk_183 0 91 (dk_at dksJ14_hugeLength_0 16 rfl rfl)
theorem dJ14_hugeLength_19 : decode cJ14_hugeLength 19 = .ok (.ldc 206, 2) := dk_18 206 (dk_at dksJ14_hugeLength_0 19 rfl rfl)
theorem dJ14_hugeLength_21 : decode cJ14_hugeLength 21 = .ok (.invokevirtual 94, 3) := dk_182 0 94 (dk_at dksJ14_hugeLength_0 21 rfl rfl)
theorem dJ14_hugeLength_24 : decode cJ14_hugeLength 24 = .ok (.iload_n 0, 1) := dk_26 (dk_at dksJ14_hugeLength_1 0 rfl rfl)
theorem dJ14_hugeLength_25 : decode cJ14_hugeLength 25 = .ok (.invokevirtual 98, 3) := dk_182 0 98 (dk_at dksJ14_hugeLength_1 1 rfl rfl)
theorem dJ14_hugeLength_28 : decode cJ14_hugeLength 28 = .ok (.ldc 208, 2) := dk_18 208 (dk_at dksJ14_hugeLength_1 4 rfl rfl)
theorem dJ14_hugeLength_30 : decode cJ14_hugeLength 30 = .ok (.invokevirtual 94, 3) := dk_182 0 94 (dk_at dksJ14_hugeLength_1 6 rfl rfl)
theorem dJ14_hugeLength_33 : decode cJ14_hugeLength 33 = .ok (.iload_n 1, 1) := dk_27 (dk_at dksJ14_hugeLength_1 9 rfl rfl)
theorem dJ14_hugeLength_34 : decode cJ14_hugeLength 34 = .ok (.invokevirtual 98, 3) := dk_182 0 98 (dk_at dksJ14_hugeLength_1 10 rfl rfl)
theorem dJ14_hugeLength_37 : decode cJ14_hugeLength 37 = .ok (.ldc 210, 2) := dk_18 210 (dk_at dksJ14_hugeLength_1 13 rfl rfl)
theorem dJ14_hugeLength_39 : decode cJ14_hugeLength 39 = .ok (.invokevirtual 94, 3) := dk_182 0 94 (dk_at dksJ14_hugeLength_1 15 rfl rfl)
theorem dJ14_hugeLength_42 : decode cJ14_hugeLength 42 = .ok (.invokevirtual 101, 3) := dk_182 0 101 (dk_at dksJ14_hugeLength_1 18 rfl rfl)
theorem dJ14_hugeLength_45 : decode cJ14_hugeLength 45 = .ok (.invokespecial 212, 3) := dk_183 0 212 (dk_at dksJ14_hugeLength_1 21 rfl rfl)
theorem dJ14_hugeLength_48 : decode cJ14_hugeLength 48 = .ok (.athrow, 1) := dk_191 (dk_at dksJ14_hugeLength_2 0 rfl rfl)
theorem dJ14_hugeLength_49 : decode cJ14_hugeLength 49 = .ok (.iload_n 2, 1) := dk_28 (dk_at dksJ14_hugeLength_2 1 rfl rfl)
theorem dJ14_hugeLength_50 : decode cJ14_hugeLength 50 = .ok (.ldc 200, 2) := dk_18 200 (dk_at dksJ14_hugeLength_2 2 rfl rfl)
theorem dJ14_hugeLength_52 : decode cJ14_hugeLength 52 = .ok (.if_icmp .gt 6, 3) := dk_163 0 6 (dk_at dksJ14_hugeLength_2 4 rfl rfl)
theorem dJ14_hugeLength_55 : decode cJ14_hugeLength 55 = .ok (.ldc 200, 2) := dk_18 200 (dk_at dksJ14_hugeLength_2 7 rfl rfl)
theorem dJ14_hugeLength_57 : decode cJ14_hugeLength 57 = .ok (.ireturn, 1) := dk_172 (dk_at dksJ14_hugeLength_2 9 rfl rfl)
theorem dJ14_hugeLength_58 : decode cJ14_hugeLength 58 = .ok (.iload_n 2, 1) := dk_28 (dk_at dksJ14_hugeLength_2 10 rfl rfl)
theorem dJ14_hugeLength_59 : decode cJ14_hugeLength 59 = .ok (.ireturn, 1) := dk_172 (dk_at dksJ14_hugeLength_2 11 rfl rfl)
theorem q152 : (Jvm.Cond.initialized "jdk/internal/util/ArraysSupport") ∈ lw_all := lw_g (lw_at lw_m1 28 rfl) rfl
theorem q769 : (Jvm.Cond.static ({ cls := "jdk/internal/util/ArraysSupport", name := "newLength", desc := "(III)I" } : Jvm.MethodName)) ∈ lw_all := lw_g (lw_at lw_m3 165 rfl) rfl
theorem q770 : (Jvm.Cond.code ({ cls := "jdk/internal/util/ArraysSupport", name := "newLength", desc := "(III)I" } : Jvm.MethodName) prog_45_method_27_code (4 : Nat) (Option.some Jvm.ClassFile.FieldType.int)) ∈ lw_all := lw_g (lw_at lw_m3 166 rfl) rfl
theorem q771 : (Jvm.Cond.methodLink "jdk/internal/util/ArraysSupport" (194 : Nat) ({ cls := "java/lang/Math", name := "max", desc := "(II)I" } : Jvm.MethodName)) ∈ lw_all := lw_g (lw_at lw_m3 167 rfl) rfl
theorem q772 : (Jvm.Cond.constant "jdk/internal/util/ArraysSupport" (200 : Nat) (2147483639 : Int32)) ∈ lw_all := lw_g (lw_at lw_m3 168 rfl) rfl
theorem q773 : (Jvm.Cond.methodLink "jdk/internal/util/ArraysSupport" (201 : Nat) ({ cls := "jdk/internal/util/ArraysSupport", name := "hugeLength", desc := "(II)I" } : Jvm.MethodName)) ∈ lw_all := lw_g (lw_at lw_m3 169 rfl) rfl
theorem q774 : (Jvm.Cond.static ({ cls := "jdk/internal/util/ArraysSupport", name := "hugeLength", desc := "(II)I" } : Jvm.MethodName)) ∈ lw_all := lw_g (lw_at lw_m3 170 rfl) rfl
theorem q775 : (Jvm.Cond.code ({ cls := "jdk/internal/util/ArraysSupport", name := "hugeLength", desc := "(II)I" } : Jvm.MethodName) prog_45_method_28_code (3 : Nat) (Option.some Jvm.ClassFile.FieldType.int)) ∈ lw_all := lw_g (lw_at lw_m3 171 rfl) rfl
/-! java/util/Objects -/
set_option maxRecDepth 100000
def RJ15 : String := "java/util/Objects"
abbrev cJ15_checkIndex : ByteArray := prog_42_method_17_code
def yJ15_checkIndex : MethodName := ⟨RJ15, "checkIndex", "(II)I"⟩
def dkwJ15_checkIndex_0 : List UInt8 := [26, 27, 1, 184, 0, 105, 172]
abbrev dktJ15_checkIndex_0 : List UInt8 := dkwJ15_checkIndex_0 ++ []
theorem dksJ15_checkIndex_0 : cJ15_checkIndex.data.toList.drop 0 = dktJ15_checkIndex_0 := by decide +kernel
theorem dJ15_checkIndex_0 : decode cJ15_checkIndex 0 = .ok (.iload_n 0, 1) := dk_26 (dk_at dksJ15_checkIndex_0 0 rfl rfl)
theorem dJ15_checkIndex_1 : decode cJ15_checkIndex 1 = .ok (.iload_n 1, 1) := dk_27 (dk_at dksJ15_checkIndex_0 1 rfl rfl)
theorem dJ15_checkIndex_2 : decode cJ15_checkIndex 2 = .ok (.aconst_null, 1) := dk_1 (dk_at dksJ15_checkIndex_0 2 rfl rfl)
theorem dJ15_checkIndex_3 : decode cJ15_checkIndex 3 = .ok (.invokestatic 105, 3) := dk_184 0 105 (dk_at dksJ15_checkIndex_0 3 rfl rfl)
theorem dJ15_checkIndex_6 : decode cJ15_checkIndex 6 = .ok (.ireturn, 1) := dk_172 (dk_at dksJ15_checkIndex_0 6 rfl rfl)
theorem q154 : (Jvm.Cond.initialized "java/util/Objects") ∈ lw_all := lw_g (lw_at lw_m1 30 rfl) rfl
theorem q843 : (Jvm.Cond.static ({ cls := "java/util/Objects", name := "checkIndex", desc := "(II)I" } : Jvm.MethodName)) ∈ lw_all := lw_g (lw_at lw_m3 239 rfl) rfl
theorem q844 : (Jvm.Cond.code ({ cls := "java/util/Objects", name := "checkIndex", desc := "(II)I" } : Jvm.MethodName) prog_42_method_17_code (2 : Nat) (Option.some Jvm.ClassFile.FieldType.int)) ∈ lw_all := lw_g (lw_at lw_m4 0 rfl) rfl
theorem q845 : (Jvm.Cond.methodLink "java/util/Objects" (105 : Nat) ({ cls := "jdk/internal/util/Preconditions", name := "checkIndex", desc := "(IILjava/util/function/BiFunction;)I" } : Jvm.MethodName)) ∈ lw_all := lw_g (lw_at lw_m4 1 rfl) rfl
/-! java/lang/Object -/
set_option maxRecDepth 100000
def RJ16 : String := "java/lang/Object"
abbrev cJ16_init : ByteArray := object_method_1_code
def yJ16_init : MethodName := ⟨RJ16, "<init>", "()V"⟩
theorem dJ16_init_0 : decode cJ16_init 0 = .ok (.return_, 1) := by decide +kernel
theorem q163 : (Jvm.Cond.instanceMethod ({ cls := "java/lang/Object", name := "<init>", desc := "()V" } : Jvm.MethodName)) ∈ lw_all := lw_g (lw_at lw_m1 39 rfl) rfl
theorem q164 : (Jvm.Cond.code ({ cls := "java/lang/Object", name := "<init>", desc := "()V" } : Jvm.MethodName) object_method_1_code (1 : Nat) (Option.none : Option Jvm.ClassFile.FieldType)) ∈ lw_all := lw_g (lw_at lw_m1 40 rfl) rfl
theorem q780 : (Jvm.Cond.instanceMethod ({ cls := "java/lang/Object", name := "getClass", desc := "()Ljava/lang/Class;" } : Jvm.MethodName)) ∈ lw_all := lw_g (lw_at lw_m3 176 rfl) rfl
theorem q781 : (Jvm.Cond.sameMethod "java/lang/Object" "java/lang/Object" "getClass" "()Ljava/lang/Class;") ∈ lw_all := lw_g (lw_at lw_m3 177 rfl) rfl
theorem q798 : (Jvm.Cond.native ({ cls := "java/lang/Object", name := "getClass", desc := "()Ljava/lang/Class;" } : Jvm.MethodName)) ∈ lw_all := lw_g (lw_at lw_m3 194 rfl) rfl
theorem q1899 : (Jvm.Cond.initialized "java/lang/Object") ∈ lw_all := lw_g (lw_at lw_m8 95 rfl) rfl
theorem q1920 : (Jvm.Cond.declares ({ cls := "java/lang/Object", name := "getClass", desc := "()Ljava/lang/Class;" } : Jvm.MethodName)) ∈ lw_tbl := lw_at lw_m8 116 rfl
/-! java/util/AbstractCollection -/
set_option maxRecDepth 100000
def RJ2 : String := "java/util/AbstractCollection"
abbrev cJ2_init : ByteArray := prog_36_method_1_code
def yJ2_init : MethodName := ⟨RJ2, "<init>", "()V"⟩
theorem dJ2_init_0 : decode cJ2_init 0 = .ok (.aload_n 0, 1) := by decide +kernel
theorem dJ2_init_1 : decode cJ2_init 1 = .ok (.invokespecial 1, 3) := by decide +kernel
theorem dJ2_init_4 : decode cJ2_init 4 = .ok (.return_, 1) := by decide +kernel
theorem q133 : (Jvm.Cond.initialized "java/util/AbstractCollection") ∈ lw_all := lw_g (lw_at lw_m1 9 rfl) rfl
theorem q441 : (Jvm.Cond.instanceMethod ({ cls := "java/util/AbstractCollection", name := "<init>", desc := "()V" } : Jvm.MethodName)) ∈ lw_all := lw_g (lw_at lw_m2 77 rfl) rfl
theorem q442 : (Jvm.Cond.code ({ cls := "java/util/AbstractCollection", name := "<init>", desc := "()V" } : Jvm.MethodName) prog_36_method_1_code (1 : Nat) (Option.none : Option Jvm.ClassFile.FieldType)) ∈ lw_all := lw_g (lw_at lw_m2 78 rfl) rfl
theorem q443 : (Jvm.Cond.methodLink "java/util/AbstractCollection" (1 : Nat) ({ cls := "java/lang/Object", name := "<init>", desc := "()V" } : Jvm.MethodName)) ∈ lw_all := lw_g (lw_at lw_m2 79 rfl) rfl
/-! java/util/AbstractList -/
set_option maxRecDepth 100000
def RJ3 : String := "java/util/AbstractList"
abbrev cJ3_init : ByteArray := prog_37_method_1_code
def yJ3_init : MethodName := ⟨RJ3, "<init>", "()V"⟩
def dkwJ3_init_0 : List UInt8 := [42, 183, 0, 1, 42, 3, 181, 0, 7, 177]
abbrev dktJ3_init_0 : List UInt8 := dkwJ3_init_0 ++ []
theorem dksJ3_init_0 : cJ3_init.data.toList.drop 0 = dktJ3_init_0 := by decide +kernel
theorem dJ3_init_0 : decode cJ3_init 0 = .ok (.aload_n 0, 1) := dk_42 (dk_at dksJ3_init_0 0 rfl rfl)
theorem dJ3_init_1 : decode cJ3_init 1 = .ok (.invokespecial 1, 3) := dk_183 0 1 (dk_at dksJ3_init_0 1 rfl rfl)
theorem dJ3_init_4 : decode cJ3_init 4 = .ok (.aload_n 0, 1) := dk_42 (dk_at dksJ3_init_0 4 rfl rfl)
theorem dJ3_init_5 : decode cJ3_init 5 = .ok (.iconst 0, 1) := dk_3 (dk_at dksJ3_init_0 5 rfl rfl)
theorem dJ3_init_6 : decode cJ3_init 6 = .ok (.putfield 7, 3) := dk_181 0 7 (dk_at dksJ3_init_0 6 rfl rfl)
theorem dJ3_init_9 : decode cJ3_init 9 = .ok (.return_, 1) := dk_177 (dk_at dksJ3_init_0 9 rfl rfl)
theorem q134 : (Jvm.Cond.initialized "java/util/AbstractList") ∈ lw_all := lw_g (lw_at lw_m1 10 rfl) rfl
theorem q438 : (Jvm.Cond.instanceMethod ({ cls := "java/util/AbstractList", name := "<init>", desc := "()V" } : Jvm.MethodName)) ∈ lw_all := lw_g (lw_at lw_m2 74 rfl) rfl
theorem q439 : (Jvm.Cond.code ({ cls := "java/util/AbstractList", name := "<init>", desc := "()V" } : Jvm.MethodName) prog_37_method_1_code (1 : Nat) (Option.none : Option Jvm.ClassFile.FieldType)) ∈ lw_all := lw_g (lw_at lw_m2 75 rfl) rfl
theorem q440 : (Jvm.Cond.methodLink "java/util/AbstractList" (1 : Nat) ({ cls := "java/util/AbstractCollection", name := "<init>", desc := "()V" } : Jvm.MethodName)) ∈ lw_all := lw_g (lw_at lw_m2 76 rfl) rfl
theorem q448 : (Jvm.Cond.fieldLink "java/util/AbstractList" (7 : Nat) "java/util/AbstractList" "modCount" "I") ∈ lw_all := lw_g (lw_at lw_m2 84 rfl) rfl
theorem q456 : (Jvm.Cond.soleField "java/util/AbstractList" "modCount") ∈ lw_all := lw_g (lw_at lw_m2 92 rfl) rfl
/-! java/util/ArrayList -/
set_option maxRecDepth 100000
def RJ4 : String := "java/util/ArrayList"
def TJ4 : u_T := fun k => match k with
  | 0 => ("java/util/AbstractList", "modCount", "I", false)
  | 1 => ("java/util/ArrayList", "elementData", "[Ljava/lang/Object;", false)
  | _ => ("java/util/ArrayList", "size", "I", false)
def tyJ4 : Nat → FieldType := fun k => match k with
  | 0 => .int
  | 1 => .array (.object "java/lang/Object")
  | _ => .int
abbrev wsJ40 : List Cond := u_ws RJ4 TJ4 3
theorem nmJ4 : ∀ a, a < 3 → ∀ b, b < 3 → a ≠ b → (TJ4 a).2.1 ≠ (TJ4 b).2.1 := by decide +kernel
theorem tyJ4_ok : ∀ k, k < 3 → parseFieldDescriptor (TJ4 k).2.2.1 = some (tyJ4 k) := by decide +kernel
abbrev cJ4_init : ByteArray := prog_38_method_2_code
def yJ4_init : MethodName := ⟨RJ4, "<init>", "()V"⟩
def dkwJ4_init_0 : List UInt8 := [42, 183, 0, 1, 42, 178, 0, 39, 181, 0, 9, 177]
abbrev dktJ4_init_0 : List UInt8 := dkwJ4_init_0 ++ []
theorem dksJ4_init_0 : cJ4_init.data.toList.drop 0 = dktJ4_init_0 := by decide +kernel
theorem dJ4_init_0 : decode cJ4_init 0 = .ok (.aload_n 0, 1) := dk_42 (dk_at dksJ4_init_0 0 rfl rfl)
theorem dJ4_init_1 : decode cJ4_init 1 = .ok (.invokespecial 1, 3) := dk_183 0 1 (dk_at dksJ4_init_0 1 rfl rfl)
theorem dJ4_init_4 : decode cJ4_init 4 = .ok (.aload_n 0, 1) := dk_42 (dk_at dksJ4_init_0 4 rfl rfl)
theorem dJ4_init_5 : decode cJ4_init 5 = .ok (.getstatic 39, 3) := dk_178 0 39 (dk_at dksJ4_init_0 5 rfl rfl)
theorem dJ4_init_8 : decode cJ4_init 8 = .ok (.putfield 9, 3) := dk_181 0 9 (dk_at dksJ4_init_0 8 rfl rfl)
theorem dJ4_init_11 : decode cJ4_init 11 = .ok (.return_, 1) := dk_177 (dk_at dksJ4_init_0 11 rfl rfl)
abbrev cJ4_add : ByteArray := prog_38_method_25_code
def yJ4_add : MethodName := ⟨RJ4, "add", "(Ljava/lang/Object;)Z"⟩
def dkwJ4_add_1 : List UInt8 := [172]
abbrev dktJ4_add_1 : List UInt8 := dkwJ4_add_1 ++ []
def dkwJ4_add_0 : List UInt8 := [42, 89, 180, 0, 63, 4, 96, 181, 0, 63, 42, 43, 42, 180, 0, 9, 42, 180, 0, 48, 182, 0, 131, 4]
abbrev dktJ4_add_0 : List UInt8 := dkwJ4_add_0 ++ dktJ4_add_1
theorem dksJ4_add_0 : cJ4_add.data.toList.drop 0 = dktJ4_add_0 := by decide +kernel
theorem dksJ4_add_1 : cJ4_add.data.toList.drop 24 = dktJ4_add_1 := dk_seg dksJ4_add_0 24 rfl rfl
theorem dJ4_add_0 : decode cJ4_add 0 = .ok (.aload_n 0, 1) := dk_42 (dk_at dksJ4_add_0 0 rfl rfl)
theorem dJ4_add_1 : decode cJ4_add 1 = .ok (.dup, 1) := dk_89 (dk_at dksJ4_add_0 1 rfl rfl)
theorem dJ4_add_2 : decode cJ4_add 2 = .ok (.getfield 63, 3) := dk_180 0 63 (dk_at dksJ4_add_0 2 rfl rfl)
theorem dJ4_add_5 : decode cJ4_add 5 = .ok (.iconst 1, 1) := dk_4 (dk_at dksJ4_add_0 5 rfl rfl)
theorem dJ4_add_6 : decode cJ4_add 6 = .ok (.iadd, 1) := dk_96 (dk_at dksJ4_add_0 6 rfl rfl)
theorem dJ4_add_7 : decode cJ4_add 7 = .ok (.putfield 63, 3) := dk_181 0 63 (dk_at dksJ4_add_0 7 rfl rfl)
theorem dJ4_add_10 : decode cJ4_add 10 = .ok (.aload_n 0, 1) := dk_42 (dk_at dksJ4_add_0 10 rfl rfl)
theorem dJ4_add_11 : decode cJ4_add 11 = .ok (.aload_n 1, 1) := dk_43 (dk_at dksJ4_add_0 11 rfl rfl)
theorem dJ4_add_12 : decode cJ4_add 12 = .ok (.aload_n 0, 1) := dk_42 (dk_at dksJ4_add_0 12 rfl rfl)
theorem dJ4_add_13 : decode cJ4_add 13 = .ok (.getfield 9, 3) := dk_180 0 9 (dk_at dksJ4_add_0 13 rfl rfl)
theorem dJ4_add_16 : decode cJ4_add 16 = .ok (.aload_n 0, 1) := dk_42 (dk_at dksJ4_add_0 16 rfl rfl)
theorem dJ4_add_17 : decode cJ4_add 17 = .ok (.getfield 48, 3) := dk_180 0 48 (dk_at dksJ4_add_0 17 rfl rfl)
theorem dJ4_add_20 : decode cJ4_add 20 = .ok (.invokevirtual 131, 3) := dk_182 0 131 (dk_at dksJ4_add_0 20 rfl rfl)
theorem dJ4_add_23 : decode cJ4_add 23 = .ok (.iconst 1, 1) := dk_4 (dk_at dksJ4_add_0 23 rfl rfl)
theorem dJ4_add_24 : decode cJ4_add 24 = .ok (.ireturn, 1) := dk_172 (dk_at dksJ4_add_1 0 rfl rfl)
abbrev cJ4_add_2 : ByteArray := prog_38_method_24_code
def yJ4_add_2 : MethodName := ⟨RJ4, "add", "(Ljava/lang/Object;[Ljava/lang/Object;I)V"⟩
def dkwJ4_add_2_0 : List UInt8 := [29, 44, 190, 160, 0, 8, 42, 182, 0, 129, 77, 44, 29, 43, 83, 42, 29, 4, 96, 181, 0, 48, 177]
abbrev dktJ4_add_2_0 : List UInt8 := dkwJ4_add_2_0 ++ []
theorem dksJ4_add_2_0 : cJ4_add_2.data.toList.drop 0 = dktJ4_add_2_0 := by decide +kernel
theorem dJ4_add_2_0 : decode cJ4_add_2 0 = .ok (.iload_n 3, 1) := dk_29 (dk_at dksJ4_add_2_0 0 rfl rfl)
theorem dJ4_add_2_1 : decode cJ4_add_2 1 = .ok (.aload_n 2, 1) := dk_44 (dk_at dksJ4_add_2_0 1 rfl rfl)
theorem dJ4_add_2_2 : decode cJ4_add_2 2 = .ok (.arraylength, 1) := dk_190 (dk_at dksJ4_add_2_0 2 rfl rfl)
theorem dJ4_add_2_3 : decode cJ4_add_2 3 = .ok (.if_icmp .ne 8, 3) := dk_160 0 8 (dk_at dksJ4_add_2_0 3 rfl rfl)
theorem dJ4_add_2_6 : decode cJ4_add_2 6 = .ok (.aload_n 0, 1) := dk_42 (dk_at dksJ4_add_2_0 6 rfl rfl)
theorem dJ4_add_2_7 : decode cJ4_add_2 7 = .ok (.invokevirtual 129, 3) := dk_182 0 129 (dk_at dksJ4_add_2_0 7 rfl rfl)
theorem dJ4_add_2_10 : decode cJ4_add_2 10 = .ok (.astore_n 2, 1) := dk_77 (dk_at dksJ4_add_2_0 10 rfl rfl)
theorem dJ4_add_2_11 : decode cJ4_add_2 11 = .ok (.aload_n 2, 1) := dk_44 (dk_at dksJ4_add_2_0 11 rfl rfl)
theorem dJ4_add_2_12 : decode cJ4_add_2 12 = .ok (.iload_n 3, 1) := dk_29 (dk_at dksJ4_add_2_0 12 rfl rfl)
theorem dJ4_add_2_13 : decode cJ4_add_2 13 = .ok (.aload_n 1, 1) := dk_43 (dk_at dksJ4_add_2_0 13 rfl rfl)
theorem dJ4_add_2_14 : decode cJ4_add_2 14 = .ok (.aastore, 1) := dk_83 (dk_at dksJ4_add_2_0 14 rfl rfl)
theorem dJ4_add_2_15 : decode cJ4_add_2 15 = .ok (.aload_n 0, 1) := dk_42 (dk_at dksJ4_add_2_0 15 rfl rfl)
theorem dJ4_add_2_16 : decode cJ4_add_2 16 = .ok (.iload_n 3, 1) := dk_29 (dk_at dksJ4_add_2_0 16 rfl rfl)
theorem dJ4_add_2_17 : decode cJ4_add_2 17 = .ok (.iconst 1, 1) := dk_4 (dk_at dksJ4_add_2_0 17 rfl rfl)
theorem dJ4_add_2_18 : decode cJ4_add_2 18 = .ok (.iadd, 1) := dk_96 (dk_at dksJ4_add_2_0 18 rfl rfl)
theorem dJ4_add_2_19 : decode cJ4_add_2 19 = .ok (.putfield 48, 3) := dk_181 0 48 (dk_at dksJ4_add_2_0 19 rfl rfl)
theorem dJ4_add_2_22 : decode cJ4_add_2 22 = .ok (.return_, 1) := dk_177 (dk_at dksJ4_add_2_0 22 rfl rfl)
abbrev cJ4_grow : ByteArray := prog_38_method_7_code
def yJ4_grow : MethodName := ⟨RJ4, "grow", "()[Ljava/lang/Object;"⟩
def dkwJ4_grow_0 : List UInt8 := [42, 42, 180, 0, 48, 4, 96, 182, 0, 69, 176]
abbrev dktJ4_grow_0 : List UInt8 := dkwJ4_grow_0 ++ []
theorem dksJ4_grow_0 : cJ4_grow.data.toList.drop 0 = dktJ4_grow_0 := by decide +kernel
theorem dJ4_grow_0 : decode cJ4_grow 0 = .ok (.aload_n 0, 1) := dk_42 (dk_at dksJ4_grow_0 0 rfl rfl)
theorem dJ4_grow_1 : decode cJ4_grow 1 = .ok (.aload_n 0, 1) := dk_42 (dk_at dksJ4_grow_0 1 rfl rfl)
theorem dJ4_grow_2 : decode cJ4_grow 2 = .ok (.getfield 48, 3) := dk_180 0 48 (dk_at dksJ4_grow_0 2 rfl rfl)
theorem dJ4_grow_5 : decode cJ4_grow 5 = .ok (.iconst 1, 1) := dk_4 (dk_at dksJ4_grow_0 5 rfl rfl)
theorem dJ4_grow_6 : decode cJ4_grow 6 = .ok (.iadd, 1) := dk_96 (dk_at dksJ4_grow_0 6 rfl rfl)
theorem dJ4_grow_7 : decode cJ4_grow 7 = .ok (.invokevirtual 69, 3) := dk_182 0 69 (dk_at dksJ4_grow_0 7 rfl rfl)
theorem dJ4_grow_10 : decode cJ4_grow 10 = .ok (.areturn, 1) := dk_176 (dk_at dksJ4_grow_0 10 rfl rfl)
abbrev cJ4_grow_2 : ByteArray := prog_38_method_6_code
def yJ4_grow_2 : MethodName := ⟨RJ4, "grow", "(I)[Ljava/lang/Object;"⟩
def dkwJ4_grow_2_2 : List UInt8 := [27, 184, 0, 79, 189, 0, 7, 90, 181, 0, 9, 176]
abbrev dktJ4_grow_2_2 : List UInt8 := dkwJ4_grow_2_2 ++ []
def dkwJ4_grow_2_1 : List UInt8 := [28, 4, 122, 184, 0, 73, 62, 42, 42, 180, 0, 9, 29, 184, 0, 66, 90, 181, 0, 9, 176, 42, 16, 10]
abbrev dktJ4_grow_2_1 : List UInt8 := dkwJ4_grow_2_1 ++ dktJ4_grow_2_2
def dkwJ4_grow_2_0 : List UInt8 := [42, 180, 0, 9, 190, 61, 28, 157, 0, 13, 42, 180, 0, 9, 178, 0, 39, 165, 0, 28, 28, 27, 28, 100]
abbrev dktJ4_grow_2_0 : List UInt8 := dkwJ4_grow_2_0 ++ dktJ4_grow_2_1
theorem dksJ4_grow_2_0 : cJ4_grow_2.data.toList.drop 0 = dktJ4_grow_2_0 := by decide +kernel
theorem dksJ4_grow_2_1 : cJ4_grow_2.data.toList.drop 24 = dktJ4_grow_2_1 := dk_seg dksJ4_grow_2_0 24 rfl rfl
theorem dksJ4_grow_2_2 : cJ4_grow_2.data.toList.drop 48 = dktJ4_grow_2_2 := dk_seg dksJ4_grow_2_1 24 rfl rfl
theorem dJ4_grow_2_0 : decode cJ4_grow_2 0 = .ok (.aload_n 0, 1) := dk_42 (dk_at dksJ4_grow_2_0 0 rfl rfl)
theorem dJ4_grow_2_1 : decode cJ4_grow_2 1 = .ok (.getfield 9, 3) := dk_180 0 9 (dk_at dksJ4_grow_2_0 1 rfl rfl)
theorem dJ4_grow_2_4 : decode cJ4_grow_2 4 = .ok (.arraylength, 1) := dk_190 (dk_at dksJ4_grow_2_0 4 rfl rfl)
theorem dJ4_grow_2_5 : decode cJ4_grow_2 5 = .ok (.istore_n 2, 1) := dk_61 (dk_at dksJ4_grow_2_0 5 rfl rfl)
theorem dJ4_grow_2_6 : decode cJ4_grow_2 6 = .ok (.iload_n 2, 1) := dk_28 (dk_at dksJ4_grow_2_0 6 rfl rfl)
theorem dJ4_grow_2_7 : decode cJ4_grow_2 7 = .ok (.ifCond .gt 13, 3) := dk_157 0 13 (dk_at dksJ4_grow_2_0 7 rfl rfl)
theorem dJ4_grow_2_10 : decode cJ4_grow_2 10 = .ok (.aload_n 0, 1) := dk_42 (dk_at dksJ4_grow_2_0 10 rfl rfl)
theorem dJ4_grow_2_11 : decode cJ4_grow_2 11 = .ok (.getfield 9, 3) := dk_180 0 9 (dk_at dksJ4_grow_2_0 11 rfl rfl)
theorem dJ4_grow_2_14 : decode cJ4_grow_2 14 = .ok (.getstatic 39, 3) := dk_178 0 39 (dk_at dksJ4_grow_2_0 14 rfl rfl)
theorem dJ4_grow_2_17 : decode cJ4_grow_2 17 = .ok (.if_acmp .eq 28, 3) := dk_165 0 28 (dk_at dksJ4_grow_2_0 17 rfl rfl)
theorem dJ4_grow_2_20 : decode cJ4_grow_2 20 = .ok (.iload_n 2, 1) := dk_28 (dk_at dksJ4_grow_2_0 20 rfl rfl)
theorem dJ4_grow_2_21 : decode cJ4_grow_2 21 = .ok (.iload_n 1, 1) := dk_27 (dk_at dksJ4_grow_2_0 21 rfl rfl)
theorem dJ4_grow_2_22 : decode cJ4_grow_2 22 = .ok (.iload_n 2, 1) := dk_28 (dk_at dksJ4_grow_2_0 22 rfl rfl)
theorem dJ4_grow_2_23 : decode cJ4_grow_2 23 = .ok (.isub, 1) := dk_100 (dk_at dksJ4_grow_2_0 23 rfl rfl)
theorem dJ4_grow_2_24 : decode cJ4_grow_2 24 = .ok (.iload_n 2, 1) := dk_28 (dk_at dksJ4_grow_2_1 0 rfl rfl)
theorem dJ4_grow_2_25 : decode cJ4_grow_2 25 = .ok (.iconst 1, 1) := dk_4 (dk_at dksJ4_grow_2_1 1 rfl rfl)
theorem dJ4_grow_2_26 : decode cJ4_grow_2 26 = .ok (.ishr, 1) := dk_122 (dk_at dksJ4_grow_2_1 2 rfl rfl)
theorem dJ4_grow_2_27 : decode cJ4_grow_2 27 = .ok (.invokestatic 73, 3) := dk_184 0 73 (dk_at dksJ4_grow_2_1 3 rfl rfl)
theorem dJ4_grow_2_30 : decode cJ4_grow_2 30 = .ok (.istore_n 3, 1) := dk_62 (dk_at dksJ4_grow_2_1 6 rfl rfl)
theorem dJ4_grow_2_31 : decode cJ4_grow_2 31 = .ok (.aload_n 0, 1) := dk_42 (dk_at dksJ4_grow_2_1 7 rfl rfl)
theorem dJ4_grow_2_32 : decode cJ4_grow_2 32 = .ok (.aload_n 0, 1) := dk_42 (dk_at dksJ4_grow_2_1 8 rfl rfl)
theorem dJ4_grow_2_33 : decode cJ4_grow_2 33 = .ok (.getfield 9, 3) := dk_180 0 9 (dk_at dksJ4_grow_2_1 9 rfl rfl)
theorem dJ4_grow_2_36 : decode cJ4_grow_2 36 = .ok (.iload_n 3, 1) := dk_29 (dk_at dksJ4_grow_2_1 12 rfl rfl)
theorem dJ4_grow_2_37 : decode cJ4_grow_2 37 = .ok (.invokestatic 66, 3) := dk_184 0 66 (dk_at dksJ4_grow_2_1 13 rfl rfl)
theorem dJ4_grow_2_40 : decode cJ4_grow_2 40 = .ok (.dup_x1, 1) := dk_90 (dk_at dksJ4_grow_2_1 16 rfl rfl)
theorem dJ4_grow_2_41 : decode cJ4_grow_2 41 = .ok (.putfield 9, 3) := dk_181 0 9 (dk_at dksJ4_grow_2_1 17 rfl rfl)
theorem dJ4_grow_2_44 : decode cJ4_grow_2 44 = .ok (.areturn, 1) := dk_176 (dk_at dksJ4_grow_2_1 20 rfl rfl)
theorem dJ4_grow_2_45 : decode cJ4_grow_2 45 = .ok (.aload_n 0, 1) := dk_42 (dk_at dksJ4_grow_2_1 21 rfl rfl)
theorem dJ4_grow_2_46 : decode cJ4_grow_2 46 = .ok (.bipush 10, 2) := dk_16 10 (dk_at dksJ4_grow_2_1 22 rfl rfl)
theorem dJ4_grow_2_48 : decode cJ4_grow_2 48 = .ok (.iload_n 1, 1) := dk_27 (dk_at dksJ4_grow_2_2 0 rfl rfl)
theorem dJ4_grow_2_49 : decode cJ4_grow_2 49 = .ok (.invokestatic 79, 3) := dk_184 0 79 (dk_at dksJ4_grow_2_2 1 rfl rfl)
theorem dJ4_grow_2_52 : decode cJ4_grow_2 52 = .ok (.anewarray 7, 3) := dk_189 0 7 (dk_at dksJ4_grow_2_2 4 rfl rfl)
theorem dJ4_grow_2_55 : decode cJ4_grow_2 55 = .ok (.dup_x1, 1) := dk_90 (dk_at dksJ4_grow_2_2 7 rfl rfl)
theorem dJ4_grow_2_56 : decode cJ4_grow_2 56 = .ok (.putfield 9, 3) := dk_181 0 9 (dk_at dksJ4_grow_2_2 8 rfl rfl)
theorem dJ4_grow_2_59 : decode cJ4_grow_2 59 = .ok (.areturn, 1) := dk_176 (dk_at dksJ4_grow_2_2 11 rfl rfl)
abbrev cJ4_isEmpty : ByteArray := prog_38_method_9_code
def yJ4_isEmpty : MethodName := ⟨RJ4, "isEmpty", "()Z"⟩
def dkwJ4_isEmpty_0 : List UInt8 := [42, 180, 0, 48, 154, 0, 7, 4, 167, 0, 4, 3, 172]
abbrev dktJ4_isEmpty_0 : List UInt8 := dkwJ4_isEmpty_0 ++ []
theorem dksJ4_isEmpty_0 : cJ4_isEmpty.data.toList.drop 0 = dktJ4_isEmpty_0 := by decide +kernel
theorem dJ4_isEmpty_0 : decode cJ4_isEmpty 0 = .ok (.aload_n 0, 1) := dk_42 (dk_at dksJ4_isEmpty_0 0 rfl rfl)
theorem dJ4_isEmpty_1 : decode cJ4_isEmpty 1 = .ok (.getfield 48, 3) := dk_180 0 48 (dk_at dksJ4_isEmpty_0 1 rfl rfl)
theorem dJ4_isEmpty_4 : decode cJ4_isEmpty 4 = .ok (.ifCond .ne 7, 3) := dk_154 0 7 (dk_at dksJ4_isEmpty_0 4 rfl rfl)
theorem dJ4_isEmpty_7 : decode cJ4_isEmpty 7 = .ok (.iconst 1, 1) := dk_4 (dk_at dksJ4_isEmpty_0 7 rfl rfl)
theorem dJ4_isEmpty_8 : decode cJ4_isEmpty 8 = .ok (.goto 4, 3) := dk_167 0 4 (dk_at dksJ4_isEmpty_0 8 rfl rfl)
theorem dJ4_isEmpty_11 : decode cJ4_isEmpty 11 = .ok (.iconst 0, 1) := dk_3 (dk_at dksJ4_isEmpty_0 11 rfl rfl)
theorem dJ4_isEmpty_12 : decode cJ4_isEmpty 12 = .ok (.ireturn, 1) := dk_172 (dk_at dksJ4_isEmpty_0 12 rfl rfl)
abbrev cJ4_size : ByteArray := prog_38_method_8_code
def yJ4_size : MethodName := ⟨RJ4, "size", "()I"⟩
theorem dJ4_size_0 : decode cJ4_size 0 = .ok (.aload_n 0, 1) := by decide +kernel
theorem dJ4_size_1 : decode cJ4_size 1 = .ok (.getfield 48, 3) := by decide +kernel
theorem dJ4_size_4 : decode cJ4_size 4 = .ok (.ireturn, 1) := by decide +kernel
abbrev cJ4_get : ByteArray := prog_38_method_20_code
def yJ4_get : MethodName := ⟨RJ4, "get", "(I)Ljava/lang/Object;"⟩
def dkwJ4_get_0 : List UInt8 := [27, 42, 180, 0, 48, 184, 0, 118, 87, 42, 27, 182, 0, 123, 176]
abbrev dktJ4_get_0 : List UInt8 := dkwJ4_get_0 ++ []
theorem dksJ4_get_0 : cJ4_get.data.toList.drop 0 = dktJ4_get_0 := by decide +kernel
theorem dJ4_get_0 : decode cJ4_get 0 = .ok (.iload_n 1, 1) := dk_27 (dk_at dksJ4_get_0 0 rfl rfl)
theorem dJ4_get_1 : decode cJ4_get 1 = .ok (.aload_n 0, 1) := dk_42 (dk_at dksJ4_get_0 1 rfl rfl)
theorem dJ4_get_2 : decode cJ4_get 2 = .ok (.getfield 48, 3) := dk_180 0 48 (dk_at dksJ4_get_0 2 rfl rfl)
theorem dJ4_get_5 : decode cJ4_get 5 = .ok (.invokestatic 118, 3) := dk_184 0 118 (dk_at dksJ4_get_0 5 rfl rfl)
theorem dJ4_get_8 : decode cJ4_get 8 = .ok (.pop, 1) := dk_87 (dk_at dksJ4_get_0 8 rfl rfl)
theorem dJ4_get_9 : decode cJ4_get 9 = .ok (.aload_n 0, 1) := dk_42 (dk_at dksJ4_get_0 9 rfl rfl)
theorem dJ4_get_10 : decode cJ4_get 10 = .ok (.iload_n 1, 1) := dk_27 (dk_at dksJ4_get_0 10 rfl rfl)
theorem dJ4_get_11 : decode cJ4_get 11 = .ok (.invokevirtual 123, 3) := dk_182 0 123 (dk_at dksJ4_get_0 11 rfl rfl)
theorem dJ4_get_14 : decode cJ4_get 14 = .ok (.areturn, 1) := dk_176 (dk_at dksJ4_get_0 14 rfl rfl)
abbrev cJ4_elementData : ByteArray := prog_38_method_18_code
def yJ4_elementData : MethodName := ⟨RJ4, "elementData", "(I)Ljava/lang/Object;"⟩
def dkwJ4_elementData_0 : List UInt8 := [42, 180, 0, 9, 27, 50, 176]
abbrev dktJ4_elementData_0 : List UInt8 := dkwJ4_elementData_0 ++ []
theorem dksJ4_elementData_0 : cJ4_elementData.data.toList.drop 0 = dktJ4_elementData_0 := by decide +kernel
theorem dJ4_elementData_0 : decode cJ4_elementData 0 = .ok (.aload_n 0, 1) := dk_42 (dk_at dksJ4_elementData_0 0 rfl rfl)
theorem dJ4_elementData_1 : decode cJ4_elementData 1 = .ok (.getfield 9, 3) := dk_180 0 9 (dk_at dksJ4_elementData_0 1 rfl rfl)
theorem dJ4_elementData_4 : decode cJ4_elementData 4 = .ok (.iload_n 1, 1) := dk_27 (dk_at dksJ4_elementData_0 4 rfl rfl)
theorem dJ4_elementData_5 : decode cJ4_elementData 5 = .ok (.aaload, 1) := dk_50 (dk_at dksJ4_elementData_0 5 rfl rfl)
theorem dJ4_elementData_6 : decode cJ4_elementData 6 = .ok (.areturn, 1) := dk_176 (dk_at dksJ4_elementData_0 6 rfl rfl)
theorem q135 : (Jvm.Cond.initialized "java/util/ArrayList") ∈ lw_all := lw_g (lw_at lw_m1 11 rfl) rfl
theorem q433 : (Jvm.Cond.instantiable "java/util/ArrayList" (3 : Nat)) ∈ lw_all := lw_g (lw_at lw_m2 69 rfl) rfl
theorem q435 : (Jvm.Cond.instanceMethod ({ cls := "java/util/ArrayList", name := "<init>", desc := "()V" } : Jvm.MethodName)) ∈ lw_all := lw_g (lw_at lw_m2 71 rfl) rfl
theorem q436 : (Jvm.Cond.code ({ cls := "java/util/ArrayList", name := "<init>", desc := "()V" } : Jvm.MethodName) prog_38_method_2_code (1 : Nat) (Option.none : Option Jvm.ClassFile.FieldType)) ∈ lw_all := lw_g (lw_at lw_m2 72 rfl) rfl
theorem q437 : (Jvm.Cond.methodLink "java/util/ArrayList" (1 : Nat) ({ cls := "java/util/AbstractList", name := "<init>", desc := "()V" } : Jvm.MethodName)) ∈ lw_all := lw_g (lw_at lw_m2 73 rfl) rfl
theorem q444 : (Jvm.Cond.fieldLink "java/util/ArrayList" (39 : Nat) "java/util/ArrayList" "DEFAULTCAPACITY_EMPTY_ELEMENTDATA" "[Ljava/lang/Object;") ∈ lw_all := lw_g (lw_at lw_m2 80 rfl) rfl
theorem q445 : (Jvm.Cond.laysStatic "java/util/ArrayList" "DEFAULTCAPACITY_EMPTY_ELEMENTDATA" "[Ljava/lang/Object;") ∈ lw_tbl := lw_at lw_m2 81 rfl
theorem q446 : (Jvm.Cond.fieldLink "java/util/ArrayList" (9 : Nat) "java/util/ArrayList" "elementData" "[Ljava/lang/Object;") ∈ lw_all := lw_g (lw_at lw_m2 82 rfl) rfl
theorem q447 : (Jvm.Cond.fieldLink "java/util/ArrayList" (48 : Nat) "java/util/ArrayList" "size" "I") ∈ lw_all := lw_g (lw_at lw_m2 83 rfl) rfl
theorem q449 : (Jvm.Cond.fieldLink "java/util/ArrayList" (63 : Nat) "java/util/ArrayList" "modCount" "I") ∈ lw_all := lw_g (lw_at lw_m2 85 rfl) rfl
theorem q450 : (Jvm.Cond.sameField "java/util/ArrayList" "java/util/AbstractList" "modCount" "I") ∈ lw_all := lw_g (lw_at lw_m2 86 rfl) rfl
theorem q451 : (Jvm.Cond.lays "java/util/ArrayList" "java/util/ArrayList" "elementData" "[Ljava/lang/Object;") ∈ lw_all := lw_g (lw_at lw_m2 87 rfl) rfl
theorem q452 : (Jvm.Cond.soleField "java/util/ArrayList" "elementData") ∈ lw_all := lw_g (lw_at lw_m2 88 rfl) rfl
theorem q453 : (Jvm.Cond.lays "java/util/ArrayList" "java/util/ArrayList" "size" "I") ∈ lw_all := lw_g (lw_at lw_m2 89 rfl) rfl
theorem q454 : (Jvm.Cond.soleField "java/util/ArrayList" "size") ∈ lw_all := lw_g (lw_at lw_m2 90 rfl) rfl
theorem q455 : (Jvm.Cond.lays "java/util/ArrayList" "java/util/AbstractList" "modCount" "I") ∈ lw_all := lw_g (lw_at lw_m2 91 rfl) rfl
theorem q457 : (Jvm.Cond.superclass "java/util/ArrayList" "java/util/AbstractList") ∈ lw_all := lw_g (lw_at lw_m2 93 rfl) rfl
theorem q753 : (Jvm.Cond.instanceMethod ({ cls := "java/util/ArrayList", name := "add", desc := "(Ljava/lang/Object;)Z" } : Jvm.MethodName)) ∈ lw_all := lw_g (lw_at lw_m3 149 rfl) rfl
theorem q754 : (Jvm.Cond.selects "java/util/ArrayList" ({ cls := "java/util/ArrayList", name := "add", desc := "(Ljava/lang/Object;)Z" } : Jvm.MethodName) ({ cls := "java/util/ArrayList", name := "add", desc := "(Ljava/lang/Object;)Z" } : Jvm.MethodName)) ∈ lw_all := lw_g (lw_at lw_m3 150 rfl) rfl
theorem q755 : (Jvm.Cond.code ({ cls := "java/util/ArrayList", name := "add", desc := "(Ljava/lang/Object;)Z" } : Jvm.MethodName) prog_38_method_25_code (2 : Nat) (Option.some Jvm.ClassFile.FieldType.boolean)) ∈ lw_all := lw_g (lw_at lw_m3 151 rfl) rfl
theorem q756 : (Jvm.Cond.methodLink "java/util/ArrayList" (131 : Nat) ({ cls := "java/util/ArrayList", name := "add", desc := "(Ljava/lang/Object;[Ljava/lang/Object;I)V" } : Jvm.MethodName)) ∈ lw_all := lw_g (lw_at lw_m3 152 rfl) rfl
theorem q757 : (Jvm.Cond.privateMethod ({ cls := "java/util/ArrayList", name := "add", desc := "(Ljava/lang/Object;[Ljava/lang/Object;I)V" } : Jvm.MethodName)) ∈ lw_tbl := lw_at lw_m3 153 rfl
theorem q758 : (Jvm.Cond.instanceMethod ({ cls := "java/util/ArrayList", name := "add", desc := "(Ljava/lang/Object;[Ljava/lang/Object;I)V" } : Jvm.MethodName)) ∈ lw_all := lw_g (lw_at lw_m3 154 rfl) rfl
theorem q759 : (Jvm.Cond.code ({ cls := "java/util/ArrayList", name := "add", desc := "(Ljava/lang/Object;[Ljava/lang/Object;I)V" } : Jvm.MethodName) prog_38_method_24_code (4 : Nat) (Option.none : Option Jvm.ClassFile.FieldType)) ∈ lw_all := lw_g (lw_at lw_m3 155 rfl) rfl
theorem q760 : (Jvm.Cond.methodLink "java/util/ArrayList" (129 : Nat) ({ cls := "java/util/ArrayList", name := "grow", desc := "()[Ljava/lang/Object;" } : Jvm.MethodName)) ∈ lw_all := lw_g (lw_at lw_m3 156 rfl) rfl
theorem q761 : (Jvm.Cond.privateMethod ({ cls := "java/util/ArrayList", name := "grow", desc := "()[Ljava/lang/Object;" } : Jvm.MethodName)) ∈ lw_tbl := lw_at lw_m3 157 rfl
theorem q762 : (Jvm.Cond.instanceMethod ({ cls := "java/util/ArrayList", name := "grow", desc := "()[Ljava/lang/Object;" } : Jvm.MethodName)) ∈ lw_all := lw_g (lw_at lw_m3 158 rfl) rfl
theorem q763 : (Jvm.Cond.code ({ cls := "java/util/ArrayList", name := "grow", desc := "()[Ljava/lang/Object;" } : Jvm.MethodName) prog_38_method_7_code (1 : Nat) (Option.some (Jvm.ClassFile.FieldType.array (Jvm.ClassFile.FieldType.object "java/lang/Object")))) ∈ lw_all := lw_g (lw_at lw_m3 159 rfl) rfl
theorem q764 : (Jvm.Cond.methodLink "java/util/ArrayList" (69 : Nat) ({ cls := "java/util/ArrayList", name := "grow", desc := "(I)[Ljava/lang/Object;" } : Jvm.MethodName)) ∈ lw_all := lw_g (lw_at lw_m3 160 rfl) rfl
theorem q765 : (Jvm.Cond.privateMethod ({ cls := "java/util/ArrayList", name := "grow", desc := "(I)[Ljava/lang/Object;" } : Jvm.MethodName)) ∈ lw_tbl := lw_at lw_m3 161 rfl
theorem q766 : (Jvm.Cond.instanceMethod ({ cls := "java/util/ArrayList", name := "grow", desc := "(I)[Ljava/lang/Object;" } : Jvm.MethodName)) ∈ lw_all := lw_g (lw_at lw_m3 162 rfl) rfl
theorem q767 : (Jvm.Cond.code ({ cls := "java/util/ArrayList", name := "grow", desc := "(I)[Ljava/lang/Object;" } : Jvm.MethodName) prog_38_method_6_code (4 : Nat) (Option.some (Jvm.ClassFile.FieldType.array (Jvm.ClassFile.FieldType.object "java/lang/Object")))) ∈ lw_all := lw_g (lw_at lw_m3 163 rfl) rfl
theorem q768 : (Jvm.Cond.methodLink "java/util/ArrayList" (73 : Nat) ({ cls := "jdk/internal/util/ArraysSupport", name := "newLength", desc := "(III)I" } : Jvm.MethodName)) ∈ lw_all := lw_g (lw_at lw_m3 164 rfl) rfl
theorem q776 : (Jvm.Cond.methodLink "java/util/ArrayList" (66 : Nat) ({ cls := "java/util/Arrays", name := "copyOf", desc := "([Ljava/lang/Object;I)[Ljava/lang/Object;" } : Jvm.MethodName)) ∈ lw_all := lw_g (lw_at lw_m3 172 rfl) rfl
theorem q797 : (Jvm.Cond.selects "java/util/ArrayList" ({ cls := "java/lang/Object", name := "getClass", desc := "()Ljava/lang/Class;" } : Jvm.MethodName) ({ cls := "java/lang/Object", name := "getClass", desc := "()Ljava/lang/Class;" } : Jvm.MethodName)) ∈ lw_all := lw_g (lw_at lw_m3 193 rfl) rfl
theorem q807 : (Jvm.Cond.methodLink "java/util/ArrayList" (79 : Nat) ({ cls := "java/lang/Math", name := "max", desc := "(II)I" } : Jvm.MethodName)) ∈ lw_all := lw_g (lw_at lw_m3 203 rfl) rfl
theorem q808 : (Jvm.Cond.classLink "java/util/ArrayList" (7 : Nat) "java/lang/Object") ∈ lw_all := lw_g (lw_at lw_m3 204 rfl) rfl
theorem q814 : (Jvm.Cond.instanceMethod ({ cls := "java/util/ArrayList", name := "isEmpty", desc := "()Z" } : Jvm.MethodName)) ∈ lw_all := lw_g (lw_at lw_m3 210 rfl) rfl
theorem q815 : (Jvm.Cond.selects "java/util/ArrayList" ({ cls := "java/util/ArrayList", name := "isEmpty", desc := "()Z" } : Jvm.MethodName) ({ cls := "java/util/ArrayList", name := "isEmpty", desc := "()Z" } : Jvm.MethodName)) ∈ lw_all := lw_g (lw_at lw_m3 211 rfl) rfl
theorem q816 : (Jvm.Cond.code ({ cls := "java/util/ArrayList", name := "isEmpty", desc := "()Z" } : Jvm.MethodName) prog_38_method_9_code (1 : Nat) (Option.some Jvm.ClassFile.FieldType.boolean)) ∈ lw_all := lw_g (lw_at lw_m3 212 rfl) rfl
theorem q835 : (Jvm.Cond.instanceMethod ({ cls := "java/util/ArrayList", name := "size", desc := "()I" } : Jvm.MethodName)) ∈ lw_all := lw_g (lw_at lw_m3 231 rfl) rfl
theorem q836 : (Jvm.Cond.selects "java/util/ArrayList" ({ cls := "java/util/ArrayList", name := "size", desc := "()I" } : Jvm.MethodName) ({ cls := "java/util/ArrayList", name := "size", desc := "()I" } : Jvm.MethodName)) ∈ lw_all := lw_g (lw_at lw_m3 232 rfl) rfl
theorem q837 : (Jvm.Cond.code ({ cls := "java/util/ArrayList", name := "size", desc := "()I" } : Jvm.MethodName) prog_38_method_8_code (1 : Nat) (Option.some Jvm.ClassFile.FieldType.int)) ∈ lw_all := lw_g (lw_at lw_m3 233 rfl) rfl
theorem q839 : (Jvm.Cond.instanceMethod ({ cls := "java/util/ArrayList", name := "get", desc := "(I)Ljava/lang/Object;" } : Jvm.MethodName)) ∈ lw_all := lw_g (lw_at lw_m3 235 rfl) rfl
theorem q840 : (Jvm.Cond.selects "java/util/ArrayList" ({ cls := "java/util/ArrayList", name := "get", desc := "(I)Ljava/lang/Object;" } : Jvm.MethodName) ({ cls := "java/util/ArrayList", name := "get", desc := "(I)Ljava/lang/Object;" } : Jvm.MethodName)) ∈ lw_all := lw_g (lw_at lw_m3 236 rfl) rfl
theorem q841 : (Jvm.Cond.code ({ cls := "java/util/ArrayList", name := "get", desc := "(I)Ljava/lang/Object;" } : Jvm.MethodName) prog_38_method_20_code (2 : Nat) (Option.some (Jvm.ClassFile.FieldType.object "java/lang/Object"))) ∈ lw_all := lw_g (lw_at lw_m3 237 rfl) rfl
theorem q842 : (Jvm.Cond.methodLink "java/util/ArrayList" (118 : Nat) ({ cls := "java/util/Objects", name := "checkIndex", desc := "(II)I" } : Jvm.MethodName)) ∈ lw_all := lw_g (lw_at lw_m3 238 rfl) rfl
theorem q846 : (Jvm.Cond.methodLink "java/util/ArrayList" (123 : Nat) ({ cls := "java/util/ArrayList", name := "elementData", desc := "(I)Ljava/lang/Object;" } : Jvm.MethodName)) ∈ lw_all := lw_g (lw_at lw_m4 2 rfl) rfl
theorem q847 : (Jvm.Cond.instanceMethod ({ cls := "java/util/ArrayList", name := "elementData", desc := "(I)Ljava/lang/Object;" } : Jvm.MethodName)) ∈ lw_all := lw_g (lw_at lw_m4 3 rfl) rfl
theorem q848 : (Jvm.Cond.selects "java/util/ArrayList" ({ cls := "java/util/ArrayList", name := "elementData", desc := "(I)Ljava/lang/Object;" } : Jvm.MethodName) ({ cls := "java/util/ArrayList", name := "elementData", desc := "(I)Ljava/lang/Object;" } : Jvm.MethodName)) ∈ lw_all := lw_g (lw_at lw_m4 4 rfl) rfl
theorem q849 : (Jvm.Cond.code ({ cls := "java/util/ArrayList", name := "elementData", desc := "(I)Ljava/lang/Object;" } : Jvm.MethodName) prog_38_method_18_code (2 : Nat) (Option.some (Jvm.ClassFile.FieldType.object "java/lang/Object"))) ∈ lw_all := lw_g (lw_at lw_m4 5 rfl) rfl
theorem q1906 : (Jvm.Cond.castable "java/util/ArrayList" "java/lang/Object") ∈ lw_tbl := lw_at lw_m8 102 rfl
theorem in_J4 : ∀ w ∈ wsJ40, w ∈ lw_all := lw_in wsJ40 [455, 451, 453] (by decide +kernel) (by decide +kernel)
/-! java/lang/String -/
set_option maxRecDepth 100000
def RJ5 : String := "java/lang/String"
abbrev cJ5_length : ByteArray := prog_29_method_54_code
def yJ5_length : MethodName := ⟨RJ5, "length", "()I"⟩
def dkwJ5_length_0 : List UInt8 := [42, 180, 0, 9, 190, 42, 182, 1, 79, 122, 172]
abbrev dktJ5_length_0 : List UInt8 := dkwJ5_length_0 ++ []
theorem dksJ5_length_0 : cJ5_length.data.toList.drop 0 = dktJ5_length_0 := by decide +kernel
theorem dJ5_length_0 : decode cJ5_length 0 = .ok (.aload_n 0, 1) := dk_42 (dk_at dksJ5_length_0 0 rfl rfl)
theorem dJ5_length_1 : decode cJ5_length 1 = .ok (.getfield 9, 3) := dk_180 0 9 (dk_at dksJ5_length_0 1 rfl rfl)
theorem dJ5_length_4 : decode cJ5_length 4 = .ok (.arraylength, 1) := dk_190 (dk_at dksJ5_length_0 4 rfl rfl)
theorem dJ5_length_5 : decode cJ5_length 5 = .ok (.aload_n 0, 1) := dk_42 (dk_at dksJ5_length_0 5 rfl rfl)
theorem dJ5_length_6 : decode cJ5_length 6 = .ok (.invokevirtual 335, 3) := dk_182 1 79 (dk_at dksJ5_length_0 6 rfl rfl)
theorem dJ5_length_9 : decode cJ5_length 9 = .ok (.ishr, 1) := dk_122 (dk_at dksJ5_length_0 9 rfl rfl)
theorem dJ5_length_10 : decode cJ5_length 10 = .ok (.ireturn, 1) := dk_172 (dk_at dksJ5_length_0 10 rfl rfl)
abbrev cJ5_coder : ByteArray := prog_29_method_152_code
def yJ5_coder : MethodName := ⟨RJ5, "coder", "()B"⟩
def dkwJ5_coder_0 : List UInt8 := [178, 0, 38, 153, 0, 10, 42, 180, 0, 15, 167, 0, 4, 4, 172]
abbrev dktJ5_coder_0 : List UInt8 := dkwJ5_coder_0 ++ []
theorem dksJ5_coder_0 : cJ5_coder.data.toList.drop 0 = dktJ5_coder_0 := by decide +kernel
theorem dJ5_coder_0 : decode cJ5_coder 0 = .ok (.getstatic 38, 3) := dk_178 0 38 (dk_at dksJ5_coder_0 0 rfl rfl)
theorem dJ5_coder_3 : decode cJ5_coder 3 = .ok (.ifCond .eq 10, 3) := dk_153 0 10 (dk_at dksJ5_coder_0 3 rfl rfl)
theorem dJ5_coder_6 : decode cJ5_coder 6 = .ok (.aload_n 0, 1) := dk_42 (dk_at dksJ5_coder_0 6 rfl rfl)
theorem dJ5_coder_7 : decode cJ5_coder 7 = .ok (.getfield 15, 3) := dk_180 0 15 (dk_at dksJ5_coder_0 7 rfl rfl)
theorem dJ5_coder_10 : decode cJ5_coder 10 = .ok (.goto 4, 3) := dk_167 0 4 (dk_at dksJ5_coder_0 10 rfl rfl)
theorem dJ5_coder_13 : decode cJ5_coder 13 = .ok (.iconst 1, 1) := dk_4 (dk_at dksJ5_coder_0 13 rfl rfl)
theorem dJ5_coder_14 : decode cJ5_coder 14 = .ok (.ireturn, 1) := dk_172 (dk_at dksJ5_coder_0 14 rfl rfl)
abbrev cJ5_charAt : ByteArray := prog_29_method_56_code
def yJ5_charAt : MethodName := ⟨RJ5, "charAt", "(I)C"⟩
def dkwJ5_charAt_1 : List UInt8 := [172]
abbrev dktJ5_charAt_1 : List UInt8 := dkwJ5_charAt_1 ++ []
def dkwJ5_charAt_0 : List UInt8 := [42, 182, 1, 236, 153, 0, 12, 42, 180, 0, 9, 27, 184, 1, 239, 172, 42, 180, 0, 9, 27, 184, 1, 242]
abbrev dktJ5_charAt_0 : List UInt8 := dkwJ5_charAt_0 ++ dktJ5_charAt_1
theorem dksJ5_charAt_0 : cJ5_charAt.data.toList.drop 0 = dktJ5_charAt_0 := by decide +kernel
theorem dksJ5_charAt_1 : cJ5_charAt.data.toList.drop 24 = dktJ5_charAt_1 := dk_seg dksJ5_charAt_0 24 rfl rfl
theorem dJ5_charAt_0 : decode cJ5_charAt 0 = .ok (.aload_n 0, 1) := dk_42 (dk_at dksJ5_charAt_0 0 rfl rfl)
theorem dJ5_charAt_1 : decode cJ5_charAt 1 = .ok (.invokevirtual 492, 3) := dk_182 1 236 (dk_at dksJ5_charAt_0 1 rfl rfl)
theorem dJ5_charAt_4 : decode cJ5_charAt 4 = .ok (.ifCond .eq 12, 3) := dk_153 0 12 (dk_at dksJ5_charAt_0 4 rfl rfl)
theorem dJ5_charAt_7 : decode cJ5_charAt 7 = .ok (.aload_n 0, 1) := dk_42 (dk_at dksJ5_charAt_0 7 rfl rfl)
theorem dJ5_charAt_8 : decode cJ5_charAt 8 = .ok (.getfield 9, 3) := dk_180 0 9 (dk_at dksJ5_charAt_0 8 rfl rfl)
theorem dJ5_charAt_11 : decode cJ5_charAt 11 = .ok (.iload_n 1, 1) := dk_27 (dk_at dksJ5_charAt_0 11 rfl rfl)
theorem dJ5_charAt_12 : decode cJ5_charAt 12 = .ok (.invokestatic 495, 3) := dk_184 1 239 (dk_at dksJ5_charAt_0 12 rfl rfl)
theorem dJ5_charAt_15 : decode cJ5_charAt 15 = .ok (.ireturn, 1) := dk_172 (dk_at dksJ5_charAt_0 15 rfl rfl)
theorem dJ5_charAt_16 : decode cJ5_charAt 16 = .ok (.aload_n 0, 1) := dk_42 (dk_at dksJ5_charAt_0 16 rfl rfl)
theorem dJ5_charAt_17 : decode cJ5_charAt 17 = .ok (.getfield 9, 3) := dk_180 0 9 (dk_at dksJ5_charAt_0 17 rfl rfl)
theorem dJ5_charAt_20 : decode cJ5_charAt 20 = .ok (.iload_n 1, 1) := dk_27 (dk_at dksJ5_charAt_0 20 rfl rfl)
theorem dJ5_charAt_21 : decode cJ5_charAt 21 = .ok (.invokestatic 498, 3) := dk_184 1 242 (dk_at dksJ5_charAt_0 21 rfl rfl)
theorem dJ5_charAt_24 : decode cJ5_charAt 24 = .ok (.ireturn, 1) := dk_172 (dk_at dksJ5_charAt_1 0 rfl rfl)
abbrev cJ5_isLatin1 : ByteArray := prog_29_method_154_code
def yJ5_isLatin1 : MethodName := ⟨RJ5, "isLatin1", "()Z"⟩
def dkwJ5_isLatin1_0 : List UInt8 := [178, 0, 38, 153, 0, 14, 42, 180, 0, 15, 154, 0, 7, 4, 167, 0, 4, 3, 172]
abbrev dktJ5_isLatin1_0 : List UInt8 := dkwJ5_isLatin1_0 ++ []
theorem dksJ5_isLatin1_0 : cJ5_isLatin1.data.toList.drop 0 = dktJ5_isLatin1_0 := by decide +kernel
theorem dJ5_isLatin1_0 : decode cJ5_isLatin1 0 = .ok (.getstatic 38, 3) := dk_178 0 38 (dk_at dksJ5_isLatin1_0 0 rfl rfl)
theorem dJ5_isLatin1_3 : decode cJ5_isLatin1 3 = .ok (.ifCond .eq 14, 3) := dk_153 0 14 (dk_at dksJ5_isLatin1_0 3 rfl rfl)
theorem dJ5_isLatin1_6 : decode cJ5_isLatin1 6 = .ok (.aload_n 0, 1) := dk_42 (dk_at dksJ5_isLatin1_0 6 rfl rfl)
theorem dJ5_isLatin1_7 : decode cJ5_isLatin1 7 = .ok (.getfield 15, 3) := dk_180 0 15 (dk_at dksJ5_isLatin1_0 7 rfl rfl)
theorem dJ5_isLatin1_10 : decode cJ5_isLatin1 10 = .ok (.ifCond .ne 7, 3) := dk_154 0 7 (dk_at dksJ5_isLatin1_0 10 rfl rfl)
theorem dJ5_isLatin1_13 : decode cJ5_isLatin1 13 = .ok (.iconst 1, 1) := dk_4 (dk_at dksJ5_isLatin1_0 13 rfl rfl)
theorem dJ5_isLatin1_14 : decode cJ5_isLatin1 14 = .ok (.goto 4, 3) := dk_167 0 4 (dk_at dksJ5_isLatin1_0 14 rfl rfl)
theorem dJ5_isLatin1_17 : decode cJ5_isLatin1 17 = .ok (.iconst 0, 1) := dk_3 (dk_at dksJ5_isLatin1_0 17 rfl rfl)
theorem dJ5_isLatin1_18 : decode cJ5_isLatin1 18 = .ok (.ireturn, 1) := dk_172 (dk_at dksJ5_isLatin1_0 18 rfl rfl)
abbrev cJ5_checkIndex : ByteArray := prog_29_method_155_code
def yJ5_checkIndex : MethodName := ⟨RJ5, "checkIndex", "(II)V"⟩
def dkwJ5_checkIndex_0 : List UInt8 := [26, 27, 178, 4, 29, 184, 4, 35, 87, 177]
abbrev dktJ5_checkIndex_0 : List UInt8 := dkwJ5_checkIndex_0 ++ []
theorem dksJ5_checkIndex_0 : cJ5_checkIndex.data.toList.drop 0 = dktJ5_checkIndex_0 := by decide +kernel
theorem dJ5_checkIndex_0 : decode cJ5_checkIndex 0 = .ok (.iload_n 0, 1) := dk_26 (dk_at dksJ5_checkIndex_0 0 rfl rfl)
theorem dJ5_checkIndex_1 : decode cJ5_checkIndex 1 = .ok (.iload_n 1, 1) := dk_27 (dk_at dksJ5_checkIndex_0 1 rfl rfl)
theorem dJ5_checkIndex_2 : decode cJ5_checkIndex 2 = .ok (.getstatic 1053, 3) := dk_178 4 29 (dk_at dksJ5_checkIndex_0 2 rfl rfl)
theorem dJ5_checkIndex_5 : decode cJ5_checkIndex 5 = .ok (.invokestatic 1059, 3) := dk_184 4 35 (dk_at dksJ5_checkIndex_0 5 rfl rfl)
theorem dJ5_checkIndex_8 : decode cJ5_checkIndex 8 = .ok (.pop, 1) := dk_87 (dk_at dksJ5_checkIndex_0 8 rfl rfl)
theorem dJ5_checkIndex_9 : decode cJ5_checkIndex 9 = .ok (.return_, 1) := dk_177 (dk_at dksJ5_checkIndex_0 9 rfl rfl)
theorem q136 : (Jvm.Cond.initialized "java/lang/String") ∈ lw_all := lw_g (lw_at lw_m1 12 rfl) rfl
theorem q504 : (Jvm.Cond.instanceMethod ({ cls := "java/lang/String", name := "length", desc := "()I" } : Jvm.MethodName)) ∈ lw_all := lw_g (lw_at lw_m2 140 rfl) rfl
theorem q505 : (Jvm.Cond.selects "java/lang/String" ({ cls := "java/lang/String", name := "length", desc := "()I" } : Jvm.MethodName) ({ cls := "java/lang/String", name := "length", desc := "()I" } : Jvm.MethodName)) ∈ lw_all := lw_g (lw_at lw_m2 141 rfl) rfl
theorem q506 : (Jvm.Cond.code ({ cls := "java/lang/String", name := "length", desc := "()I" } : Jvm.MethodName) prog_29_method_54_code (1 : Nat) (Option.some Jvm.ClassFile.FieldType.int)) ∈ lw_all := lw_g (lw_at lw_m2 142 rfl) rfl
theorem q507 : (Jvm.Cond.methodLink "java/lang/String" (335 : Nat) ({ cls := "java/lang/String", name := "coder", desc := "()B" } : Jvm.MethodName)) ∈ lw_all := lw_g (lw_at lw_m2 143 rfl) rfl
theorem q508 : (Jvm.Cond.instanceMethod ({ cls := "java/lang/String", name := "coder", desc := "()B" } : Jvm.MethodName)) ∈ lw_all := lw_g (lw_at lw_m2 144 rfl) rfl
theorem q509 : (Jvm.Cond.selects "java/lang/String" ({ cls := "java/lang/String", name := "coder", desc := "()B" } : Jvm.MethodName) ({ cls := "java/lang/String", name := "coder", desc := "()B" } : Jvm.MethodName)) ∈ lw_all := lw_g (lw_at lw_m2 145 rfl) rfl
theorem q510 : (Jvm.Cond.code ({ cls := "java/lang/String", name := "coder", desc := "()B" } : Jvm.MethodName) prog_29_method_152_code (1 : Nat) (Option.some Jvm.ClassFile.FieldType.byte)) ∈ lw_all := lw_g (lw_at lw_m2 146 rfl) rfl
theorem q511 : (Jvm.Cond.fieldLink "java/lang/String" (38 : Nat) "java/lang/String" "COMPACT_STRINGS" "Z") ∈ lw_all := lw_g (lw_at lw_m2 147 rfl) rfl
theorem q512 : (Jvm.Cond.laysStatic "java/lang/String" "COMPACT_STRINGS" "Z") ∈ lw_tbl := lw_at lw_m2 148 rfl
theorem q514 : (Jvm.Cond.instanceMethod ({ cls := "java/lang/String", name := "charAt", desc := "(I)C" } : Jvm.MethodName)) ∈ lw_all := lw_g (lw_at lw_m2 150 rfl) rfl
theorem q515 : (Jvm.Cond.selects "java/lang/String" ({ cls := "java/lang/String", name := "charAt", desc := "(I)C" } : Jvm.MethodName) ({ cls := "java/lang/String", name := "charAt", desc := "(I)C" } : Jvm.MethodName)) ∈ lw_all := lw_g (lw_at lw_m2 151 rfl) rfl
theorem q516 : (Jvm.Cond.code ({ cls := "java/lang/String", name := "charAt", desc := "(I)C" } : Jvm.MethodName) prog_29_method_56_code (2 : Nat) (Option.some Jvm.ClassFile.FieldType.char)) ∈ lw_all := lw_g (lw_at lw_m2 152 rfl) rfl
theorem q517 : (Jvm.Cond.methodLink "java/lang/String" (492 : Nat) ({ cls := "java/lang/String", name := "isLatin1", desc := "()Z" } : Jvm.MethodName)) ∈ lw_all := lw_g (lw_at lw_m2 153 rfl) rfl
theorem q518 : (Jvm.Cond.instanceMethod ({ cls := "java/lang/String", name := "isLatin1", desc := "()Z" } : Jvm.MethodName)) ∈ lw_all := lw_g (lw_at lw_m2 154 rfl) rfl
theorem q519 : (Jvm.Cond.selects "java/lang/String" ({ cls := "java/lang/String", name := "isLatin1", desc := "()Z" } : Jvm.MethodName) ({ cls := "java/lang/String", name := "isLatin1", desc := "()Z" } : Jvm.MethodName)) ∈ lw_all := lw_g (lw_at lw_m2 155 rfl) rfl
theorem q520 : (Jvm.Cond.code ({ cls := "java/lang/String", name := "isLatin1", desc := "()Z" } : Jvm.MethodName) prog_29_method_154_code (1 : Nat) (Option.some Jvm.ClassFile.FieldType.boolean)) ∈ lw_all := lw_g (lw_at lw_m2 156 rfl) rfl
theorem q521 : (Jvm.Cond.methodLink "java/lang/String" (495 : Nat) ({ cls := "java/lang/StringLatin1", name := "charAt", desc := "([BI)C" } : Jvm.MethodName)) ∈ lw_all := lw_g (lw_at lw_m2 157 rfl) rfl
theorem q525 : (Jvm.Cond.static ({ cls := "java/lang/String", name := "checkIndex", desc := "(II)V" } : Jvm.MethodName)) ∈ lw_all := lw_g (lw_at lw_m2 161 rfl) rfl
theorem q526 : (Jvm.Cond.code ({ cls := "java/lang/String", name := "checkIndex", desc := "(II)V" } : Jvm.MethodName) prog_29_method_155_code (2 : Nat) (Option.none : Option Jvm.ClassFile.FieldType)) ∈ lw_all := lw_g (lw_at lw_m2 162 rfl) rfl
theorem q527 : (Jvm.Cond.fieldLink "java/lang/String" (1053 : Nat) "jdk/internal/util/Preconditions" "SIOOBE_FORMATTER" "Ljava/util/function/BiFunction;") ∈ lw_all := lw_g (lw_at lw_m2 163 rfl) rfl
theorem q529 : (Jvm.Cond.methodLink "java/lang/String" (1059 : Nat) ({ cls := "jdk/internal/util/Preconditions", name := "checkIndex", desc := "(IILjava/util/function/BiFunction;)I" } : Jvm.MethodName)) ∈ lw_all := lw_g (lw_at lw_m2 165 rfl) rfl
theorem q532 : (Jvm.Cond.methodLink "java/lang/String" (498 : Nat) ({ cls := "java/lang/StringUTF16", name := "charAt", desc := "([BI)C" } : Jvm.MethodName)) ∈ lw_all := lw_g (lw_at lw_m2 168 rfl) rfl
theorem q1901 : (Jvm.Cond.castable "java/lang/String" "java/lang/Object") ∈ lw_tbl := lw_at lw_m8 97 rfl
theorem q1930 : (Jvm.Cond.fieldLink "java/lang/String" (9 : Nat) "java/lang/String" "value" "[B") ∈ lw_all := lw_g (lw_at lw_m8 126 rfl) rfl
theorem q1931 : (Jvm.Cond.fieldLink "java/lang/String" (15 : Nat) "java/lang/String" "coder" "B") ∈ lw_all := lw_g (lw_at lw_m8 127 rfl) rfl
/-! java/lang/StringLatin1 -/
set_option maxRecDepth 100000
def RJ6 : String := "java/lang/StringLatin1"
abbrev cJ6_charAt : ByteArray := prog_30_method_2_code
def yJ6_charAt : MethodName := ⟨RJ6, "charAt", "([BI)C"⟩
def dkwJ6_charAt_0 : List UInt8 := [27, 42, 190, 184, 0, 9, 42, 27, 51, 17, 0, 255, 126, 146, 172]
abbrev dktJ6_charAt_0 : List UInt8 := dkwJ6_charAt_0 ++ []
theorem dksJ6_charAt_0 : cJ6_charAt.data.toList.drop 0 = dktJ6_charAt_0 := by decide +kernel
theorem dJ6_charAt_0 : decode cJ6_charAt 0 = .ok (.iload_n 1, 1) := dk_27 (dk_at dksJ6_charAt_0 0 rfl rfl)
theorem dJ6_charAt_1 : decode cJ6_charAt 1 = .ok (.aload_n 0, 1) := dk_42 (dk_at dksJ6_charAt_0 1 rfl rfl)
theorem dJ6_charAt_2 : decode cJ6_charAt 2 = .ok (.arraylength, 1) := dk_190 (dk_at dksJ6_charAt_0 2 rfl rfl)
theorem dJ6_charAt_3 : decode cJ6_charAt 3 = .ok (.invokestatic 9, 3) := dk_184 0 9 (dk_at dksJ6_charAt_0 3 rfl rfl)
theorem dJ6_charAt_6 : decode cJ6_charAt 6 = .ok (.aload_n 0, 1) := dk_42 (dk_at dksJ6_charAt_0 6 rfl rfl)
theorem dJ6_charAt_7 : decode cJ6_charAt 7 = .ok (.iload_n 1, 1) := dk_27 (dk_at dksJ6_charAt_0 7 rfl rfl)
theorem dJ6_charAt_8 : decode cJ6_charAt 8 = .ok (.baload, 1) := dk_51 (dk_at dksJ6_charAt_0 8 rfl rfl)
theorem dJ6_charAt_9 : decode cJ6_charAt 9 = .ok (.sipush 255, 3) := dk_17 0 255 (dk_at dksJ6_charAt_0 9 rfl rfl)
theorem dJ6_charAt_12 : decode cJ6_charAt 12 = .ok (.iand, 1) := dk_126 (dk_at dksJ6_charAt_0 12 rfl rfl)
theorem dJ6_charAt_13 : decode cJ6_charAt 13 = .ok (.i2c, 1) := dk_146 (dk_at dksJ6_charAt_0 13 rfl rfl)
theorem dJ6_charAt_14 : decode cJ6_charAt 14 = .ok (.ireturn, 1) := dk_172 (dk_at dksJ6_charAt_0 14 rfl rfl)
theorem q137 : (Jvm.Cond.initialized "java/lang/StringLatin1") ∈ lw_all := lw_g (lw_at lw_m1 13 rfl) rfl
theorem q522 : (Jvm.Cond.static ({ cls := "java/lang/StringLatin1", name := "charAt", desc := "([BI)C" } : Jvm.MethodName)) ∈ lw_all := lw_g (lw_at lw_m2 158 rfl) rfl
theorem q523 : (Jvm.Cond.code ({ cls := "java/lang/StringLatin1", name := "charAt", desc := "([BI)C" } : Jvm.MethodName) prog_30_method_2_code (2 : Nat) (Option.some Jvm.ClassFile.FieldType.char)) ∈ lw_all := lw_g (lw_at lw_m2 159 rfl) rfl
theorem q524 : (Jvm.Cond.methodLink "java/lang/StringLatin1" (9 : Nat) ({ cls := "java/lang/String", name := "checkIndex", desc := "(II)V" } : Jvm.MethodName)) ∈ lw_all := lw_g (lw_at lw_m2 160 rfl) rfl
/-! jdk/internal/util/Preconditions -/
set_option maxRecDepth 100000
def RJ7 : String := "jdk/internal/util/Preconditions"
abbrev cJ7_checkIndex : ByteArray := prog_46_method_11_code
def yJ7_checkIndex : MethodName := ⟨RJ7, "checkIndex", "(IILjava/util/function/BiFunction;)I"⟩
def dkwJ7_checkIndex_0 : List UInt8 := [26, 155, 0, 8, 26, 27, 161, 0, 10, 44, 26, 27, 184, 0, 95, 191, 26, 172]
abbrev dktJ7_checkIndex_0 : List UInt8 := dkwJ7_checkIndex_0 ++ []
theorem dksJ7_checkIndex_0 : cJ7_checkIndex.data.toList.drop 0 = dktJ7_checkIndex_0 := by decide +kernel
theorem dJ7_checkIndex_0 : decode cJ7_checkIndex 0 = .ok (.iload_n 0, 1) := dk_26 (dk_at dksJ7_checkIndex_0 0 rfl rfl)
theorem dJ7_checkIndex_1 : decode cJ7_checkIndex 1 = .ok (.ifCond .lt 8, 3) := dk_155 0 8 (dk_at dksJ7_checkIndex_0 1 rfl rfl)
theorem dJ7_checkIndex_4 : decode cJ7_checkIndex 4 = .ok (.iload_n 0, 1) := dk_26 (dk_at dksJ7_checkIndex_0 4 rfl rfl)
theorem dJ7_checkIndex_5 : decode cJ7_checkIndex 5 = .ok (.iload_n 1, 1) := dk_27 (dk_at dksJ7_checkIndex_0 5 rfl rfl)
theorem dJ7_checkIndex_6 : decode cJ7_checkIndex 6 = .ok (.if_icmp .lt 10, 3) := dk_161 0 10 (dk_at dksJ7_checkIndex_0 6 rfl rfl)
theorem dJ7_checkIndex_9 : decode cJ7_checkIndex 9 = .ok (.aload_n 2, 1) := dk_44 (dk_at dksJ7_checkIndex_0 9 rfl rfl)
theorem dJ7_checkIndex_10 : decode cJ7_checkIndex 10 = .ok (.iload_n 0, 1) := dk_26 (dk_at dksJ7_checkIndex_0 10 rfl rfl)
theorem dJ7_checkIndex_11 : decode cJ7_checkIndex 11 = .ok (.iload_n 1, 1) := dk_27 (dk_at dksJ7_checkIndex_0 11 rfl rfl)
theorem dJ7_checkIndex_12 : decode cJ7_checkIndex 12 = .ok (.invokestatic 95, 3) := dk_184 0 95 (dk_at dksJ7_checkIndex_0 12 rfl rfl)
theorem dJ7_checkIndex_15 : decode cJ7_checkIndex 15 = .ok (.athrow, 1) := dk_191 (dk_at dksJ7_checkIndex_0 15 rfl rfl)
theorem dJ7_checkIndex_16 : decode cJ7_checkIndex 16 = .ok (.iload_n 0, 1) := dk_26 (dk_at dksJ7_checkIndex_0 16 rfl rfl)
theorem dJ7_checkIndex_17 : decode cJ7_checkIndex 17 = .ok (.ireturn, 1) := dk_172 (dk_at dksJ7_checkIndex_0 17 rfl rfl)
theorem q138 : (Jvm.Cond.initialized "jdk/internal/util/Preconditions") ∈ lw_all := lw_g (lw_at lw_m1 14 rfl) rfl
theorem q528 : (Jvm.Cond.laysStatic "jdk/internal/util/Preconditions" "SIOOBE_FORMATTER" "Ljava/util/function/BiFunction;") ∈ lw_tbl := lw_at lw_m2 164 rfl
theorem q530 : (Jvm.Cond.static ({ cls := "jdk/internal/util/Preconditions", name := "checkIndex", desc := "(IILjava/util/function/BiFunction;)I" } : Jvm.MethodName)) ∈ lw_all := lw_g (lw_at lw_m2 166 rfl) rfl
theorem q531 : (Jvm.Cond.code ({ cls := "jdk/internal/util/Preconditions", name := "checkIndex", desc := "(IILjava/util/function/BiFunction;)I" } : Jvm.MethodName) prog_46_method_11_code (3 : Nat) (Option.some Jvm.ClassFile.FieldType.int)) ∈ lw_all := lw_g (lw_at lw_m2 167 rfl) rfl
/-! java/lang/StringUTF16 -/
set_option maxRecDepth 100000
def RJ8 : String := "java/lang/StringUTF16"
abbrev cJ8_charAt : ByteArray := prog_31_method_83_code
def yJ8_charAt : MethodName := ⟨RJ8, "charAt", "([BI)C"⟩
def dkwJ8_charAt_0 : List UInt8 := [27, 42, 184, 0, 67, 42, 27, 184, 0, 71, 172]
abbrev dktJ8_charAt_0 : List UInt8 := dkwJ8_charAt_0 ++ []
theorem dksJ8_charAt_0 : cJ8_charAt.data.toList.drop 0 = dktJ8_charAt_0 := by decide +kernel
theorem dJ8_charAt_0 : decode cJ8_charAt 0 = .ok (.iload_n 1, 1) := dk_27 (dk_at dksJ8_charAt_0 0 rfl rfl)
theorem dJ8_charAt_1 : decode cJ8_charAt 1 = .ok (.aload_n 0, 1) := dk_42 (dk_at dksJ8_charAt_0 1 rfl rfl)
theorem dJ8_charAt_2 : decode cJ8_charAt 2 = .ok (.invokestatic 67, 3) := dk_184 0 67 (dk_at dksJ8_charAt_0 2 rfl rfl)
theorem dJ8_charAt_5 : decode cJ8_charAt 5 = .ok (.aload_n 0, 1) := dk_42 (dk_at dksJ8_charAt_0 5 rfl rfl)
theorem dJ8_charAt_6 : decode cJ8_charAt 6 = .ok (.iload_n 1, 1) := dk_27 (dk_at dksJ8_charAt_0 6 rfl rfl)
theorem dJ8_charAt_7 : decode cJ8_charAt 7 = .ok (.invokestatic 71, 3) := dk_184 0 71 (dk_at dksJ8_charAt_0 7 rfl rfl)
theorem dJ8_charAt_10 : decode cJ8_charAt 10 = .ok (.ireturn, 1) := dk_172 (dk_at dksJ8_charAt_0 10 rfl rfl)
abbrev cJ8_checkIndex : ByteArray := prog_31_method_91_code
def yJ8_checkIndex : MethodName := ⟨RJ8, "checkIndex", "(I[B)V"⟩
def dkwJ8_checkIndex_0 : List UInt8 := [26, 43, 184, 0, 48, 184, 1, 158, 177]
abbrev dktJ8_checkIndex_0 : List UInt8 := dkwJ8_checkIndex_0 ++ []
theorem dksJ8_checkIndex_0 : cJ8_checkIndex.data.toList.drop 0 = dktJ8_checkIndex_0 := by decide +kernel
theorem dJ8_checkIndex_0 : decode cJ8_checkIndex 0 = .ok (.iload_n 0, 1) := dk_26 (dk_at dksJ8_checkIndex_0 0 rfl rfl)
theorem dJ8_checkIndex_1 : decode cJ8_checkIndex 1 = .ok (.aload_n 1, 1) := dk_43 (dk_at dksJ8_checkIndex_0 1 rfl rfl)
theorem dJ8_checkIndex_2 : decode cJ8_checkIndex 2 = .ok (.invokestatic 48, 3) := dk_184 0 48 (dk_at dksJ8_checkIndex_0 2 rfl rfl)
theorem dJ8_checkIndex_5 : decode cJ8_checkIndex 5 = .ok (.invokestatic 414, 3) := dk_184 1 158 (dk_at dksJ8_checkIndex_0 5 rfl rfl)
theorem dJ8_checkIndex_8 : decode cJ8_checkIndex 8 = .ok (.return_, 1) := dk_177 (dk_at dksJ8_checkIndex_0 8 rfl rfl)
abbrev cJ8_length : ByteArray := prog_31_method_6_code
def yJ8_length : MethodName := ⟨RJ8, "length", "([B)I"⟩
def dkwJ8_length_0 : List UInt8 := [42, 190, 4, 122, 172]
abbrev dktJ8_length_0 : List UInt8 := dkwJ8_length_0 ++ []
theorem dksJ8_length_0 : cJ8_length.data.toList.drop 0 = dktJ8_length_0 := by decide +kernel
theorem dJ8_length_0 : decode cJ8_length 0 = .ok (.aload_n 0, 1) := dk_42 (dk_at dksJ8_length_0 0 rfl rfl)
theorem dJ8_length_1 : decode cJ8_length 1 = .ok (.arraylength, 1) := dk_190 (dk_at dksJ8_length_0 1 rfl rfl)
theorem dJ8_length_2 : decode cJ8_length 2 = .ok (.iconst 1, 1) := dk_4 (dk_at dksJ8_length_0 2 rfl rfl)
theorem dJ8_length_3 : decode cJ8_length 3 = .ok (.ishr, 1) := dk_122 (dk_at dksJ8_length_0 3 rfl rfl)
theorem dJ8_length_4 : decode cJ8_length 4 = .ok (.ireturn, 1) := dk_172 (dk_at dksJ8_length_0 4 rfl rfl)
abbrev cJ8_getChar : ByteArray := prog_31_method_5_code
def yJ8_getChar : MethodName := ⟨RJ8, "getChar", "([BI)C"⟩
def dkwJ8_getChar_2 : List UInt8 := [51, 17, 0, 255, 126, 178, 0, 63, 120, 128, 146, 172]
abbrev dktJ8_getChar_2 : List UInt8 := dkwJ8_getChar_2 ++ []
def dkwJ8_getChar_1 : List UInt8 := [183, 0, 56, 191, 27, 4, 120, 60, 42, 27, 132, 1, 1, 51, 17, 0, 255, 126, 178, 0, 59, 120, 42, 27]
abbrev dktJ8_getChar_1 : List UInt8 := dkwJ8_getChar_1 ++ dktJ8_getChar_2
def dkwJ8_getChar_0 : List UInt8 := [178, 0, 44, 154, 0, 25, 27, 155, 0, 11, 27, 42, 184, 0, 48, 161, 0, 13, 187, 0, 52, 89, 18, 54]
abbrev dktJ8_getChar_0 : List UInt8 := dkwJ8_getChar_0 ++ dktJ8_getChar_1
theorem dksJ8_getChar_0 : cJ8_getChar.data.toList.drop 0 = dktJ8_getChar_0 := by decide +kernel
theorem dksJ8_getChar_1 : cJ8_getChar.data.toList.drop 24 = dktJ8_getChar_1 := dk_seg dksJ8_getChar_0 24 rfl rfl
theorem dksJ8_getChar_2 : cJ8_getChar.data.toList.drop 48 = dktJ8_getChar_2 := dk_seg dksJ8_getChar_1 24 rfl rfl
theorem dJ8_getChar_0 : decode cJ8_getChar 0 = .ok (.getstatic 44, 3) := dk_178 0 44 (dk_at dksJ8_getChar_0 0 rfl rfl)
theorem dJ8_getChar_3 : decode cJ8_getChar 3 = .ok (.ifCond .ne 25, 3) := dk_154 0 25 (dk_at dksJ8_getChar_0 3 rfl rfl)
theorem dJ8_getChar_6 : decode cJ8_getChar 6 = .ok (.iload_n 1, 1) := dk_27 (dk_at dksJ8_getChar_0 6 rfl rfl)
theorem dJ8_getChar_7 : decode cJ8_getChar 7 = .ok (.ifCond .lt 11, 3) := dk_155 0 11 (dk_at dksJ8_getChar_0 7 rfl rfl)
theorem dJ8_getChar_10 : decode cJ8_getChar 10 = .ok (.iload_n 1, 1) := dk_27 (dk_at dksJ8_getChar_0 10 rfl rfl)
theorem dJ8_getChar_11 : decode cJ8_getChar 11 = .ok (.aload_n 0, 1) := dk_42 (dk_at dksJ8_getChar_0 11 rfl rfl)
theorem dJ8_getChar_12 : decode cJ8_getChar 12 = .ok (.invokestatic 48, 3) := dk_184 0 48 (dk_at dksJ8_getChar_0 12 rfl rfl)
theorem dJ8_getChar_15 : decode cJ8_getChar 15 = .ok (.if_icmp .lt 13, 3) := dk_161 0 13 (dk_at dksJ8_getChar_0 15 rfl rfl)
theorem dJ8_getChar_18 : decode cJ8_getChar 18 = .ok (.new 52, 3) := dk_187 0 52 (dk_at dksJ8_getChar_0 18 rfl rfl)
theorem dJ8_getChar_21 : decode cJ8_getChar 21 = .ok (.dup, 1) := dk_89 (dk_at dksJ8_getChar_0 21 rfl rfl)
theorem dJ8_getChar_22 : decode cJ8_getChar 22 = .ok (.ldc 54, 2) := dk_18 54 (dk_at dksJ8_getChar_0 22 rfl rfl)
theorem dJ8_getChar_24 : decode cJ8_getChar 24 = .ok (.invokespecial 56, 3) := dk_183 0 56 (dk_at dksJ8_getChar_1 0 rfl rfl)
theorem dJ8_getChar_27 : decode cJ8_getChar 27 = .ok (.athrow, 1) := dk_191 (dk_at dksJ8_getChar_1 3 rfl rfl)
theorem dJ8_getChar_28 : decode cJ8_getChar 28 = .ok (.iload_n 1, 1) := dk_27 (dk_at dksJ8_getChar_1 4 rfl rfl)
theorem dJ8_getChar_29 : decode cJ8_getChar 29 = .ok (.iconst 1, 1) := dk_4 (dk_at dksJ8_getChar_1 5 rfl rfl)
theorem dJ8_getChar_30 : decode cJ8_getChar 30 = .ok (.ishl, 1) := dk_120 (dk_at dksJ8_getChar_1 6 rfl rfl)
theorem dJ8_getChar_31 : decode cJ8_getChar 31 = .ok (.istore_n 1, 1) := dk_60 (dk_at dksJ8_getChar_1 7 rfl rfl)
theorem dJ8_getChar_32 : decode cJ8_getChar 32 = .ok (.aload_n 0, 1) := dk_42 (dk_at dksJ8_getChar_1 8 rfl rfl)
theorem dJ8_getChar_33 : decode cJ8_getChar 33 = .ok (.iload_n 1, 1) := dk_27 (dk_at dksJ8_getChar_1 9 rfl rfl)
theorem dJ8_getChar_34 : decode cJ8_getChar 34 = .ok (.iinc 1 1, 3) := dk_132 1 1 (dk_at dksJ8_getChar_1 10 rfl rfl)
theorem dJ8_getChar_37 : decode cJ8_getChar 37 = .ok (.baload, 1) := dk_51 (dk_at dksJ8_getChar_1 13 rfl rfl)
theorem dJ8_getChar_38 : decode cJ8_getChar 38 = .ok (.sipush 255, 3) := dk_17 0 255 (dk_at dksJ8_getChar_1 14 rfl rfl)
theorem dJ8_getChar_41 : decode cJ8_getChar 41 = .ok (.iand, 1) := dk_126 (dk_at dksJ8_getChar_1 17 rfl rfl)
theorem dJ8_getChar_42 : decode cJ8_getChar 42 = .ok (.getstatic 59, 3) := dk_178 0 59 (dk_at dksJ8_getChar_1 18 rfl rfl)
theorem dJ8_getChar_45 : decode cJ8_getChar 45 = .ok (.ishl, 1) := dk_120 (dk_at dksJ8_getChar_1 21 rfl rfl)
theorem dJ8_getChar_46 : decode cJ8_getChar 46 = .ok (.aload_n 0, 1) := dk_42 (dk_at dksJ8_getChar_1 22 rfl rfl)
theorem dJ8_getChar_47 : decode cJ8_getChar 47 = .ok (.iload_n 1, 1) := dk_27 (dk_at dksJ8_getChar_1 23 rfl rfl)
theorem dJ8_getChar_48 : decode cJ8_getChar 48 = .ok (.baload, 1) := dk_51 (dk_at dksJ8_getChar_2 0 rfl rfl)
theorem dJ8_getChar_49 : decode cJ8_getChar 49 = .ok (.sipush 255, 3) := dk_17 0 255 (dk_at dksJ8_getChar_2 1 rfl rfl)
theorem dJ8_getChar_52 : decode cJ8_getChar 52 = .ok (.iand, 1) := dk_126 (dk_at dksJ8_getChar_2 4 rfl rfl)
theorem dJ8_getChar_53 : decode cJ8_getChar 53 = .ok (.getstatic 63, 3) := dk_178 0 63 (dk_at dksJ8_getChar_2 5 rfl rfl)
theorem dJ8_getChar_56 : decode cJ8_getChar 56 = .ok (.ishl, 1) := dk_120 (dk_at dksJ8_getChar_2 8 rfl rfl)
theorem dJ8_getChar_57 : decode cJ8_getChar 57 = .ok (.ior, 1) := dk_128 (dk_at dksJ8_getChar_2 9 rfl rfl)
theorem dJ8_getChar_58 : decode cJ8_getChar 58 = .ok (.i2c, 1) := dk_146 (dk_at dksJ8_getChar_2 10 rfl rfl)
theorem dJ8_getChar_59 : decode cJ8_getChar 59 = .ok (.ireturn, 1) := dk_172 (dk_at dksJ8_getChar_2 11 rfl rfl)
theorem q139 : (Jvm.Cond.initialized "java/lang/StringUTF16") ∈ lw_all := lw_g (lw_at lw_m1 15 rfl) rfl
theorem q533 : (Jvm.Cond.static ({ cls := "java/lang/StringUTF16", name := "charAt", desc := "([BI)C" } : Jvm.MethodName)) ∈ lw_all := lw_g (lw_at lw_m2 169 rfl) rfl
theorem q534 : (Jvm.Cond.code ({ cls := "java/lang/StringUTF16", name := "charAt", desc := "([BI)C" } : Jvm.MethodName) prog_31_method_83_code (2 : Nat) (Option.some Jvm.ClassFile.FieldType.char)) ∈ lw_all := lw_g (lw_at lw_m2 170 rfl) rfl
theorem q535 : (Jvm.Cond.methodLink "java/lang/StringUTF16" (67 : Nat) ({ cls := "java/lang/StringUTF16", name := "checkIndex", desc := "(I[B)V" } : Jvm.MethodName)) ∈ lw_all := lw_g (lw_at lw_m2 171 rfl) rfl
theorem q536 : (Jvm.Cond.static ({ cls := "java/lang/StringUTF16", name := "checkIndex", desc := "(I[B)V" } : Jvm.MethodName)) ∈ lw_all := lw_g (lw_at lw_m2 172 rfl) rfl
theorem q537 : (Jvm.Cond.code ({ cls := "java/lang/StringUTF16", name := "checkIndex", desc := "(I[B)V" } : Jvm.MethodName) prog_31_method_91_code (2 : Nat) (Option.none : Option Jvm.ClassFile.FieldType)) ∈ lw_all := lw_g (lw_at lw_m2 173 rfl) rfl
theorem q538 : (Jvm.Cond.methodLink "java/lang/StringUTF16" (48 : Nat) ({ cls := "java/lang/StringUTF16", name := "length", desc := "([B)I" } : Jvm.MethodName)) ∈ lw_all := lw_g (lw_at lw_m2 174 rfl) rfl
theorem q539 : (Jvm.Cond.static ({ cls := "java/lang/StringUTF16", name := "length", desc := "([B)I" } : Jvm.MethodName)) ∈ lw_all := lw_g (lw_at lw_m2 175 rfl) rfl
theorem q540 : (Jvm.Cond.code ({ cls := "java/lang/StringUTF16", name := "length", desc := "([B)I" } : Jvm.MethodName) prog_31_method_6_code (1 : Nat) (Option.some Jvm.ClassFile.FieldType.int)) ∈ lw_all := lw_g (lw_at lw_m2 176 rfl) rfl
theorem q541 : (Jvm.Cond.methodLink "java/lang/StringUTF16" (414 : Nat) ({ cls := "java/lang/String", name := "checkIndex", desc := "(II)V" } : Jvm.MethodName)) ∈ lw_all := lw_g (lw_at lw_m2 177 rfl) rfl
theorem q542 : (Jvm.Cond.methodLink "java/lang/StringUTF16" (71 : Nat) ({ cls := "java/lang/StringUTF16", name := "getChar", desc := "([BI)C" } : Jvm.MethodName)) ∈ lw_all := lw_g (lw_at lw_m2 178 rfl) rfl
theorem q543 : (Jvm.Cond.static ({ cls := "java/lang/StringUTF16", name := "getChar", desc := "([BI)C" } : Jvm.MethodName)) ∈ lw_all := lw_g (lw_at lw_m2 179 rfl) rfl
theorem q544 : (Jvm.Cond.code ({ cls := "java/lang/StringUTF16", name := "getChar", desc := "([BI)C" } : Jvm.MethodName) prog_31_method_5_code (2 : Nat) (Option.some Jvm.ClassFile.FieldType.char)) ∈ lw_all := lw_g (lw_at lw_m2 180 rfl) rfl
theorem q545 : (Jvm.Cond.fieldLink "java/lang/StringUTF16" (44 : Nat) "java/lang/StringUTF16" "$assertionsDisabled" "Z") ∈ lw_all := lw_g (lw_at lw_m2 181 rfl) rfl
theorem q546 : (Jvm.Cond.laysStatic "java/lang/StringUTF16" "$assertionsDisabled" "Z") ∈ lw_tbl := lw_at lw_m2 182 rfl
theorem q547 : (Jvm.Cond.fieldLink "java/lang/StringUTF16" (59 : Nat) "java/lang/StringUTF16" "HI_BYTE_SHIFT" "I") ∈ lw_all := lw_g (lw_at lw_m2 183 rfl) rfl
theorem q548 : (Jvm.Cond.laysStatic "java/lang/StringUTF16" "HI_BYTE_SHIFT" "I") ∈ lw_tbl := lw_at lw_m2 184 rfl
theorem q549 : (Jvm.Cond.fieldLink "java/lang/StringUTF16" (63 : Nat) "java/lang/StringUTF16" "LO_BYTE_SHIFT" "I") ∈ lw_all := lw_g (lw_at lw_m2 185 rfl) rfl
theorem q550 : (Jvm.Cond.laysStatic "java/lang/StringUTF16" "LO_BYTE_SHIFT" "I") ∈ lw_tbl := lw_at lw_m2 186 rfl
/-! java/lang/Throwable -/
set_option maxRecDepth 100000
def RJ9 : String := "java/lang/Throwable"
def TJ9 : u_T := fun k => match k with
  | 0 => ("java/lang/Throwable", "cause", "Ljava/lang/Throwable;", false)
  | 1 => ("java/lang/Throwable", "stackTrace", "[Ljava/lang/StackTraceElement;", false)
  | 2 => ("java/lang/Throwable", "suppressedExceptions", "Ljava/util/List;", false)
  | 3 => ("java/lang/Throwable", "detailMessage", "Ljava/lang/String;", false)
  | _ => ("java/lang/Throwable", "backtrace", "Ljava/lang/Object;", false)
def tyJ9 : Nat → FieldType := fun k => match k with
  | 0 => .object "java/lang/Throwable"
  | 1 => .array (.object "java/lang/StackTraceElement")
  | 2 => .object "java/util/List"
  | 3 => .object "java/lang/String"
  | _ => .object "java/lang/Object"
abbrev wsJ90 : List Cond := u_ws RJ9 TJ9 5
theorem nmJ9 : ∀ a, a < 5 → ∀ b, b < 5 → a ≠ b → (TJ9 a).2.1 ≠ (TJ9 b).2.1 := by decide +kernel
theorem tyJ9_ok : ∀ k, k < 5 → parseFieldDescriptor (TJ9 k).2.2.1 = some (tyJ9 k) := by decide +kernel
abbrev cJ9_init : ByteArray := prog_33_method_1_code
def yJ9_init : MethodName := ⟨RJ9, "<init>", "()V"⟩
def dkwJ9_init_1 : List UInt8 := [182, 0, 27, 87, 177]
abbrev dktJ9_init_1 : List UInt8 := dkwJ9_init_1 ++ []
def dkwJ9_init_0 : List UInt8 := [42, 183, 0, 1, 42, 42, 181, 0, 7, 42, 178, 0, 13, 181, 0, 17, 42, 178, 0, 20, 181, 0, 24, 42]
abbrev dktJ9_init_0 : List UInt8 := dkwJ9_init_0 ++ dktJ9_init_1
theorem dksJ9_init_0 : cJ9_init.data.toList.drop 0 = dktJ9_init_0 := by decide +kernel
theorem dksJ9_init_1 : cJ9_init.data.toList.drop 24 = dktJ9_init_1 := dk_seg dksJ9_init_0 24 rfl rfl
theorem dJ9_init_0 : decode cJ9_init 0 = .ok (.aload_n 0, 1) := dk_42 (dk_at dksJ9_init_0 0 rfl rfl)
theorem dJ9_init_1 : decode cJ9_init 1 = .ok (.invokespecial 1, 3) := dk_183 0 1 (dk_at dksJ9_init_0 1 rfl rfl)
theorem dJ9_init_4 : decode cJ9_init 4 = .ok (.aload_n 0, 1) := dk_42 (dk_at dksJ9_init_0 4 rfl rfl)
theorem dJ9_init_5 : decode cJ9_init 5 = .ok (.aload_n 0, 1) := dk_42 (dk_at dksJ9_init_0 5 rfl rfl)
theorem dJ9_init_6 : decode cJ9_init 6 = .ok (.putfield 7, 3) := dk_181 0 7 (dk_at dksJ9_init_0 6 rfl rfl)
theorem dJ9_init_9 : decode cJ9_init 9 = .ok (.aload_n 0, 1) := dk_42 (dk_at dksJ9_init_0 9 rfl rfl)
theorem dJ9_init_10 : decode cJ9_init 10 = .ok (.getstatic 13, 3) := dk_178 0 13 (dk_at dksJ9_init_0 10 rfl rfl)
theorem dJ9_init_13 : decode cJ9_init 13 = .ok (.putfield 17, 3) := dk_181 0 17 (dk_at dksJ9_init_0 13 rfl rfl)
theorem dJ9_init_16 : decode cJ9_init 16 = .ok (.aload_n 0, 1) := dk_42 (dk_at dksJ9_init_0 16 rfl rfl)
theorem dJ9_init_17 : decode cJ9_init 17 = .ok (.getstatic 20, 3) := dk_178 0 20 (dk_at dksJ9_init_0 17 rfl rfl)
theorem dJ9_init_20 : decode cJ9_init 20 = .ok (.putfield 24, 3) := dk_181 0 24 (dk_at dksJ9_init_0 20 rfl rfl)
theorem dJ9_init_23 : decode cJ9_init 23 = .ok (.aload_n 0, 1) := dk_42 (dk_at dksJ9_init_0 23 rfl rfl)
theorem dJ9_init_24 : decode cJ9_init 24 = .ok (.invokevirtual 27, 3) := dk_182 0 27 (dk_at dksJ9_init_1 0 rfl rfl)
theorem dJ9_init_27 : decode cJ9_init 27 = .ok (.pop, 1) := dk_87 (dk_at dksJ9_init_1 3 rfl rfl)
theorem dJ9_init_28 : decode cJ9_init 28 = .ok (.return_, 1) := dk_177 (dk_at dksJ9_init_1 4 rfl rfl)
theorem q140 : (Jvm.Cond.initialized "java/lang/Throwable") ∈ lw_all := lw_g (lw_at lw_m1 16 rfl) rfl
theorem q566 : (Jvm.Cond.declares ({ cls := "java/lang/Throwable", name := "<init>", desc := "()V" } : Jvm.MethodName)) ∈ lw_tbl := lw_at lw_m2 202 rfl
theorem q567 : (Jvm.Cond.declares ({ cls := "java/lang/Throwable", name := "<init>", desc := "(Ljava/lang/String;)V" } : Jvm.MethodName)) ∈ lw_tbl := lw_at lw_m2 203 rfl
theorem q571 : (Jvm.Cond.lays "java/lang/Throwable" "java/lang/Throwable" "cause" "Ljava/lang/Throwable;") ∈ lw_all := lw_g (lw_at lw_m2 207 rfl) rfl
theorem q573 : (Jvm.Cond.lays "java/lang/Throwable" "java/lang/Throwable" "stackTrace" "[Ljava/lang/StackTraceElement;") ∈ lw_all := lw_g (lw_at lw_m2 209 rfl) rfl
theorem q575 : (Jvm.Cond.lays "java/lang/Throwable" "java/lang/Throwable" "suppressedExceptions" "Ljava/util/List;") ∈ lw_all := lw_g (lw_at lw_m2 211 rfl) rfl
theorem q577 : (Jvm.Cond.lays "java/lang/Throwable" "java/lang/Throwable" "detailMessage" "Ljava/lang/String;") ∈ lw_all := lw_g (lw_at lw_m2 213 rfl) rfl
theorem q579 : (Jvm.Cond.lays "java/lang/Throwable" "java/lang/Throwable" "backtrace" "Ljava/lang/Object;") ∈ lw_all := lw_g (lw_at lw_m2 215 rfl) rfl
theorem q580 : (Jvm.Cond.fieldLink "java/lang/Throwable" (198 : Nat) "java/lang/Throwable" "backtrace" "Ljava/lang/Object;") ∈ lw_all := lw_g (lw_at lw_m2 216 rfl) rfl
theorem q581 : (Jvm.Cond.superclass "java/lang/Throwable" "java/lang/Object") ∈ lw_all := lw_g (lw_at lw_m2 217 rfl) rfl
theorem q582 : (Jvm.Cond.instanceMethod ({ cls := "java/lang/Throwable", name := "<init>", desc := "()V" } : Jvm.MethodName)) ∈ lw_all := lw_g (lw_at lw_m2 218 rfl) rfl
theorem q583 : (Jvm.Cond.code ({ cls := "java/lang/Throwable", name := "<init>", desc := "()V" } : Jvm.MethodName) prog_33_method_1_code (1 : Nat) (Option.none : Option Jvm.ClassFile.FieldType)) ∈ lw_all := lw_g (lw_at lw_m2 219 rfl) rfl
theorem q584 : (Jvm.Cond.methodLink "java/lang/Throwable" (1 : Nat) ({ cls := "java/lang/Object", name := "<init>", desc := "()V" } : Jvm.MethodName)) ∈ lw_all := lw_g (lw_at lw_m2 220 rfl) rfl
theorem q585 : (Jvm.Cond.fieldLink "java/lang/Throwable" (13 : Nat) "java/lang/Throwable" "UNASSIGNED_STACK" "[Ljava/lang/StackTraceElement;") ∈ lw_all := lw_g (lw_at lw_m2 221 rfl) rfl
theorem q586 : (Jvm.Cond.laysStatic "java/lang/Throwable" "UNASSIGNED_STACK" "[Ljava/lang/StackTraceElement;") ∈ lw_tbl := lw_at lw_m2 222 rfl
theorem q587 : (Jvm.Cond.fieldLink "java/lang/Throwable" (20 : Nat) "java/lang/Throwable" "SUPPRESSED_SENTINEL" "Ljava/util/List;") ∈ lw_all := lw_g (lw_at lw_m2 223 rfl) rfl
theorem q588 : (Jvm.Cond.laysStatic "java/lang/Throwable" "SUPPRESSED_SENTINEL" "Ljava/util/List;") ∈ lw_tbl := lw_at lw_m2 224 rfl
theorem q589 : (Jvm.Cond.methodLink "java/lang/Throwable" (27 : Nat) ({ cls := "java/lang/Throwable", name := "fillInStackTrace", desc := "()Ljava/lang/Throwable;" } : Jvm.MethodName)) ∈ lw_all := lw_g (lw_at lw_m2 225 rfl) rfl
theorem q590 : (Jvm.Cond.instanceMethod ({ cls := "java/lang/Throwable", name := "fillInStackTrace", desc := "()Ljava/lang/Throwable;" } : Jvm.MethodName)) ∈ lw_all := lw_g (lw_at lw_m2 226 rfl) rfl
theorem q591 : (Jvm.Cond.sameMethod "java/lang/Throwable" "java/lang/Throwable" "fillInStackTrace" "()Ljava/lang/Throwable;") ∈ lw_all := lw_g (lw_at lw_m2 227 rfl) rfl
theorem q592 : (Jvm.Cond.codeSync ({ cls := "java/lang/Throwable", name := "fillInStackTrace", desc := "()Ljava/lang/Throwable;" } : Jvm.MethodName) prog_33_method_18_code (1 : Nat) (Option.some (Jvm.ClassFile.FieldType.object "java/lang/Throwable"))) ∈ lw_all := lw_g (lw_at lw_m2 228 rfl) rfl
theorem q593 : (Jvm.Cond.methodLink "java/lang/Throwable" (202 : Nat) ({ cls := "java/lang/Throwable", name := "fillInStackTrace", desc := "(I)Ljava/lang/Throwable;" } : Jvm.MethodName)) ∈ lw_all := lw_g (lw_at lw_m2 229 rfl) rfl
theorem q594 : (Jvm.Cond.privateMethod ({ cls := "java/lang/Throwable", name := "fillInStackTrace", desc := "(I)Ljava/lang/Throwable;" } : Jvm.MethodName)) ∈ lw_tbl := lw_at lw_m2 230 rfl
theorem q595 : (Jvm.Cond.instanceMethod ({ cls := "java/lang/Throwable", name := "fillInStackTrace", desc := "(I)Ljava/lang/Throwable;" } : Jvm.MethodName)) ∈ lw_all := lw_g (lw_at lw_m2 231 rfl) rfl
theorem q596 : (Jvm.Cond.instantiable "java/lang/Throwable" (6 : Nat)) ∈ lw_all := lw_g (lw_at lw_m2 232 rfl) rfl
theorem q597 : (Jvm.Cond.native ({ cls := "java/lang/Throwable", name := "fillInStackTrace", desc := "(I)Ljava/lang/Throwable;" } : Jvm.MethodName)) ∈ lw_all := lw_g (lw_at lw_m2 233 rfl) rfl
theorem q609 : (Jvm.Cond.fieldLink "java/lang/Throwable" (198 : Nat) "java/lang/Throwable" "backtrace" "Ljava/lang/Object;") ∈ lw_all := lw_g (lw_at lw_m3 5 rfl) rfl
theorem q610 : (Jvm.Cond.fieldLink "java/lang/Throwable" (7 : Nat) "java/lang/Throwable" "cause" "Ljava/lang/Throwable;") ∈ lw_all := lw_g (lw_at lw_m3 6 rfl) rfl
theorem q611 : (Jvm.Cond.fieldLink "java/lang/Throwable" (17 : Nat) "java/lang/Throwable" "stackTrace" "[Ljava/lang/StackTraceElement;") ∈ lw_all := lw_g (lw_at lw_m3 7 rfl) rfl
theorem q612 : (Jvm.Cond.fieldLink "java/lang/Throwable" (24 : Nat) "java/lang/Throwable" "suppressedExceptions" "Ljava/util/List;") ∈ lw_all := lw_g (lw_at lw_m3 8 rfl) rfl
theorem q617 : (Jvm.Cond.soleField "java/lang/Throwable" "backtrace") ∈ lw_all := lw_g (lw_at lw_m3 13 rfl) rfl
theorem q618 : (Jvm.Cond.soleField "java/lang/Throwable" "detailMessage") ∈ lw_all := lw_g (lw_at lw_m3 14 rfl) rfl
theorem q619 : (Jvm.Cond.soleField "java/lang/Throwable" "cause") ∈ lw_all := lw_g (lw_at lw_m3 15 rfl) rfl
theorem q620 : (Jvm.Cond.soleField "java/lang/Throwable" "stackTrace") ∈ lw_all := lw_g (lw_at lw_m3 16 rfl) rfl
theorem q622 : (Jvm.Cond.soleField "java/lang/Throwable" "depth") ∈ lw_all := lw_g (lw_at lw_m3 18 rfl) rfl
theorem q623 : (Jvm.Cond.soleField "java/lang/Throwable" "suppressedExceptions") ∈ lw_all := lw_g (lw_at lw_m3 19 rfl) rfl
theorem q1898 : (Jvm.Cond.sameMethod "java/lang/Throwable" "java/lang/Throwable" "fillInStackTrace" "(I)Ljava/lang/Throwable;") ∈ lw_all := lw_g (lw_at lw_m8 94 rfl) rfl
theorem q1917 : (Jvm.Cond.castable "java/lang/Throwable" "java/lang/Object") ∈ lw_tbl := lw_at lw_m8 113 rfl
theorem in_J9 : ∀ w ∈ wsJ90, w ∈ lw_all := lw_in wsJ90 [571, 573, 575, 577, 579] (by decide +kernel) (by decide +kernel)
/-! ThroughPack$State -/
set_option maxRecDepth 100000
def RX2 : String := "ThroughPack$State"
def TX2 : u_T := fun k => match k with
  | 0 => ("ThroughPack$State", "n", "[I", true)
  | 1 => ("ThroughPack$State", "ice", "[I", true)
  | 2 => ("ThroughPack$State", "cost", "[I", true)
  | 3 => ("ThroughPack$State", "ahead", "[I", true)
  | 4 => ("ThroughPack$State", "order", "[I", true)
  | 5 => ("ThroughPack$State", "prior", "[I", true)
  | 6 => ("ThroughPack$State", "exit", "[Z", true)
  | 7 => ("ThroughPack$State", "shore", "[Z", true)
  | 8 => ("ThroughPack$State", "drift", "[[I", true)
  | 9 => ("ThroughPack$State", "chance", "[[I", true)
  | 10 => ("ThroughPack$State", "ship", "[[I", true)
  | 11 => ("ThroughPack$State", "look", "[[I", true)
  | _ => ("ThroughPack$State", "text", "[LThroughPack$Text;", true)
def tyX2 : Nat → FieldType := fun k => match k with
  | 0 => .array .int
  | 1 => .array .int
  | 2 => .array .int
  | 3 => .array .int
  | 4 => .array .int
  | 5 => .array .int
  | 6 => .array .boolean
  | 7 => .array .boolean
  | 8 => .array (.array .int)
  | 9 => .array (.array .int)
  | 10 => .array (.array .int)
  | 11 => .array (.array .int)
  | _ => .array (.object "ThroughPack$Text")
abbrev wsX20 : List Cond := u_ws RX2 TX2 13
set_option maxRecDepth 100000 in
theorem nmX2 : ∀ a, a < 13 → ∀ b, b < 13 → a ≠ b → (TX2 a).2.1 ≠ (TX2 b).2.1 := by decide +kernel
set_option maxRecDepth 100000 in
theorem tyX2_ok : ∀ k, k < 13 → parseFieldDescriptor (TX2 k).2.2.1 = some (tyX2 k) := by decide +kernel
abbrev cX2_init : ByteArray := prog_11_method_1_code
def yX2_init : MethodName := ⟨RX2, "<init>", "()V"⟩
def dkwX2_init_8 : List UInt8 := [184, 0, 57, 42, 180, 0, 27, 4, 184, 0, 57, 177]
abbrev dktX2_init_8 : List UInt8 := dkwX2_init_8 ++ []
def dkwX2_init_7 : List UInt8 := [180, 0, 45, 3, 50, 4, 16, 20, 79, 42, 180, 0, 45, 4, 50, 3, 2, 79, 42, 180, 0, 24, 7]
abbrev dktX2_init_7 : List UInt8 := dkwX2_init_7 ++ dktX2_init_8
def dkwX2_init_6 : List UInt8 := [27, 7, 162, 0, 19, 42, 180, 0, 42, 27, 50, 27, 16, 10, 79, 132, 1, 1, 167, 255, 238, 42]
abbrev dktX2_init_6 : List UInt8 := dkwX2_init_6 ++ dktX2_init_7
def dkwX2_init_5 : List UInt8 := [197, 0, 37, 2, 181, 0, 48, 42, 7, 189, 0, 51, 181, 0, 53, 42, 180, 0, 9, 6, 2, 79, 3, 60]
abbrev dktX2_init_5 : List UInt8 := dkwX2_init_5 ++ dktX2_init_6
def dkwX2_init_4 : List UInt8 := [197, 0, 37, 2, 181, 0, 42, 42, 5, 7, 197, 0, 37, 2, 181, 0, 45, 42, 16, 30, 5]
abbrev dktX2_init_4 : List UInt8 := dkwX2_init_4 ++ dktX2_init_5
def dkwX2_init_3 : List UInt8 := [181, 0, 30, 42, 16, 36, 188, 4, 181, 0, 34, 42, 7, 5, 197, 0, 37, 2, 181, 0, 39, 42, 7, 7]
abbrev dktX2_init_3 : List UInt8 := dkwX2_init_3 ++ dktX2_init_4
def dkwX2_init_2 : List UInt8 := [181, 0, 21, 42, 16, 12, 188, 10, 181, 0, 24, 42, 16, 6, 188, 10, 181, 0, 27, 42, 16, 36, 188, 4]
abbrev dktX2_init_2 : List UInt8 := dkwX2_init_2 ++ dktX2_init_3
def dkwX2_init_1 : List UInt8 := [89, 3, 4, 79, 89, 4, 5, 79, 89, 5, 3, 79, 89, 6, 6, 79, 181, 0, 18, 42, 16, 12, 188, 10]
abbrev dktX2_init_1 : List UInt8 := dkwX2_init_1 ++ dktX2_init_2
def dkwX2_init_0 : List UInt8 := [42, 183, 0, 3, 42, 16, 9, 188, 10, 181, 0, 9, 42, 16, 36, 188, 10, 181, 0, 15, 42, 7, 188, 10]
abbrev dktX2_init_0 : List UInt8 := dkwX2_init_0 ++ dktX2_init_1
theorem dksX2_init_0 : cX2_init.data.toList.drop 0 = dktX2_init_0 := by decide +kernel
theorem dksX2_init_1 : cX2_init.data.toList.drop 24 = dktX2_init_1 := dk_seg dksX2_init_0 24 rfl rfl
theorem dksX2_init_2 : cX2_init.data.toList.drop 48 = dktX2_init_2 := dk_seg dksX2_init_1 24 rfl rfl
theorem dksX2_init_3 : cX2_init.data.toList.drop 72 = dktX2_init_3 := dk_seg dksX2_init_2 24 rfl rfl
theorem dksX2_init_4 : cX2_init.data.toList.drop 96 = dktX2_init_4 := dk_seg dksX2_init_3 24 rfl rfl
theorem dksX2_init_5 : cX2_init.data.toList.drop 117 = dktX2_init_5 := dk_seg dksX2_init_4 21 rfl rfl
theorem dksX2_init_6 : cX2_init.data.toList.drop 141 = dktX2_init_6 := dk_seg dksX2_init_5 24 rfl rfl
theorem dksX2_init_7 : cX2_init.data.toList.drop 163 = dktX2_init_7 := dk_seg dksX2_init_6 22 rfl rfl
theorem dksX2_init_8 : cX2_init.data.toList.drop 186 = dktX2_init_8 := dk_seg dksX2_init_7 23 rfl rfl
theorem dX2_init_0 : decode cX2_init 0 = .ok (.aload_n 0, 1) := dk_42 (dk_at dksX2_init_0 0 rfl rfl)
theorem dX2_init_1 : decode cX2_init 1 = .ok (.invokespecial 3, 3) := dk_183 0 3 (dk_at dksX2_init_0 1 rfl rfl)
theorem dX2_init_4 : decode cX2_init 4 = .ok (.aload_n 0, 1) := dk_42 (dk_at dksX2_init_0 4 rfl rfl)
theorem dX2_init_5 : decode cX2_init 5 = .ok (.bipush 9, 2) := dk_16 9 (dk_at dksX2_init_0 5 rfl rfl)
theorem dX2_init_7 : decode cX2_init 7 = .ok (.newarray .int, 2) := dk_188_10 (dk_at dksX2_init_0 7 rfl rfl)
theorem dX2_init_9 : decode cX2_init 9 = .ok (.putfield 9, 3) := dk_181 0 9 (dk_at dksX2_init_0 9 rfl rfl)
theorem dX2_init_12 : decode cX2_init 12 = .ok (.aload_n 0, 1) := dk_42 (dk_at dksX2_init_0 12 rfl rfl)
theorem dX2_init_13 : decode cX2_init 13 = .ok (.bipush 36, 2) := dk_16 36 (dk_at dksX2_init_0 13 rfl rfl)
theorem dX2_init_15 : decode cX2_init 15 = .ok (.newarray .int, 2) := dk_188_10 (dk_at dksX2_init_0 15 rfl rfl)
theorem dX2_init_17 : decode cX2_init 17 = .ok (.putfield 15, 3) := dk_181 0 15 (dk_at dksX2_init_0 17 rfl rfl)
theorem dX2_init_20 : decode cX2_init 20 = .ok (.aload_n 0, 1) := dk_42 (dk_at dksX2_init_0 20 rfl rfl)
theorem dX2_init_21 : decode cX2_init 21 = .ok (.iconst 4, 1) := dk_7 (dk_at dksX2_init_0 21 rfl rfl)
theorem dX2_init_22 : decode cX2_init 22 = .ok (.newarray .int, 2) := dk_188_10 (dk_at dksX2_init_0 22 rfl rfl)
theorem dX2_init_24 : decode cX2_init 24 = .ok (.dup, 1) := dk_89 (dk_at dksX2_init_1 0 rfl rfl)
theorem dX2_init_25 : decode cX2_init 25 = .ok (.iconst 0, 1) := dk_3 (dk_at dksX2_init_1 1 rfl rfl)
theorem dX2_init_26 : decode cX2_init 26 = .ok (.iconst 1, 1) := dk_4 (dk_at dksX2_init_1 2 rfl rfl)
theorem dX2_init_27 : decode cX2_init 27 = .ok (.iastore, 1) := dk_79 (dk_at dksX2_init_1 3 rfl rfl)
theorem dX2_init_28 : decode cX2_init 28 = .ok (.dup, 1) := dk_89 (dk_at dksX2_init_1 4 rfl rfl)
theorem dX2_init_29 : decode cX2_init 29 = .ok (.iconst 1, 1) := dk_4 (dk_at dksX2_init_1 5 rfl rfl)
theorem dX2_init_30 : decode cX2_init 30 = .ok (.iconst 2, 1) := dk_5 (dk_at dksX2_init_1 6 rfl rfl)
theorem dX2_init_31 : decode cX2_init 31 = .ok (.iastore, 1) := dk_79 (dk_at dksX2_init_1 7 rfl rfl)
theorem dX2_init_32 : decode cX2_init 32 = .ok (.dup, 1) := dk_89 (dk_at dksX2_init_1 8 rfl rfl)
theorem dX2_init_33 : decode cX2_init 33 = .ok (.iconst 2, 1) := dk_5 (dk_at dksX2_init_1 9 rfl rfl)
theorem dX2_init_34 : decode cX2_init 34 = .ok (.iconst 0, 1) := dk_3 (dk_at dksX2_init_1 10 rfl rfl)
theorem dX2_init_35 : decode cX2_init 35 = .ok (.iastore, 1) := dk_79 (dk_at dksX2_init_1 11 rfl rfl)
theorem dX2_init_36 : decode cX2_init 36 = .ok (.dup, 1) := dk_89 (dk_at dksX2_init_1 12 rfl rfl)
theorem dX2_init_37 : decode cX2_init 37 = .ok (.iconst 3, 1) := dk_6 (dk_at dksX2_init_1 13 rfl rfl)
theorem dX2_init_38 : decode cX2_init 38 = .ok (.iconst 3, 1) := dk_6 (dk_at dksX2_init_1 14 rfl rfl)
theorem dX2_init_39 : decode cX2_init 39 = .ok (.iastore, 1) := dk_79 (dk_at dksX2_init_1 15 rfl rfl)
theorem dX2_init_40 : decode cX2_init 40 = .ok (.putfield 18, 3) := dk_181 0 18 (dk_at dksX2_init_1 16 rfl rfl)
theorem dX2_init_43 : decode cX2_init 43 = .ok (.aload_n 0, 1) := dk_42 (dk_at dksX2_init_1 19 rfl rfl)
theorem dX2_init_44 : decode cX2_init 44 = .ok (.bipush 12, 2) := dk_16 12 (dk_at dksX2_init_1 20 rfl rfl)
theorem dX2_init_46 : decode cX2_init 46 = .ok (.newarray .int, 2) := dk_188_10 (dk_at dksX2_init_1 22 rfl rfl)
theorem dX2_init_48 : decode cX2_init 48 = .ok (.putfield 21, 3) := dk_181 0 21 (dk_at dksX2_init_2 0 rfl rfl)
theorem dX2_init_51 : decode cX2_init 51 = .ok (.aload_n 0, 1) := dk_42 (dk_at dksX2_init_2 3 rfl rfl)
theorem dX2_init_52 : decode cX2_init 52 = .ok (.bipush 12, 2) := dk_16 12 (dk_at dksX2_init_2 4 rfl rfl)
theorem dX2_init_54 : decode cX2_init 54 = .ok (.newarray .int, 2) := dk_188_10 (dk_at dksX2_init_2 6 rfl rfl)
theorem dX2_init_56 : decode cX2_init 56 = .ok (.putfield 24, 3) := dk_181 0 24 (dk_at dksX2_init_2 8 rfl rfl)
theorem dX2_init_59 : decode cX2_init 59 = .ok (.aload_n 0, 1) := dk_42 (dk_at dksX2_init_2 11 rfl rfl)
theorem dX2_init_60 : decode cX2_init 60 = .ok (.bipush 6, 2) := dk_16 6 (dk_at dksX2_init_2 12 rfl rfl)
theorem dX2_init_62 : decode cX2_init 62 = .ok (.newarray .int, 2) := dk_188_10 (dk_at dksX2_init_2 14 rfl rfl)
theorem dX2_init_64 : decode cX2_init 64 = .ok (.putfield 27, 3) := dk_181 0 27 (dk_at dksX2_init_2 16 rfl rfl)
theorem dX2_init_67 : decode cX2_init 67 = .ok (.aload_n 0, 1) := dk_42 (dk_at dksX2_init_2 19 rfl rfl)
theorem dX2_init_68 : decode cX2_init 68 = .ok (.bipush 36, 2) := dk_16 36 (dk_at dksX2_init_2 20 rfl rfl)
theorem dX2_init_70 : decode cX2_init 70 = .ok (.newarray .boolean, 2) := dk_188_4 (dk_at dksX2_init_2 22 rfl rfl)
theorem dX2_init_72 : decode cX2_init 72 = .ok (.putfield 30, 3) := dk_181 0 30 (dk_at dksX2_init_3 0 rfl rfl)
theorem dX2_init_75 : decode cX2_init 75 = .ok (.aload_n 0, 1) := dk_42 (dk_at dksX2_init_3 3 rfl rfl)
theorem dX2_init_76 : decode cX2_init 76 = .ok (.bipush 36, 2) := dk_16 36 (dk_at dksX2_init_3 4 rfl rfl)
theorem dX2_init_78 : decode cX2_init 78 = .ok (.newarray .boolean, 2) := dk_188_4 (dk_at dksX2_init_3 6 rfl rfl)
theorem dX2_init_80 : decode cX2_init 80 = .ok (.putfield 34, 3) := dk_181 0 34 (dk_at dksX2_init_3 8 rfl rfl)
theorem dX2_init_83 : decode cX2_init 83 = .ok (.aload_n 0, 1) := dk_42 (dk_at dksX2_init_3 11 rfl rfl)
theorem dX2_init_84 : decode cX2_init 84 = .ok (.iconst 4, 1) := dk_7 (dk_at dksX2_init_3 12 rfl rfl)
theorem dX2_init_85 : decode cX2_init 85 = .ok (.iconst 2, 1) := dk_5 (dk_at dksX2_init_3 13 rfl rfl)
theorem dX2_init_86 : decode cX2_init 86 = .ok (.multianewarray 37 2, 4) := by decide +kernel
theorem dX2_init_90 : decode cX2_init 90 = .ok (.putfield 39, 3) := dk_181 0 39 (dk_at dksX2_init_3 18 rfl rfl)
theorem dX2_init_93 : decode cX2_init 93 = .ok (.aload_n 0, 1) := dk_42 (dk_at dksX2_init_3 21 rfl rfl)
theorem dX2_init_94 : decode cX2_init 94 = .ok (.iconst 4, 1) := dk_7 (dk_at dksX2_init_3 22 rfl rfl)
theorem dX2_init_95 : decode cX2_init 95 = .ok (.iconst 4, 1) := dk_7 (dk_at dksX2_init_3 23 rfl rfl)
theorem dX2_init_96 : decode cX2_init 96 = .ok (.multianewarray 37 2, 4) := by decide +kernel
theorem dX2_init_100 : decode cX2_init 100 = .ok (.putfield 42, 3) := dk_181 0 42 (dk_at dksX2_init_4 4 rfl rfl)
theorem dX2_init_103 : decode cX2_init 103 = .ok (.aload_n 0, 1) := dk_42 (dk_at dksX2_init_4 7 rfl rfl)
theorem dX2_init_104 : decode cX2_init 104 = .ok (.iconst 2, 1) := dk_5 (dk_at dksX2_init_4 8 rfl rfl)
theorem dX2_init_105 : decode cX2_init 105 = .ok (.iconst 4, 1) := dk_7 (dk_at dksX2_init_4 9 rfl rfl)
theorem dX2_init_106 : decode cX2_init 106 = .ok (.multianewarray 37 2, 4) := by decide +kernel
theorem dX2_init_110 : decode cX2_init 110 = .ok (.putfield 45, 3) := dk_181 0 45 (dk_at dksX2_init_4 14 rfl rfl)
theorem dX2_init_113 : decode cX2_init 113 = .ok (.aload_n 0, 1) := dk_42 (dk_at dksX2_init_4 17 rfl rfl)
theorem dX2_init_114 : decode cX2_init 114 = .ok (.bipush 30, 2) := dk_16 30 (dk_at dksX2_init_4 18 rfl rfl)
theorem dX2_init_116 : decode cX2_init 116 = .ok (.iconst 2, 1) := dk_5 (dk_at dksX2_init_4 20 rfl rfl)
theorem dX2_init_117 : decode cX2_init 117 = .ok (.multianewarray 37 2, 4) := by decide +kernel
theorem dX2_init_121 : decode cX2_init 121 = .ok (.putfield 48, 3) := dk_181 0 48 (dk_at dksX2_init_5 4 rfl rfl)
theorem dX2_init_124 : decode cX2_init 124 = .ok (.aload_n 0, 1) := dk_42 (dk_at dksX2_init_5 7 rfl rfl)
theorem dX2_init_125 : decode cX2_init 125 = .ok (.iconst 4, 1) := dk_7 (dk_at dksX2_init_5 8 rfl rfl)
theorem dX2_init_126 : decode cX2_init 126 = .ok (.anewarray 51, 3) := dk_189 0 51 (dk_at dksX2_init_5 9 rfl rfl)
theorem dX2_init_129 : decode cX2_init 129 = .ok (.putfield 53, 3) := dk_181 0 53 (dk_at dksX2_init_5 12 rfl rfl)
theorem dX2_init_132 : decode cX2_init 132 = .ok (.aload_n 0, 1) := dk_42 (dk_at dksX2_init_5 15 rfl rfl)
theorem dX2_init_133 : decode cX2_init 133 = .ok (.getfield 9, 3) := dk_180 0 9 (dk_at dksX2_init_5 16 rfl rfl)
theorem dX2_init_136 : decode cX2_init 136 = .ok (.iconst 3, 1) := dk_6 (dk_at dksX2_init_5 19 rfl rfl)
theorem dX2_init_137 : decode cX2_init 137 = .ok (.iconst (-1), 1) := dk_2 (dk_at dksX2_init_5 20 rfl rfl)
theorem dX2_init_138 : decode cX2_init 138 = .ok (.iastore, 1) := dk_79 (dk_at dksX2_init_5 21 rfl rfl)
theorem dX2_init_139 : decode cX2_init 139 = .ok (.iconst 0, 1) := dk_3 (dk_at dksX2_init_5 22 rfl rfl)
theorem dX2_init_140 : decode cX2_init 140 = .ok (.istore_n 1, 1) := dk_60 (dk_at dksX2_init_5 23 rfl rfl)
theorem dX2_init_141 : decode cX2_init 141 = .ok (.iload_n 1, 1) := dk_27 (dk_at dksX2_init_6 0 rfl rfl)
theorem dX2_init_142 : decode cX2_init 142 = .ok (.iconst 4, 1) := dk_7 (dk_at dksX2_init_6 1 rfl rfl)
theorem dX2_init_143 : decode cX2_init 143 = .ok (.if_icmp .ge 19, 3) := dk_162 0 19 (dk_at dksX2_init_6 2 rfl rfl)
theorem dX2_init_146 : decode cX2_init 146 = .ok (.aload_n 0, 1) := dk_42 (dk_at dksX2_init_6 5 rfl rfl)
theorem dX2_init_147 : decode cX2_init 147 = .ok (.getfield 42, 3) := dk_180 0 42 (dk_at dksX2_init_6 6 rfl rfl)
theorem dX2_init_150 : decode cX2_init 150 = .ok (.iload_n 1, 1) := dk_27 (dk_at dksX2_init_6 9 rfl rfl)
theorem dX2_init_151 : decode cX2_init 151 = .ok (.aaload, 1) := dk_50 (dk_at dksX2_init_6 10 rfl rfl)
theorem dX2_init_152 : decode cX2_init 152 = .ok (.iload_n 1, 1) := dk_27 (dk_at dksX2_init_6 11 rfl rfl)
theorem dX2_init_153 : decode cX2_init 153 = .ok (.bipush 10, 2) := dk_16 10 (dk_at dksX2_init_6 12 rfl rfl)
theorem dX2_init_155 : decode cX2_init 155 = .ok (.iastore, 1) := dk_79 (dk_at dksX2_init_6 14 rfl rfl)
theorem dX2_init_156 : decode cX2_init 156 = .ok (.iinc 1 1, 3) := dk_132 1 1 (dk_at dksX2_init_6 15 rfl rfl)
theorem dX2_init_159 : decode cX2_init 159 = .ok (.goto (-18), 3) := dk_167 255 238 (dk_at dksX2_init_6 18 rfl rfl)
theorem dX2_init_162 : decode cX2_init 162 = .ok (.aload_n 0, 1) := dk_42 (dk_at dksX2_init_6 21 rfl rfl)
theorem dX2_init_163 : decode cX2_init 163 = .ok (.getfield 45, 3) := dk_180 0 45 (dk_at dksX2_init_7 0 rfl rfl)
theorem dX2_init_166 : decode cX2_init 166 = .ok (.iconst 0, 1) := dk_3 (dk_at dksX2_init_7 3 rfl rfl)
theorem dX2_init_167 : decode cX2_init 167 = .ok (.aaload, 1) := dk_50 (dk_at dksX2_init_7 4 rfl rfl)
theorem dX2_init_168 : decode cX2_init 168 = .ok (.iconst 1, 1) := dk_4 (dk_at dksX2_init_7 5 rfl rfl)
theorem dX2_init_169 : decode cX2_init 169 = .ok (.bipush 20, 2) := dk_16 20 (dk_at dksX2_init_7 6 rfl rfl)
theorem dX2_init_171 : decode cX2_init 171 = .ok (.iastore, 1) := dk_79 (dk_at dksX2_init_7 8 rfl rfl)
theorem dX2_init_172 : decode cX2_init 172 = .ok (.aload_n 0, 1) := dk_42 (dk_at dksX2_init_7 9 rfl rfl)
theorem dX2_init_173 : decode cX2_init 173 = .ok (.getfield 45, 3) := dk_180 0 45 (dk_at dksX2_init_7 10 rfl rfl)
theorem dX2_init_176 : decode cX2_init 176 = .ok (.iconst 1, 1) := dk_4 (dk_at dksX2_init_7 13 rfl rfl)
theorem dX2_init_177 : decode cX2_init 177 = .ok (.aaload, 1) := dk_50 (dk_at dksX2_init_7 14 rfl rfl)
theorem dX2_init_178 : decode cX2_init 178 = .ok (.iconst 0, 1) := dk_3 (dk_at dksX2_init_7 15 rfl rfl)
theorem dX2_init_179 : decode cX2_init 179 = .ok (.iconst (-1), 1) := dk_2 (dk_at dksX2_init_7 16 rfl rfl)
theorem dX2_init_180 : decode cX2_init 180 = .ok (.iastore, 1) := dk_79 (dk_at dksX2_init_7 17 rfl rfl)
theorem dX2_init_181 : decode cX2_init 181 = .ok (.aload_n 0, 1) := dk_42 (dk_at dksX2_init_7 18 rfl rfl)
theorem dX2_init_182 : decode cX2_init 182 = .ok (.getfield 24, 3) := dk_180 0 24 (dk_at dksX2_init_7 19 rfl rfl)
theorem dX2_init_185 : decode cX2_init 185 = .ok (.iconst 4, 1) := dk_7 (dk_at dksX2_init_7 22 rfl rfl)
theorem dX2_init_186 : decode cX2_init 186 = .ok (.invokestatic 57, 3) := dk_184 0 57 (dk_at dksX2_init_8 0 rfl rfl)
theorem dX2_init_189 : decode cX2_init 189 = .ok (.aload_n 0, 1) := dk_42 (dk_at dksX2_init_8 3 rfl rfl)
theorem dX2_init_190 : decode cX2_init 190 = .ok (.getfield 27, 3) := dk_180 0 27 (dk_at dksX2_init_8 4 rfl rfl)
theorem dX2_init_193 : decode cX2_init 193 = .ok (.iconst 1, 1) := dk_4 (dk_at dksX2_init_8 7 rfl rfl)
theorem dX2_init_194 : decode cX2_init 194 = .ok (.invokestatic 57, 3) := dk_184 0 57 (dk_at dksX2_init_8 8 rfl rfl)
theorem dX2_init_197 : decode cX2_init 197 = .ok (.return_, 1) := dk_177 (dk_at dksX2_init_8 11 rfl rfl)
abbrev cX2_be : ByteArray := prog_11_method_4_code
def yX2_be : MethodName := ⟨RX2, "be", "(LThroughPack$State;)V"⟩
def dkwX2_be_6 : List UInt8 := [184, 0, 73, 43, 180, 0, 53, 3, 42, 180, 0, 53, 3, 7, 184, 0, 63, 177]
abbrev dktX2_be_6 : List UInt8 := dkwX2_be_6 ++ []
def dkwX2_be_5 : List UInt8 := [184, 0, 73, 43, 180, 0, 45, 42, 180, 0, 45, 184, 0, 73, 43, 180, 0, 48, 42, 180, 0, 48]
abbrev dktX2_be_5 : List UInt8 := dkwX2_be_5 ++ dktX2_be_6
def dkwX2_be_4 : List UInt8 := [16, 36, 184, 0, 63, 43, 180, 0, 39, 42, 180, 0, 39, 184, 0, 73, 43, 180, 0, 42, 42, 180, 0, 42]
abbrev dktX2_be_4 : List UInt8 := dkwX2_be_4 ++ dktX2_be_5
def dkwX2_be_3 : List UInt8 := [180, 0, 30, 3, 42, 180, 0, 30, 3, 16, 36, 184, 0, 63, 43, 180, 0, 34, 3, 42, 180, 0, 34, 3]
abbrev dktX2_be_3 : List UInt8 := dkwX2_be_3 ++ dktX2_be_4
def dkwX2_be_2 : List UInt8 := [180, 0, 24, 42, 180, 0, 24, 184, 0, 69, 43, 180, 0, 27, 42, 180, 0, 27, 184, 0, 69, 43]
abbrev dktX2_be_2 : List UInt8 := dkwX2_be_2 ++ dktX2_be_3
def dkwX2_be_1 : List UInt8 := [180, 0, 18, 42, 180, 0, 18, 184, 0, 69, 43, 180, 0, 21, 42, 180, 0, 21, 184, 0, 69, 43]
abbrev dktX2_be_1 : List UInt8 := dkwX2_be_1 ++ dktX2_be_2
def dkwX2_be_0 : List UInt8 := [43, 180, 0, 9, 42, 180, 0, 9, 184, 0, 69, 43, 180, 0, 15, 42, 180, 0, 15, 184, 0, 69, 43]
abbrev dktX2_be_0 : List UInt8 := dkwX2_be_0 ++ dktX2_be_1
theorem dksX2_be_0 : cX2_be.data.toList.drop 0 = dktX2_be_0 := by decide +kernel
theorem dksX2_be_1 : cX2_be.data.toList.drop 23 = dktX2_be_1 := dk_seg dksX2_be_0 23 rfl rfl
theorem dksX2_be_2 : cX2_be.data.toList.drop 45 = dktX2_be_2 := dk_seg dksX2_be_1 22 rfl rfl
theorem dksX2_be_3 : cX2_be.data.toList.drop 67 = dktX2_be_3 := dk_seg dksX2_be_2 22 rfl rfl
theorem dksX2_be_4 : cX2_be.data.toList.drop 91 = dktX2_be_4 := dk_seg dksX2_be_3 24 rfl rfl
theorem dksX2_be_5 : cX2_be.data.toList.drop 115 = dktX2_be_5 := dk_seg dksX2_be_4 24 rfl rfl
theorem dksX2_be_6 : cX2_be.data.toList.drop 137 = dktX2_be_6 := dk_seg dksX2_be_5 22 rfl rfl
theorem dX2_be_0 : decode cX2_be 0 = .ok (.aload_n 1, 1) := dk_43 (dk_at dksX2_be_0 0 rfl rfl)
theorem dX2_be_1 : decode cX2_be 1 = .ok (.getfield 9, 3) := dk_180 0 9 (dk_at dksX2_be_0 1 rfl rfl)
theorem dX2_be_4 : decode cX2_be 4 = .ok (.aload_n 0, 1) := dk_42 (dk_at dksX2_be_0 4 rfl rfl)
theorem dX2_be_5 : decode cX2_be 5 = .ok (.getfield 9, 3) := dk_180 0 9 (dk_at dksX2_be_0 5 rfl rfl)
theorem dX2_be_8 : decode cX2_be 8 = .ok (.invokestatic 69, 3) := dk_184 0 69 (dk_at dksX2_be_0 8 rfl rfl)
theorem dX2_be_11 : decode cX2_be 11 = .ok (.aload_n 1, 1) := dk_43 (dk_at dksX2_be_0 11 rfl rfl)
theorem dX2_be_12 : decode cX2_be 12 = .ok (.getfield 15, 3) := dk_180 0 15 (dk_at dksX2_be_0 12 rfl rfl)
theorem dX2_be_15 : decode cX2_be 15 = .ok (.aload_n 0, 1) := dk_42 (dk_at dksX2_be_0 15 rfl rfl)
theorem dX2_be_16 : decode cX2_be 16 = .ok (.getfield 15, 3) := dk_180 0 15 (dk_at dksX2_be_0 16 rfl rfl)
theorem dX2_be_19 : decode cX2_be 19 = .ok (.invokestatic 69, 3) := dk_184 0 69 (dk_at dksX2_be_0 19 rfl rfl)
theorem dX2_be_22 : decode cX2_be 22 = .ok (.aload_n 1, 1) := dk_43 (dk_at dksX2_be_0 22 rfl rfl)
theorem dX2_be_23 : decode cX2_be 23 = .ok (.getfield 18, 3) := dk_180 0 18 (dk_at dksX2_be_1 0 rfl rfl)
theorem dX2_be_26 : decode cX2_be 26 = .ok (.aload_n 0, 1) := dk_42 (dk_at dksX2_be_1 3 rfl rfl)
theorem dX2_be_27 : decode cX2_be 27 = .ok (.getfield 18, 3) := dk_180 0 18 (dk_at dksX2_be_1 4 rfl rfl)
theorem dX2_be_30 : decode cX2_be 30 = .ok (.invokestatic 69, 3) := dk_184 0 69 (dk_at dksX2_be_1 7 rfl rfl)
theorem dX2_be_33 : decode cX2_be 33 = .ok (.aload_n 1, 1) := dk_43 (dk_at dksX2_be_1 10 rfl rfl)
theorem dX2_be_34 : decode cX2_be 34 = .ok (.getfield 21, 3) := dk_180 0 21 (dk_at dksX2_be_1 11 rfl rfl)
theorem dX2_be_37 : decode cX2_be 37 = .ok (.aload_n 0, 1) := dk_42 (dk_at dksX2_be_1 14 rfl rfl)
theorem dX2_be_38 : decode cX2_be 38 = .ok (.getfield 21, 3) := dk_180 0 21 (dk_at dksX2_be_1 15 rfl rfl)
theorem dX2_be_41 : decode cX2_be 41 = .ok (.invokestatic 69, 3) := dk_184 0 69 (dk_at dksX2_be_1 18 rfl rfl)
theorem dX2_be_44 : decode cX2_be 44 = .ok (.aload_n 1, 1) := dk_43 (dk_at dksX2_be_1 21 rfl rfl)
theorem dX2_be_45 : decode cX2_be 45 = .ok (.getfield 24, 3) := dk_180 0 24 (dk_at dksX2_be_2 0 rfl rfl)
theorem dX2_be_48 : decode cX2_be 48 = .ok (.aload_n 0, 1) := dk_42 (dk_at dksX2_be_2 3 rfl rfl)
theorem dX2_be_49 : decode cX2_be 49 = .ok (.getfield 24, 3) := dk_180 0 24 (dk_at dksX2_be_2 4 rfl rfl)
theorem dX2_be_52 : decode cX2_be 52 = .ok (.invokestatic 69, 3) := dk_184 0 69 (dk_at dksX2_be_2 7 rfl rfl)
theorem dX2_be_55 : decode cX2_be 55 = .ok (.aload_n 1, 1) := dk_43 (dk_at dksX2_be_2 10 rfl rfl)
theorem dX2_be_56 : decode cX2_be 56 = .ok (.getfield 27, 3) := dk_180 0 27 (dk_at dksX2_be_2 11 rfl rfl)
theorem dX2_be_59 : decode cX2_be 59 = .ok (.aload_n 0, 1) := dk_42 (dk_at dksX2_be_2 14 rfl rfl)
theorem dX2_be_60 : decode cX2_be 60 = .ok (.getfield 27, 3) := dk_180 0 27 (dk_at dksX2_be_2 15 rfl rfl)
theorem dX2_be_63 : decode cX2_be 63 = .ok (.invokestatic 69, 3) := dk_184 0 69 (dk_at dksX2_be_2 18 rfl rfl)
theorem dX2_be_66 : decode cX2_be 66 = .ok (.aload_n 1, 1) := dk_43 (dk_at dksX2_be_2 21 rfl rfl)
theorem dX2_be_67 : decode cX2_be 67 = .ok (.getfield 30, 3) := dk_180 0 30 (dk_at dksX2_be_3 0 rfl rfl)
theorem dX2_be_70 : decode cX2_be 70 = .ok (.iconst 0, 1) := dk_3 (dk_at dksX2_be_3 3 rfl rfl)
theorem dX2_be_71 : decode cX2_be 71 = .ok (.aload_n 0, 1) := dk_42 (dk_at dksX2_be_3 4 rfl rfl)
theorem dX2_be_72 : decode cX2_be 72 = .ok (.getfield 30, 3) := dk_180 0 30 (dk_at dksX2_be_3 5 rfl rfl)
theorem dX2_be_75 : decode cX2_be 75 = .ok (.iconst 0, 1) := dk_3 (dk_at dksX2_be_3 8 rfl rfl)
theorem dX2_be_76 : decode cX2_be 76 = .ok (.bipush 36, 2) := dk_16 36 (dk_at dksX2_be_3 9 rfl rfl)
theorem dX2_be_78 : decode cX2_be 78 = .ok (.invokestatic 63, 3) := dk_184 0 63 (dk_at dksX2_be_3 11 rfl rfl)
theorem dX2_be_81 : decode cX2_be 81 = .ok (.aload_n 1, 1) := dk_43 (dk_at dksX2_be_3 14 rfl rfl)
theorem dX2_be_82 : decode cX2_be 82 = .ok (.getfield 34, 3) := dk_180 0 34 (dk_at dksX2_be_3 15 rfl rfl)
theorem dX2_be_85 : decode cX2_be 85 = .ok (.iconst 0, 1) := dk_3 (dk_at dksX2_be_3 18 rfl rfl)
theorem dX2_be_86 : decode cX2_be 86 = .ok (.aload_n 0, 1) := dk_42 (dk_at dksX2_be_3 19 rfl rfl)
theorem dX2_be_87 : decode cX2_be 87 = .ok (.getfield 34, 3) := dk_180 0 34 (dk_at dksX2_be_3 20 rfl rfl)
theorem dX2_be_90 : decode cX2_be 90 = .ok (.iconst 0, 1) := dk_3 (dk_at dksX2_be_3 23 rfl rfl)
theorem dX2_be_91 : decode cX2_be 91 = .ok (.bipush 36, 2) := dk_16 36 (dk_at dksX2_be_4 0 rfl rfl)
theorem dX2_be_93 : decode cX2_be 93 = .ok (.invokestatic 63, 3) := dk_184 0 63 (dk_at dksX2_be_4 2 rfl rfl)
theorem dX2_be_96 : decode cX2_be 96 = .ok (.aload_n 1, 1) := dk_43 (dk_at dksX2_be_4 5 rfl rfl)
theorem dX2_be_97 : decode cX2_be 97 = .ok (.getfield 39, 3) := dk_180 0 39 (dk_at dksX2_be_4 6 rfl rfl)
theorem dX2_be_100 : decode cX2_be 100 = .ok (.aload_n 0, 1) := dk_42 (dk_at dksX2_be_4 9 rfl rfl)
theorem dX2_be_101 : decode cX2_be 101 = .ok (.getfield 39, 3) := dk_180 0 39 (dk_at dksX2_be_4 10 rfl rfl)
theorem dX2_be_104 : decode cX2_be 104 = .ok (.invokestatic 73, 3) := dk_184 0 73 (dk_at dksX2_be_4 13 rfl rfl)
theorem dX2_be_107 : decode cX2_be 107 = .ok (.aload_n 1, 1) := dk_43 (dk_at dksX2_be_4 16 rfl rfl)
theorem dX2_be_108 : decode cX2_be 108 = .ok (.getfield 42, 3) := dk_180 0 42 (dk_at dksX2_be_4 17 rfl rfl)
theorem dX2_be_111 : decode cX2_be 111 = .ok (.aload_n 0, 1) := dk_42 (dk_at dksX2_be_4 20 rfl rfl)
theorem dX2_be_112 : decode cX2_be 112 = .ok (.getfield 42, 3) := dk_180 0 42 (dk_at dksX2_be_4 21 rfl rfl)
theorem dX2_be_115 : decode cX2_be 115 = .ok (.invokestatic 73, 3) := dk_184 0 73 (dk_at dksX2_be_5 0 rfl rfl)
theorem dX2_be_118 : decode cX2_be 118 = .ok (.aload_n 1, 1) := dk_43 (dk_at dksX2_be_5 3 rfl rfl)
theorem dX2_be_119 : decode cX2_be 119 = .ok (.getfield 45, 3) := dk_180 0 45 (dk_at dksX2_be_5 4 rfl rfl)
theorem dX2_be_122 : decode cX2_be 122 = .ok (.aload_n 0, 1) := dk_42 (dk_at dksX2_be_5 7 rfl rfl)
theorem dX2_be_123 : decode cX2_be 123 = .ok (.getfield 45, 3) := dk_180 0 45 (dk_at dksX2_be_5 8 rfl rfl)
theorem dX2_be_126 : decode cX2_be 126 = .ok (.invokestatic 73, 3) := dk_184 0 73 (dk_at dksX2_be_5 11 rfl rfl)
theorem dX2_be_129 : decode cX2_be 129 = .ok (.aload_n 1, 1) := dk_43 (dk_at dksX2_be_5 14 rfl rfl)
theorem dX2_be_130 : decode cX2_be 130 = .ok (.getfield 48, 3) := dk_180 0 48 (dk_at dksX2_be_5 15 rfl rfl)
theorem dX2_be_133 : decode cX2_be 133 = .ok (.aload_n 0, 1) := dk_42 (dk_at dksX2_be_5 18 rfl rfl)
theorem dX2_be_134 : decode cX2_be 134 = .ok (.getfield 48, 3) := dk_180 0 48 (dk_at dksX2_be_5 19 rfl rfl)
theorem dX2_be_137 : decode cX2_be 137 = .ok (.invokestatic 73, 3) := dk_184 0 73 (dk_at dksX2_be_6 0 rfl rfl)
theorem dX2_be_140 : decode cX2_be 140 = .ok (.aload_n 1, 1) := dk_43 (dk_at dksX2_be_6 3 rfl rfl)
theorem dX2_be_141 : decode cX2_be 141 = .ok (.getfield 53, 3) := dk_180 0 53 (dk_at dksX2_be_6 4 rfl rfl)
theorem dX2_be_144 : decode cX2_be 144 = .ok (.iconst 0, 1) := dk_3 (dk_at dksX2_be_6 7 rfl rfl)
theorem dX2_be_145 : decode cX2_be 145 = .ok (.aload_n 0, 1) := dk_42 (dk_at dksX2_be_6 8 rfl rfl)
theorem dX2_be_146 : decode cX2_be 146 = .ok (.getfield 53, 3) := dk_180 0 53 (dk_at dksX2_be_6 9 rfl rfl)
theorem dX2_be_149 : decode cX2_be 149 = .ok (.iconst 0, 1) := dk_3 (dk_at dksX2_be_6 12 rfl rfl)
theorem dX2_be_150 : decode cX2_be 150 = .ok (.iconst 4, 1) := dk_7 (dk_at dksX2_be_6 13 rfl rfl)
theorem dX2_be_151 : decode cX2_be 151 = .ok (.invokestatic 63, 3) := dk_184 0 63 (dk_at dksX2_be_6 14 rfl rfl)
theorem dX2_be_154 : decode cX2_be 154 = .ok (.return_, 1) := dk_177 (dk_at dksX2_be_6 17 rfl rfl)
abbrev cX2_copy : ByteArray := prog_11_method_2_code
def yX2_copy : MethodName := ⟨RX2, "copy", "([I[I)V"⟩
def dkwX2_copy_0 : List UInt8 := [42, 3, 43, 3, 42, 190, 184, 0, 63, 177]
abbrev dktX2_copy_0 : List UInt8 := dkwX2_copy_0 ++ []
theorem dksX2_copy_0 : cX2_copy.data.toList.drop 0 = dktX2_copy_0 := by decide +kernel
theorem dX2_copy_0 : decode cX2_copy 0 = .ok (.aload_n 0, 1) := dk_42 (dk_at dksX2_copy_0 0 rfl rfl)
theorem dX2_copy_1 : decode cX2_copy 1 = .ok (.iconst 0, 1) := dk_3 (dk_at dksX2_copy_0 1 rfl rfl)
theorem dX2_copy_2 : decode cX2_copy 2 = .ok (.aload_n 1, 1) := dk_43 (dk_at dksX2_copy_0 2 rfl rfl)
theorem dX2_copy_3 : decode cX2_copy 3 = .ok (.iconst 0, 1) := dk_3 (dk_at dksX2_copy_0 3 rfl rfl)
theorem dX2_copy_4 : decode cX2_copy 4 = .ok (.aload_n 0, 1) := dk_42 (dk_at dksX2_copy_0 4 rfl rfl)
theorem dX2_copy_5 : decode cX2_copy 5 = .ok (.arraylength, 1) := dk_190 (dk_at dksX2_copy_0 5 rfl rfl)
theorem dX2_copy_6 : decode cX2_copy 6 = .ok (.invokestatic 63, 3) := dk_184 0 63 (dk_at dksX2_copy_0 6 rfl rfl)
theorem dX2_copy_9 : decode cX2_copy 9 = .ok (.return_, 1) := dk_177 (dk_at dksX2_copy_0 9 rfl rfl)
abbrev cX2_copy_2 : ByteArray := prog_11_method_3_code
def yX2_copy_2 : MethodName := ⟨RX2, "copy", "([[I[[I)V"⟩
def dkwX2_copy_2_0 : List UInt8 := [3, 61, 28, 42, 190, 162, 0, 18, 42, 28, 50, 43, 28, 50, 184, 0, 69, 132, 2, 1, 167, 255, 238, 177]
abbrev dktX2_copy_2_0 : List UInt8 := dkwX2_copy_2_0 ++ []
theorem dksX2_copy_2_0 : cX2_copy_2.data.toList.drop 0 = dktX2_copy_2_0 := by decide +kernel
theorem dX2_copy_2_0 : decode cX2_copy_2 0 = .ok (.iconst 0, 1) := dk_3 (dk_at dksX2_copy_2_0 0 rfl rfl)
theorem dX2_copy_2_1 : decode cX2_copy_2 1 = .ok (.istore_n 2, 1) := dk_61 (dk_at dksX2_copy_2_0 1 rfl rfl)
theorem dX2_copy_2_2 : decode cX2_copy_2 2 = .ok (.iload_n 2, 1) := dk_28 (dk_at dksX2_copy_2_0 2 rfl rfl)
theorem dX2_copy_2_3 : decode cX2_copy_2 3 = .ok (.aload_n 0, 1) := dk_42 (dk_at dksX2_copy_2_0 3 rfl rfl)
theorem dX2_copy_2_4 : decode cX2_copy_2 4 = .ok (.arraylength, 1) := dk_190 (dk_at dksX2_copy_2_0 4 rfl rfl)
theorem dX2_copy_2_5 : decode cX2_copy_2 5 = .ok (.if_icmp .ge 18, 3) := dk_162 0 18 (dk_at dksX2_copy_2_0 5 rfl rfl)
theorem dX2_copy_2_8 : decode cX2_copy_2 8 = .ok (.aload_n 0, 1) := dk_42 (dk_at dksX2_copy_2_0 8 rfl rfl)
theorem dX2_copy_2_9 : decode cX2_copy_2 9 = .ok (.iload_n 2, 1) := dk_28 (dk_at dksX2_copy_2_0 9 rfl rfl)
theorem dX2_copy_2_10 : decode cX2_copy_2 10 = .ok (.aaload, 1) := dk_50 (dk_at dksX2_copy_2_0 10 rfl rfl)
theorem dX2_copy_2_11 : decode cX2_copy_2 11 = .ok (.aload_n 1, 1) := dk_43 (dk_at dksX2_copy_2_0 11 rfl rfl)
theorem dX2_copy_2_12 : decode cX2_copy_2 12 = .ok (.iload_n 2, 1) := dk_28 (dk_at dksX2_copy_2_0 12 rfl rfl)
theorem dX2_copy_2_13 : decode cX2_copy_2 13 = .ok (.aaload, 1) := dk_50 (dk_at dksX2_copy_2_0 13 rfl rfl)
theorem dX2_copy_2_14 : decode cX2_copy_2 14 = .ok (.invokestatic 69, 3) := dk_184 0 69 (dk_at dksX2_copy_2_0 14 rfl rfl)
theorem dX2_copy_2_17 : decode cX2_copy_2 17 = .ok (.iinc 2 1, 3) := dk_132 2 1 (dk_at dksX2_copy_2_0 17 rfl rfl)
theorem dX2_copy_2_20 : decode cX2_copy_2 20 = .ok (.goto (-18), 3) := dk_167 255 238 (dk_at dksX2_copy_2_0 20 rfl rfl)
theorem dX2_copy_2_23 : decode cX2_copy_2 23 = .ok (.return_, 1) := dk_177 (dk_at dksX2_copy_2_0 23 rfl rfl)
theorem q126 : (Jvm.Cond.initialized "ThroughPack$State") ∈ lw_all := lw_g (lw_at lw_m1 2 rfl) rfl
theorem q166 : (Jvm.Cond.instantiable "ThroughPack$State" (13 : Nat)) ∈ lw_all := lw_g (lw_at lw_m1 42 rfl) rfl
theorem q168 : (Jvm.Cond.instanceMethod ({ cls := "ThroughPack$State", name := "<init>", desc := "()V" } : Jvm.MethodName)) ∈ lw_all := lw_g (lw_at lw_m1 44 rfl) rfl
theorem q169 : (Jvm.Cond.code ({ cls := "ThroughPack$State", name := "<init>", desc := "()V" } : Jvm.MethodName) prog_11_method_1_code (2 : Nat) (Option.none : Option Jvm.ClassFile.FieldType)) ∈ lw_all := lw_g (lw_at lw_m1 45 rfl) rfl
theorem q170 : (Jvm.Cond.methodLink "ThroughPack$State" (3 : Nat) ({ cls := "java/lang/Object", name := "<init>", desc := "()V" } : Jvm.MethodName)) ∈ lw_all := lw_g (lw_at lw_m1 46 rfl) rfl
theorem q171 : (Jvm.Cond.classLink "ThroughPack$State" (37 : Nat) "[[I") ∈ lw_all := lw_g (lw_at lw_m1 47 rfl) rfl
theorem q173 : (Jvm.Cond.classLink "ThroughPack$State" (51 : Nat) "ThroughPack$Text") ∈ lw_all := lw_g (lw_at lw_m1 49 rfl) rfl
theorem q175 : (Jvm.Cond.methodLink "ThroughPack$State" (57 : Nat) ({ cls := "java/util/Arrays", name := "fill", desc := "([II)V" } : Jvm.MethodName)) ∈ lw_all := lw_g (lw_at lw_m1 51 rfl) rfl
theorem q178 : (Jvm.Cond.fieldLink "ThroughPack$State" (9 : Nat) "ThroughPack$State" "n" "[I") ∈ lw_all := lw_g (lw_at lw_m1 54 rfl) rfl
theorem q180 : (Jvm.Cond.fieldLink "ThroughPack$State" (15 : Nat) "ThroughPack$State" "ice" "[I") ∈ lw_all := lw_g (lw_at lw_m1 56 rfl) rfl
theorem q182 : (Jvm.Cond.fieldLink "ThroughPack$State" (18 : Nat) "ThroughPack$State" "cost" "[I") ∈ lw_all := lw_g (lw_at lw_m1 58 rfl) rfl
theorem q184 : (Jvm.Cond.fieldLink "ThroughPack$State" (21 : Nat) "ThroughPack$State" "ahead" "[I") ∈ lw_all := lw_g (lw_at lw_m1 60 rfl) rfl
theorem q186 : (Jvm.Cond.fieldLink "ThroughPack$State" (24 : Nat) "ThroughPack$State" "order" "[I") ∈ lw_all := lw_g (lw_at lw_m1 62 rfl) rfl
theorem q188 : (Jvm.Cond.fieldLink "ThroughPack$State" (27 : Nat) "ThroughPack$State" "prior" "[I") ∈ lw_all := lw_g (lw_at lw_m1 64 rfl) rfl
theorem q190 : (Jvm.Cond.fieldLink "ThroughPack$State" (30 : Nat) "ThroughPack$State" "exit" "[Z") ∈ lw_all := lw_g (lw_at lw_m1 66 rfl) rfl
theorem q192 : (Jvm.Cond.fieldLink "ThroughPack$State" (34 : Nat) "ThroughPack$State" "shore" "[Z") ∈ lw_all := lw_g (lw_at lw_m1 68 rfl) rfl
theorem q194 : (Jvm.Cond.fieldLink "ThroughPack$State" (39 : Nat) "ThroughPack$State" "drift" "[[I") ∈ lw_all := lw_g (lw_at lw_m1 70 rfl) rfl
theorem q196 : (Jvm.Cond.fieldLink "ThroughPack$State" (42 : Nat) "ThroughPack$State" "chance" "[[I") ∈ lw_all := lw_g (lw_at lw_m1 72 rfl) rfl
theorem q198 : (Jvm.Cond.fieldLink "ThroughPack$State" (45 : Nat) "ThroughPack$State" "ship" "[[I") ∈ lw_all := lw_g (lw_at lw_m1 74 rfl) rfl
theorem q200 : (Jvm.Cond.fieldLink "ThroughPack$State" (48 : Nat) "ThroughPack$State" "look" "[[I") ∈ lw_all := lw_g (lw_at lw_m1 76 rfl) rfl
theorem q202 : (Jvm.Cond.fieldLink "ThroughPack$State" (53 : Nat) "ThroughPack$State" "text" "[LThroughPack$Text;") ∈ lw_all := lw_g (lw_at lw_m1 78 rfl) rfl
theorem q204 : (Jvm.Cond.laysFinal "ThroughPack$State" "ThroughPack$State" "n" "[I") ∈ lw_all := lw_g (lw_at lw_m1 80 rfl) rfl
theorem q205 : (Jvm.Cond.soleField "ThroughPack$State" "n") ∈ lw_all := lw_g (lw_at lw_m1 81 rfl) rfl
theorem q206 : (Jvm.Cond.laysFinal "ThroughPack$State" "ThroughPack$State" "ice" "[I") ∈ lw_all := lw_g (lw_at lw_m1 82 rfl) rfl
theorem q207 : (Jvm.Cond.soleField "ThroughPack$State" "ice") ∈ lw_all := lw_g (lw_at lw_m1 83 rfl) rfl
theorem q208 : (Jvm.Cond.laysFinal "ThroughPack$State" "ThroughPack$State" "cost" "[I") ∈ lw_all := lw_g (lw_at lw_m1 84 rfl) rfl
theorem q209 : (Jvm.Cond.soleField "ThroughPack$State" "cost") ∈ lw_all := lw_g (lw_at lw_m1 85 rfl) rfl
theorem q210 : (Jvm.Cond.laysFinal "ThroughPack$State" "ThroughPack$State" "ahead" "[I") ∈ lw_all := lw_g (lw_at lw_m1 86 rfl) rfl
theorem q211 : (Jvm.Cond.soleField "ThroughPack$State" "ahead") ∈ lw_all := lw_g (lw_at lw_m1 87 rfl) rfl
theorem q212 : (Jvm.Cond.laysFinal "ThroughPack$State" "ThroughPack$State" "order" "[I") ∈ lw_all := lw_g (lw_at lw_m1 88 rfl) rfl
theorem q213 : (Jvm.Cond.soleField "ThroughPack$State" "order") ∈ lw_all := lw_g (lw_at lw_m1 89 rfl) rfl
theorem q214 : (Jvm.Cond.laysFinal "ThroughPack$State" "ThroughPack$State" "prior" "[I") ∈ lw_all := lw_g (lw_at lw_m1 90 rfl) rfl
theorem q215 : (Jvm.Cond.soleField "ThroughPack$State" "prior") ∈ lw_all := lw_g (lw_at lw_m1 91 rfl) rfl
theorem q216 : (Jvm.Cond.laysFinal "ThroughPack$State" "ThroughPack$State" "exit" "[Z") ∈ lw_all := lw_g (lw_at lw_m1 92 rfl) rfl
theorem q217 : (Jvm.Cond.soleField "ThroughPack$State" "exit") ∈ lw_all := lw_g (lw_at lw_m1 93 rfl) rfl
theorem q218 : (Jvm.Cond.laysFinal "ThroughPack$State" "ThroughPack$State" "shore" "[Z") ∈ lw_all := lw_g (lw_at lw_m1 94 rfl) rfl
theorem q219 : (Jvm.Cond.soleField "ThroughPack$State" "shore") ∈ lw_all := lw_g (lw_at lw_m1 95 rfl) rfl
theorem q220 : (Jvm.Cond.laysFinal "ThroughPack$State" "ThroughPack$State" "drift" "[[I") ∈ lw_all := lw_g (lw_at lw_m1 96 rfl) rfl
theorem q221 : (Jvm.Cond.soleField "ThroughPack$State" "drift") ∈ lw_all := lw_g (lw_at lw_m1 97 rfl) rfl
theorem q222 : (Jvm.Cond.laysFinal "ThroughPack$State" "ThroughPack$State" "chance" "[[I") ∈ lw_all := lw_g (lw_at lw_m1 98 rfl) rfl
theorem q223 : (Jvm.Cond.soleField "ThroughPack$State" "chance") ∈ lw_all := lw_g (lw_at lw_m1 99 rfl) rfl
theorem q224 : (Jvm.Cond.laysFinal "ThroughPack$State" "ThroughPack$State" "ship" "[[I") ∈ lw_all := lw_g (lw_at lw_m1 100 rfl) rfl
theorem q225 : (Jvm.Cond.soleField "ThroughPack$State" "ship") ∈ lw_all := lw_g (lw_at lw_m1 101 rfl) rfl
theorem q226 : (Jvm.Cond.laysFinal "ThroughPack$State" "ThroughPack$State" "look" "[[I") ∈ lw_all := lw_g (lw_at lw_m1 102 rfl) rfl
theorem q227 : (Jvm.Cond.soleField "ThroughPack$State" "look") ∈ lw_all := lw_g (lw_at lw_m1 103 rfl) rfl
theorem q228 : (Jvm.Cond.laysFinal "ThroughPack$State" "ThroughPack$State" "text" "[LThroughPack$Text;") ∈ lw_all := lw_g (lw_at lw_m1 104 rfl) rfl
theorem q229 : (Jvm.Cond.soleField "ThroughPack$State" "text") ∈ lw_all := lw_g (lw_at lw_m1 105 rfl) rfl
theorem q230 : (Jvm.Cond.superclass "ThroughPack$State" "java/lang/Object") ∈ lw_all := lw_g (lw_at lw_m1 106 rfl) rfl
theorem q244 : (Jvm.Cond.instanceMethod ({ cls := "ThroughPack$State", name := "be", desc := "(LThroughPack$State;)V" } : Jvm.MethodName)) ∈ lw_all := lw_g (lw_at lw_m1 120 rfl) rfl
theorem q245 : (Jvm.Cond.selects "ThroughPack$State" ({ cls := "ThroughPack$State", name := "be", desc := "(LThroughPack$State;)V" } : Jvm.MethodName) ({ cls := "ThroughPack$State", name := "be", desc := "(LThroughPack$State;)V" } : Jvm.MethodName)) ∈ lw_all := lw_g (lw_at lw_m1 121 rfl) rfl
theorem q246 : (Jvm.Cond.code ({ cls := "ThroughPack$State", name := "be", desc := "(LThroughPack$State;)V" } : Jvm.MethodName) prog_11_method_4_code (2 : Nat) (Option.none : Option Jvm.ClassFile.FieldType)) ∈ lw_all := lw_g (lw_at lw_m1 122 rfl) rfl
theorem q247 : (Jvm.Cond.methodLink "ThroughPack$State" (69 : Nat) ({ cls := "ThroughPack$State", name := "copy", desc := "([I[I)V" } : Jvm.MethodName)) ∈ lw_all := lw_g (lw_at lw_m1 123 rfl) rfl
theorem q248 : (Jvm.Cond.static ({ cls := "ThroughPack$State", name := "copy", desc := "([I[I)V" } : Jvm.MethodName)) ∈ lw_all := lw_g (lw_at lw_m1 124 rfl) rfl
theorem q249 : (Jvm.Cond.code ({ cls := "ThroughPack$State", name := "copy", desc := "([I[I)V" } : Jvm.MethodName) prog_11_method_2_code (2 : Nat) (Option.none : Option Jvm.ClassFile.FieldType)) ∈ lw_all := lw_g (lw_at lw_m1 125 rfl) rfl
theorem q250 : (Jvm.Cond.methodLink "ThroughPack$State" (63 : Nat) ({ cls := "java/lang/System", name := "arraycopy", desc := "(Ljava/lang/Object;ILjava/lang/Object;II)V" } : Jvm.MethodName)) ∈ lw_all := lw_g (lw_at lw_m1 126 rfl) rfl
theorem q253 : (Jvm.Cond.methodLink "ThroughPack$State" (73 : Nat) ({ cls := "ThroughPack$State", name := "copy", desc := "([[I[[I)V" } : Jvm.MethodName)) ∈ lw_all := lw_g (lw_at lw_m1 129 rfl) rfl
theorem q254 : (Jvm.Cond.static ({ cls := "ThroughPack$State", name := "copy", desc := "([[I[[I)V" } : Jvm.MethodName)) ∈ lw_all := lw_g (lw_at lw_m1 130 rfl) rfl
theorem q255 : (Jvm.Cond.code ({ cls := "ThroughPack$State", name := "copy", desc := "([[I[[I)V" } : Jvm.MethodName) prog_11_method_3_code (3 : Nat) (Option.none : Option Jvm.ClassFile.FieldType)) ∈ lw_all := lw_g (lw_at lw_m1 131 rfl) rfl
theorem q791 : (Jvm.Cond.selects "ThroughPack$State" ({ cls := "java/lang/Object", name := "getClass", desc := "()Ljava/lang/Class;" } : Jvm.MethodName) ({ cls := "java/lang/Object", name := "getClass", desc := "()Ljava/lang/Class;" } : Jvm.MethodName)) ∈ lw_all := lw_g (lw_at lw_m3 187 rfl) rfl
theorem q1903 : (Jvm.Cond.castable "ThroughPack$State" "java/lang/Object") ∈ lw_tbl := lw_at lw_m8 99 rfl
theorem in_X2 : ∀ w ∈ wsX20, w ∈ lw_all := lw_in wsX20 [204, 206, 208, 210, 212, 214, 216, 218, 220, 222, 224, 226, 228] (by decide +kernel) (by decide +kernel)
/-! ThroughPack$Tokens -/
set_option maxRecDepth 100000
def RX4 : String := "ThroughPack$Tokens"
def TX4 : u_T := fun k => match k with
  | 0 => ("ThroughPack$Tokens", "text", "[B", true)
  | 1 => ("ThroughPack$Tokens", "size", "I", true)
  | 2 => ("ThroughPack$Tokens", "at", "I", false)
  | 3 => ("ThroughPack$Tokens", "token", "I", false)
  | 4 => ("ThroughPack$Tokens", "sort", "I", false)
  | 5 => ("ThroughPack$Tokens", "number", "I", false)
  | 6 => ("ThroughPack$Tokens", "open", "I", false)
  | _ => ("ThroughPack$Tokens", "kind", "I", false)
def tyX4 : Nat → FieldType := fun k => match k with
  | 0 => .array .byte
  | 1 => .int
  | 2 => .int
  | 3 => .int
  | 4 => .int
  | 5 => .int
  | 6 => .int
  | _ => .int
abbrev wsX40 : List Cond := u_ws RX4 TX4 8
theorem nmX4 : ∀ a, a < 8 → ∀ b, b < 8 → a ≠ b → (TX4 a).2.1 ≠ (TX4 b).2.1 := by decide +kernel
theorem tyX4_ok : ∀ k, k < 8 → parseFieldDescriptor (TX4 k).2.2.1 = some (tyX4 k) := by decide +kernel
abbrev cX4_init : ByteArray := prog_14_method_1_code
def yX4_init : MethodName := ⟨RX4, "<init>", "([BI)V"⟩
def dkwX4_init_0 : List UInt8 := [42, 183, 0, 3, 42, 43, 181, 0, 9, 42, 28, 181, 0, 15, 177]
abbrev dktX4_init_0 : List UInt8 := dkwX4_init_0 ++ []
theorem dksX4_init_0 : cX4_init.data.toList.drop 0 = dktX4_init_0 := by decide +kernel
theorem dX4_init_0 : decode cX4_init 0 = .ok (.aload_n 0, 1) := dk_42 (dk_at dksX4_init_0 0 rfl rfl)
theorem dX4_init_1 : decode cX4_init 1 = .ok (.invokespecial 3, 3) := dk_183 0 3 (dk_at dksX4_init_0 1 rfl rfl)
theorem dX4_init_4 : decode cX4_init 4 = .ok (.aload_n 0, 1) := dk_42 (dk_at dksX4_init_0 4 rfl rfl)
theorem dX4_init_5 : decode cX4_init 5 = .ok (.aload_n 1, 1) := dk_43 (dk_at dksX4_init_0 5 rfl rfl)
theorem dX4_init_6 : decode cX4_init 6 = .ok (.putfield 9, 3) := dk_181 0 9 (dk_at dksX4_init_0 6 rfl rfl)
theorem dX4_init_9 : decode cX4_init 9 = .ok (.aload_n 0, 1) := dk_42 (dk_at dksX4_init_0 9 rfl rfl)
theorem dX4_init_10 : decode cX4_init 10 = .ok (.iload_n 2, 1) := dk_28 (dk_at dksX4_init_0 10 rfl rfl)
theorem dX4_init_11 : decode cX4_init 11 = .ok (.putfield 15, 3) := dk_181 0 15 (dk_at dksX4_init_0 11 rfl rfl)
theorem dX4_init_14 : decode cX4_init 14 = .ok (.return_, 1) := dk_177 (dk_at dksX4_init_0 14 rfl rfl)
abbrev cX4_read : ByteArray := prog_14_method_10_code
def yX4_read : MethodName := ⟨RX4, "read", "()LThroughPack$Text;"⟩
def dkwX4_read_6 : List UInt8 := [43, 176]
abbrev dktX4_read_6 : List UInt8 := dkwX4_read_6 ++ []
def dkwX4_read_5 : List UInt8 := [42, 43, 182, 0, 96, 42, 16, 59, 182, 0, 100, 43, 89, 180, 0, 93, 4, 96, 181, 0, 93, 167, 255, 131]
abbrev dktX4_read_5 : List UInt8 := dkwX4_read_5 ++ dktX4_read_6
def dkwX4_read_4 : List UInt8 := [182, 0, 70, 191, 43, 180, 0, 93, 16, 12, 160, 0, 10, 42, 16, 6, 182, 0, 70, 191, 42, 182, 0, 74]
abbrev dktX4_read_4 : List UInt8 := dkwX4_read_4 ++ dktX4_read_5
def dkwX4_read_3 : List UInt8 := [199, 0, 20, 42, 180, 0, 83, 17, 0, 205, 160, 0, 16, 43, 180, 0, 90, 198, 0, 9, 42, 7]
abbrev dktX4_read_3 : List UInt8 := dkwX4_read_3 ++ dktX4_read_4
def dkwX4_read_2 : List UInt8 := [191, 42, 42, 180, 0, 25, 181, 0, 83, 42, 180, 0, 83, 17, 0, 204, 160, 0, 10, 43, 180, 0, 86]
abbrev dktX4_read_2 : List UInt8 := dkwX4_read_2 ++ dktX4_read_3
def dkwX4_read_1 : List UInt8 := [180, 0, 25, 17, 0, 200, 161, 0, 13, 42, 180, 0, 25, 17, 0, 205, 164, 0, 9, 42, 4, 182, 0, 70]
abbrev dktX4_read_1 : List UInt8 := dkwX4_read_1 ++ dktX4_read_2
def dkwX4_read_0 : List UInt8 := [187, 0, 80, 89, 183, 0, 82, 76, 42, 182, 0, 74, 42, 180, 0, 25, 17, 1, 45, 159, 0, 121, 42]
abbrev dktX4_read_0 : List UInt8 := dkwX4_read_0 ++ dktX4_read_1
theorem dksX4_read_0 : cX4_read.data.toList.drop 0 = dktX4_read_0 := by decide +kernel
theorem dksX4_read_1 : cX4_read.data.toList.drop 23 = dktX4_read_1 := dk_seg dksX4_read_0 23 rfl rfl
theorem dksX4_read_2 : cX4_read.data.toList.drop 47 = dktX4_read_2 := dk_seg dksX4_read_1 24 rfl rfl
theorem dksX4_read_3 : cX4_read.data.toList.drop 70 = dktX4_read_3 := dk_seg dksX4_read_2 23 rfl rfl
theorem dksX4_read_4 : cX4_read.data.toList.drop 92 = dktX4_read_4 := dk_seg dksX4_read_3 22 rfl rfl
theorem dksX4_read_5 : cX4_read.data.toList.drop 116 = dktX4_read_5 := dk_seg dksX4_read_4 24 rfl rfl
theorem dksX4_read_6 : cX4_read.data.toList.drop 140 = dktX4_read_6 := dk_seg dksX4_read_5 24 rfl rfl
theorem dX4_read_0 : decode cX4_read 0 = .ok (.new 80, 3) := dk_187 0 80 (dk_at dksX4_read_0 0 rfl rfl)
theorem dX4_read_3 : decode cX4_read 3 = .ok (.dup, 1) := dk_89 (dk_at dksX4_read_0 3 rfl rfl)
theorem dX4_read_4 : decode cX4_read 4 = .ok (.invokespecial 82, 3) := dk_183 0 82 (dk_at dksX4_read_0 4 rfl rfl)
theorem dX4_read_7 : decode cX4_read 7 = .ok (.astore_n 1, 1) := dk_76 (dk_at dksX4_read_0 7 rfl rfl)
theorem dX4_read_8 : decode cX4_read 8 = .ok (.aload_n 0, 1) := dk_42 (dk_at dksX4_read_0 8 rfl rfl)
theorem dX4_read_9 : decode cX4_read 9 = .ok (.invokevirtual 74, 3) := dk_182 0 74 (dk_at dksX4_read_0 9 rfl rfl)
theorem dX4_read_12 : decode cX4_read 12 = .ok (.aload_n 0, 1) := dk_42 (dk_at dksX4_read_0 12 rfl rfl)
theorem dX4_read_13 : decode cX4_read 13 = .ok (.getfield 25, 3) := dk_180 0 25 (dk_at dksX4_read_0 13 rfl rfl)
theorem dX4_read_16 : decode cX4_read 16 = .ok (.sipush 301, 3) := dk_17 1 45 (dk_at dksX4_read_0 16 rfl rfl)
theorem dX4_read_19 : decode cX4_read 19 = .ok (.if_icmp .eq 121, 3) := dk_159 0 121 (dk_at dksX4_read_0 19 rfl rfl)
theorem dX4_read_22 : decode cX4_read 22 = .ok (.aload_n 0, 1) := dk_42 (dk_at dksX4_read_0 22 rfl rfl)
theorem dX4_read_23 : decode cX4_read 23 = .ok (.getfield 25, 3) := dk_180 0 25 (dk_at dksX4_read_1 0 rfl rfl)
theorem dX4_read_26 : decode cX4_read 26 = .ok (.sipush 200, 3) := dk_17 0 200 (dk_at dksX4_read_1 3 rfl rfl)
theorem dX4_read_29 : decode cX4_read 29 = .ok (.if_icmp .lt 13, 3) := dk_161 0 13 (dk_at dksX4_read_1 6 rfl rfl)
theorem dX4_read_32 : decode cX4_read 32 = .ok (.aload_n 0, 1) := dk_42 (dk_at dksX4_read_1 9 rfl rfl)
theorem dX4_read_33 : decode cX4_read 33 = .ok (.getfield 25, 3) := dk_180 0 25 (dk_at dksX4_read_1 10 rfl rfl)
theorem dX4_read_36 : decode cX4_read 36 = .ok (.sipush 205, 3) := dk_17 0 205 (dk_at dksX4_read_1 13 rfl rfl)
theorem dX4_read_39 : decode cX4_read 39 = .ok (.if_icmp .le 9, 3) := dk_164 0 9 (dk_at dksX4_read_1 16 rfl rfl)
theorem dX4_read_42 : decode cX4_read 42 = .ok (.aload_n 0, 1) := dk_42 (dk_at dksX4_read_1 19 rfl rfl)
theorem dX4_read_43 : decode cX4_read 43 = .ok (.iconst 1, 1) := dk_4 (dk_at dksX4_read_1 20 rfl rfl)
theorem dX4_read_44 : decode cX4_read 44 = .ok (.invokevirtual 70, 3) := dk_182 0 70 (dk_at dksX4_read_1 21 rfl rfl)
theorem dX4_read_47 : decode cX4_read 47 = .ok (.athrow, 1) := dk_191 (dk_at dksX4_read_2 0 rfl rfl)
theorem dX4_read_48 : decode cX4_read 48 = .ok (.aload_n 0, 1) := dk_42 (dk_at dksX4_read_2 1 rfl rfl)
theorem dX4_read_49 : decode cX4_read 49 = .ok (.aload_n 0, 1) := dk_42 (dk_at dksX4_read_2 2 rfl rfl)
theorem dX4_read_50 : decode cX4_read 50 = .ok (.getfield 25, 3) := dk_180 0 25 (dk_at dksX4_read_2 3 rfl rfl)
theorem dX4_read_53 : decode cX4_read 53 = .ok (.putfield 83, 3) := dk_181 0 83 (dk_at dksX4_read_2 6 rfl rfl)
theorem dX4_read_56 : decode cX4_read 56 = .ok (.aload_n 0, 1) := dk_42 (dk_at dksX4_read_2 9 rfl rfl)
theorem dX4_read_57 : decode cX4_read 57 = .ok (.getfield 83, 3) := dk_180 0 83 (dk_at dksX4_read_2 10 rfl rfl)
theorem dX4_read_60 : decode cX4_read 60 = .ok (.sipush 204, 3) := dk_17 0 204 (dk_at dksX4_read_2 13 rfl rfl)
theorem dX4_read_63 : decode cX4_read 63 = .ok (.if_icmp .ne 10, 3) := dk_160 0 10 (dk_at dksX4_read_2 16 rfl rfl)
theorem dX4_read_66 : decode cX4_read 66 = .ok (.aload_n 1, 1) := dk_43 (dk_at dksX4_read_2 19 rfl rfl)
theorem dX4_read_67 : decode cX4_read 67 = .ok (.getfield 86, 3) := dk_180 0 86 (dk_at dksX4_read_2 20 rfl rfl)
theorem dX4_read_70 : decode cX4_read 70 = .ok (.ifnonnull 20, 3) := dk_199 0 20 (dk_at dksX4_read_3 0 rfl rfl)
theorem dX4_read_73 : decode cX4_read 73 = .ok (.aload_n 0, 1) := dk_42 (dk_at dksX4_read_3 3 rfl rfl)
theorem dX4_read_74 : decode cX4_read 74 = .ok (.getfield 83, 3) := dk_180 0 83 (dk_at dksX4_read_3 4 rfl rfl)
theorem dX4_read_77 : decode cX4_read 77 = .ok (.sipush 205, 3) := dk_17 0 205 (dk_at dksX4_read_3 7 rfl rfl)
theorem dX4_read_80 : decode cX4_read 80 = .ok (.if_icmp .ne 16, 3) := dk_160 0 16 (dk_at dksX4_read_3 10 rfl rfl)
theorem dX4_read_83 : decode cX4_read 83 = .ok (.aload_n 1, 1) := dk_43 (dk_at dksX4_read_3 13 rfl rfl)
theorem dX4_read_84 : decode cX4_read 84 = .ok (.getfield 90, 3) := dk_180 0 90 (dk_at dksX4_read_3 14 rfl rfl)
theorem dX4_read_87 : decode cX4_read 87 = .ok (.ifnull 9, 3) := dk_198 0 9 (dk_at dksX4_read_3 17 rfl rfl)
theorem dX4_read_90 : decode cX4_read 90 = .ok (.aload_n 0, 1) := dk_42 (dk_at dksX4_read_3 20 rfl rfl)
theorem dX4_read_91 : decode cX4_read 91 = .ok (.iconst 4, 1) := dk_7 (dk_at dksX4_read_3 21 rfl rfl)
theorem dX4_read_92 : decode cX4_read 92 = .ok (.invokevirtual 70, 3) := dk_182 0 70 (dk_at dksX4_read_4 0 rfl rfl)
theorem dX4_read_95 : decode cX4_read 95 = .ok (.athrow, 1) := dk_191 (dk_at dksX4_read_4 3 rfl rfl)
theorem dX4_read_96 : decode cX4_read 96 = .ok (.aload_n 1, 1) := dk_43 (dk_at dksX4_read_4 4 rfl rfl)
theorem dX4_read_97 : decode cX4_read 97 = .ok (.getfield 93, 3) := dk_180 0 93 (dk_at dksX4_read_4 5 rfl rfl)
theorem dX4_read_100 : decode cX4_read 100 = .ok (.bipush 12, 2) := dk_16 12 (dk_at dksX4_read_4 8 rfl rfl)
theorem dX4_read_102 : decode cX4_read 102 = .ok (.if_icmp .ne 10, 3) := dk_160 0 10 (dk_at dksX4_read_4 10 rfl rfl)
theorem dX4_read_105 : decode cX4_read 105 = .ok (.aload_n 0, 1) := dk_42 (dk_at dksX4_read_4 13 rfl rfl)
theorem dX4_read_106 : decode cX4_read 106 = .ok (.bipush 6, 2) := dk_16 6 (dk_at dksX4_read_4 14 rfl rfl)
theorem dX4_read_108 : decode cX4_read 108 = .ok (.invokevirtual 70, 3) := dk_182 0 70 (dk_at dksX4_read_4 16 rfl rfl)
theorem dX4_read_111 : decode cX4_read 111 = .ok (.athrow, 1) := dk_191 (dk_at dksX4_read_4 19 rfl rfl)
theorem dX4_read_112 : decode cX4_read 112 = .ok (.aload_n 0, 1) := dk_42 (dk_at dksX4_read_4 20 rfl rfl)
theorem dX4_read_113 : decode cX4_read 113 = .ok (.invokevirtual 74, 3) := dk_182 0 74 (dk_at dksX4_read_4 21 rfl rfl)
theorem dX4_read_116 : decode cX4_read 116 = .ok (.aload_n 0, 1) := dk_42 (dk_at dksX4_read_5 0 rfl rfl)
theorem dX4_read_117 : decode cX4_read 117 = .ok (.aload_n 1, 1) := dk_43 (dk_at dksX4_read_5 1 rfl rfl)
theorem dX4_read_118 : decode cX4_read 118 = .ok (.invokevirtual 96, 3) := dk_182 0 96 (dk_at dksX4_read_5 2 rfl rfl)
theorem dX4_read_121 : decode cX4_read 121 = .ok (.aload_n 0, 1) := dk_42 (dk_at dksX4_read_5 5 rfl rfl)
theorem dX4_read_122 : decode cX4_read 122 = .ok (.bipush 59, 2) := dk_16 59 (dk_at dksX4_read_5 6 rfl rfl)
theorem dX4_read_124 : decode cX4_read 124 = .ok (.invokevirtual 100, 3) := dk_182 0 100 (dk_at dksX4_read_5 8 rfl rfl)
theorem dX4_read_127 : decode cX4_read 127 = .ok (.aload_n 1, 1) := dk_43 (dk_at dksX4_read_5 11 rfl rfl)
theorem dX4_read_128 : decode cX4_read 128 = .ok (.dup, 1) := dk_89 (dk_at dksX4_read_5 12 rfl rfl)
theorem dX4_read_129 : decode cX4_read 129 = .ok (.getfield 93, 3) := dk_180 0 93 (dk_at dksX4_read_5 13 rfl rfl)
theorem dX4_read_132 : decode cX4_read 132 = .ok (.iconst 1, 1) := dk_4 (dk_at dksX4_read_5 16 rfl rfl)
theorem dX4_read_133 : decode cX4_read 133 = .ok (.iadd, 1) := dk_96 (dk_at dksX4_read_5 17 rfl rfl)
theorem dX4_read_134 : decode cX4_read 134 = .ok (.putfield 93, 3) := dk_181 0 93 (dk_at dksX4_read_5 18 rfl rfl)
theorem dX4_read_137 : decode cX4_read 137 = .ok (.goto (-125), 3) := dk_167 255 131 (dk_at dksX4_read_5 21 rfl rfl)
theorem dX4_read_140 : decode cX4_read 140 = .ok (.aload_n 1, 1) := dk_43 (dk_at dksX4_read_6 0 rfl rfl)
theorem dX4_read_141 : decode cX4_read 141 = .ok (.areturn, 1) := dk_176 (dk_at dksX4_read_6 1 rfl rfl)
abbrev cX4_next : ByteArray := prog_14_method_4_code
def yX4_next : MethodName := ⟨RX4, "next", "()V"⟩
def dkwX4_next_17 : List UInt8 := [4, 96, 181, 0, 19, 177]
abbrev dktX4_next_17 : List UInt8 := dkwX4_next_17 ++ []
def dkwX4_next_16 : List UInt8 := [42, 27, 16, 60, 160, 0, 9, 17, 1, 47, 167, 0, 6, 17, 1, 48, 181, 0, 25, 42, 89, 180, 0, 19]
abbrev dktX4_next_16 : List UInt8 := dkwX4_next_16 ++ dktX4_next_17
def dkwX4_next_15 : List UInt8 := [180, 0, 19, 42, 180, 0, 15, 162, 0, 46, 42, 180, 0, 9, 42, 180, 0, 19, 51, 16, 61, 160, 0, 32]
abbrev dktX4_next_15 : List UInt8 := dkwX4_next_15 ++ dktX4_next_16
def dkwX4_next_14 : List UInt8 := [42, 27, 181, 0, 25, 132, 2, 1, 167, 255, 229, 27, 16, 60, 159, 0, 9, 27, 16, 62, 160, 0, 57, 42]
abbrev dktX4_next_14 : List UInt8 := dkwX4_next_14 ++ dktX4_next_15
def dkwX4_next_13 : List UInt8 := [181, 0, 25, 3, 61, 28, 18, 53, 182, 0, 55, 162, 0, 24, 18, 53, 28, 182, 0, 61, 27, 160, 0, 8]
abbrev dktX4_next_13 : List UInt8 := dkwX4_next_13 ++ dktX4_next_14
def dkwX4_next_12 : List UInt8 := [42, 180, 0, 9, 42, 180, 0, 19, 51, 60, 42, 89, 180, 0, 19, 4, 96, 181, 0, 19, 42, 17, 1, 46]
abbrev dktX4_next_12 : List UInt8 := dkwX4_next_12 ++ dktX4_next_13
def dkwX4_next_11 : List UInt8 := [51, 96, 16, 48, 100, 184, 0, 47, 181, 0, 43, 42, 89, 180, 0, 19, 4, 96, 181, 0, 19, 167, 255, 191]
abbrev dktX4_next_11 : List UInt8 := dkwX4_next_11 ++ dktX4_next_12
def dkwX4_next_10 : List UInt8 := [184, 0, 40, 153, 0, 170, 42, 18, 46, 16, 10, 42, 180, 0, 43, 104, 42, 180, 0, 9, 42, 180, 0, 19]
abbrev dktX4_next_10 : List UInt8 := dkwX4_next_10 ++ dktX4_next_11
def dkwX4_next_9 : List UInt8 := [181, 0, 43, 42, 180, 0, 19, 42, 180, 0, 15, 162, 0, 185, 42, 180, 0, 9, 42, 180, 0, 19, 51]
abbrev dktX4_next_9 : List UInt8 := dkwX4_next_9 ++ dktX4_next_10
def dkwX4_next_8 : List UInt8 := [42, 180, 0, 9, 42, 180, 0, 19, 51, 184, 0, 40, 153, 0, 83, 42, 17, 1, 44, 181, 0, 25, 42, 3]
abbrev dktX4_next_8 : List UInt8 := dkwX4_next_8 ++ dktX4_next_9
def dkwX4_next_7 : List UInt8 := [182, 0, 36, 153, 0, 12, 42, 17, 0, 200, 27, 96, 181, 0, 25, 132, 1, 1, 167, 255, 224, 167, 0, 223]
abbrev dktX4_next_7 : List UInt8 := dkwX4_next_7 ++ dktX4_next_8
def dkwX4_next_6 : List UInt8 := [17, 1, 46, 181, 0, 25, 3, 60, 27, 178, 0, 32, 190, 162, 0, 30, 42, 178, 0, 32, 27, 50]
abbrev dktX4_next_6 : List UInt8 := dkwX4_next_6 ++ dktX4_next_7
def dkwX4_next_5 : List UInt8 := [180, 0, 19, 51, 184, 0, 28, 153, 0, 16, 42, 89, 180, 0, 19, 4, 96, 181, 0, 19, 167, 255, 220, 42]
abbrev dktX4_next_5 : List UInt8 := dkwX4_next_5 ++ dktX4_next_6
def dkwX4_next_4 : List UInt8 := [184, 0, 28, 153, 0, 89, 42, 180, 0, 19, 42, 180, 0, 15, 162, 0, 31, 42, 180, 0, 9, 42]
abbrev dktX4_next_4 : List UInt8 := dkwX4_next_4 ++ dktX4_next_5
def dkwX4_next_3 : List UInt8 := [160, 0, 13, 42, 17, 1, 45, 181, 0, 25, 167, 1, 68, 42, 180, 0, 9, 42, 180, 0, 19, 51]
abbrev dktX4_next_3 : List UInt8 := dkwX4_next_3 ++ dktX4_next_4
def dkwX4_next_2 : List UInt8 := [181, 0, 19, 167, 255, 207, 42, 42, 180, 0, 19, 181, 0, 22, 42, 180, 0, 19, 42, 180, 0, 15]
abbrev dktX4_next_2 : List UInt8 := dkwX4_next_2 ++ dktX4_next_3
def dkwX4_next_1 : List UInt8 := [159, 0, 17, 42, 180, 0, 9, 42, 180, 0, 19, 51, 16, 10, 160, 0, 16, 42, 89, 180, 0, 19, 4, 96]
abbrev dktX4_next_1 : List UInt8 := dkwX4_next_1 ++ dktX4_next_2
def dkwX4_next_0 : List UInt8 := [42, 180, 0, 19, 42, 180, 0, 15, 162, 0, 44, 42, 180, 0, 9, 42, 180, 0, 19, 51, 16, 32]
abbrev dktX4_next_0 : List UInt8 := dkwX4_next_0 ++ dktX4_next_1
theorem dksX4_next_0 : cX4_next.data.toList.drop 0 = dktX4_next_0 := by decide +kernel
theorem dksX4_next_1 : cX4_next.data.toList.drop 22 = dktX4_next_1 := dk_seg dksX4_next_0 22 rfl rfl
theorem dksX4_next_2 : cX4_next.data.toList.drop 46 = dktX4_next_2 := dk_seg dksX4_next_1 24 rfl rfl
theorem dksX4_next_3 : cX4_next.data.toList.drop 68 = dktX4_next_3 := dk_seg dksX4_next_2 22 rfl rfl
theorem dksX4_next_4 : cX4_next.data.toList.drop 90 = dktX4_next_4 := dk_seg dksX4_next_3 22 rfl rfl
theorem dksX4_next_5 : cX4_next.data.toList.drop 112 = dktX4_next_5 := dk_seg dksX4_next_4 22 rfl rfl
theorem dksX4_next_6 : cX4_next.data.toList.drop 136 = dktX4_next_6 := dk_seg dksX4_next_5 24 rfl rfl
theorem dksX4_next_7 : cX4_next.data.toList.drop 158 = dktX4_next_7 := dk_seg dksX4_next_6 22 rfl rfl
theorem dksX4_next_8 : cX4_next.data.toList.drop 182 = dktX4_next_8 := dk_seg dksX4_next_7 24 rfl rfl
theorem dksX4_next_9 : cX4_next.data.toList.drop 206 = dktX4_next_9 := dk_seg dksX4_next_8 24 rfl rfl
theorem dksX4_next_10 : cX4_next.data.toList.drop 229 = dktX4_next_10 := dk_seg dksX4_next_9 23 rfl rfl
theorem dksX4_next_11 : cX4_next.data.toList.drop 253 = dktX4_next_11 := dk_seg dksX4_next_10 24 rfl rfl
theorem dksX4_next_12 : cX4_next.data.toList.drop 277 = dktX4_next_12 := dk_seg dksX4_next_11 24 rfl rfl
theorem dksX4_next_13 : cX4_next.data.toList.drop 301 = dktX4_next_13 := dk_seg dksX4_next_12 24 rfl rfl
theorem dksX4_next_14 : cX4_next.data.toList.drop 325 = dktX4_next_14 := dk_seg dksX4_next_13 24 rfl rfl
theorem dksX4_next_15 : cX4_next.data.toList.drop 349 = dktX4_next_15 := dk_seg dksX4_next_14 24 rfl rfl
theorem dksX4_next_16 : cX4_next.data.toList.drop 373 = dktX4_next_16 := dk_seg dksX4_next_15 24 rfl rfl
theorem dksX4_next_17 : cX4_next.data.toList.drop 397 = dktX4_next_17 := dk_seg dksX4_next_16 24 rfl rfl
theorem dX4_next_0 : decode cX4_next 0 = .ok (.aload_n 0, 1) := dk_42 (dk_at dksX4_next_0 0 rfl rfl)
theorem dX4_next_1 : decode cX4_next 1 = .ok (.getfield 19, 3) := dk_180 0 19 (dk_at dksX4_next_0 1 rfl rfl)
theorem dX4_next_4 : decode cX4_next 4 = .ok (.aload_n 0, 1) := dk_42 (dk_at dksX4_next_0 4 rfl rfl)
theorem dX4_next_5 : decode cX4_next 5 = .ok (.getfield 15, 3) := dk_180 0 15 (dk_at dksX4_next_0 5 rfl rfl)
theorem dX4_next_8 : decode cX4_next 8 = .ok (.if_icmp .ge 44, 3) := dk_162 0 44 (dk_at dksX4_next_0 8 rfl rfl)
theorem dX4_next_11 : decode cX4_next 11 = .ok (.aload_n 0, 1) := dk_42 (dk_at dksX4_next_0 11 rfl rfl)
theorem dX4_next_12 : decode cX4_next 12 = .ok (.getfield 9, 3) := dk_180 0 9 (dk_at dksX4_next_0 12 rfl rfl)
theorem dX4_next_15 : decode cX4_next 15 = .ok (.aload_n 0, 1) := dk_42 (dk_at dksX4_next_0 15 rfl rfl)
theorem dX4_next_16 : decode cX4_next 16 = .ok (.getfield 19, 3) := dk_180 0 19 (dk_at dksX4_next_0 16 rfl rfl)
theorem dX4_next_19 : decode cX4_next 19 = .ok (.baload, 1) := dk_51 (dk_at dksX4_next_0 19 rfl rfl)
theorem dX4_next_20 : decode cX4_next 20 = .ok (.bipush 32, 2) := dk_16 32 (dk_at dksX4_next_0 20 rfl rfl)
theorem dX4_next_22 : decode cX4_next 22 = .ok (.if_icmp .eq 17, 3) := dk_159 0 17 (dk_at dksX4_next_1 0 rfl rfl)
theorem dX4_next_25 : decode cX4_next 25 = .ok (.aload_n 0, 1) := dk_42 (dk_at dksX4_next_1 3 rfl rfl)
theorem dX4_next_26 : decode cX4_next 26 = .ok (.getfield 9, 3) := dk_180 0 9 (dk_at dksX4_next_1 4 rfl rfl)
theorem dX4_next_29 : decode cX4_next 29 = .ok (.aload_n 0, 1) := dk_42 (dk_at dksX4_next_1 7 rfl rfl)
theorem dX4_next_30 : decode cX4_next 30 = .ok (.getfield 19, 3) := dk_180 0 19 (dk_at dksX4_next_1 8 rfl rfl)
theorem dX4_next_33 : decode cX4_next 33 = .ok (.baload, 1) := dk_51 (dk_at dksX4_next_1 11 rfl rfl)
theorem dX4_next_34 : decode cX4_next 34 = .ok (.bipush 10, 2) := dk_16 10 (dk_at dksX4_next_1 12 rfl rfl)
theorem dX4_next_36 : decode cX4_next 36 = .ok (.if_icmp .ne 16, 3) := dk_160 0 16 (dk_at dksX4_next_1 14 rfl rfl)
theorem dX4_next_39 : decode cX4_next 39 = .ok (.aload_n 0, 1) := dk_42 (dk_at dksX4_next_1 17 rfl rfl)
theorem dX4_next_40 : decode cX4_next 40 = .ok (.dup, 1) := dk_89 (dk_at dksX4_next_1 18 rfl rfl)
theorem dX4_next_41 : decode cX4_next 41 = .ok (.getfield 19, 3) := dk_180 0 19 (dk_at dksX4_next_1 19 rfl rfl)
theorem dX4_next_44 : decode cX4_next 44 = .ok (.iconst 1, 1) := dk_4 (dk_at dksX4_next_1 22 rfl rfl)
theorem dX4_next_45 : decode cX4_next 45 = .ok (.iadd, 1) := dk_96 (dk_at dksX4_next_1 23 rfl rfl)
theorem dX4_next_46 : decode cX4_next 46 = .ok (.putfield 19, 3) := dk_181 0 19 (dk_at dksX4_next_2 0 rfl rfl)
theorem dX4_next_49 : decode cX4_next 49 = .ok (.goto (-49), 3) := dk_167 255 207 (dk_at dksX4_next_2 3 rfl rfl)
theorem dX4_next_52 : decode cX4_next 52 = .ok (.aload_n 0, 1) := dk_42 (dk_at dksX4_next_2 6 rfl rfl)
theorem dX4_next_53 : decode cX4_next 53 = .ok (.aload_n 0, 1) := dk_42 (dk_at dksX4_next_2 7 rfl rfl)
theorem dX4_next_54 : decode cX4_next 54 = .ok (.getfield 19, 3) := dk_180 0 19 (dk_at dksX4_next_2 8 rfl rfl)
theorem dX4_next_57 : decode cX4_next 57 = .ok (.putfield 22, 3) := dk_181 0 22 (dk_at dksX4_next_2 11 rfl rfl)
theorem dX4_next_60 : decode cX4_next 60 = .ok (.aload_n 0, 1) := dk_42 (dk_at dksX4_next_2 14 rfl rfl)
theorem dX4_next_61 : decode cX4_next 61 = .ok (.getfield 19, 3) := dk_180 0 19 (dk_at dksX4_next_2 15 rfl rfl)
theorem dX4_next_64 : decode cX4_next 64 = .ok (.aload_n 0, 1) := dk_42 (dk_at dksX4_next_2 18 rfl rfl)
theorem dX4_next_65 : decode cX4_next 65 = .ok (.getfield 15, 3) := dk_180 0 15 (dk_at dksX4_next_2 19 rfl rfl)
theorem dX4_next_68 : decode cX4_next 68 = .ok (.if_icmp .ne 13, 3) := dk_160 0 13 (dk_at dksX4_next_3 0 rfl rfl)
theorem dX4_next_71 : decode cX4_next 71 = .ok (.aload_n 0, 1) := dk_42 (dk_at dksX4_next_3 3 rfl rfl)
theorem dX4_next_72 : decode cX4_next 72 = .ok (.sipush 301, 3) := dk_17 1 45 (dk_at dksX4_next_3 4 rfl rfl)
theorem dX4_next_75 : decode cX4_next 75 = .ok (.putfield 25, 3) := dk_181 0 25 (dk_at dksX4_next_3 7 rfl rfl)
theorem dX4_next_78 : decode cX4_next 78 = .ok (.goto 324, 3) := dk_167 1 68 (dk_at dksX4_next_3 10 rfl rfl)
theorem dX4_next_81 : decode cX4_next 81 = .ok (.aload_n 0, 1) := dk_42 (dk_at dksX4_next_3 13 rfl rfl)
theorem dX4_next_82 : decode cX4_next 82 = .ok (.getfield 9, 3) := dk_180 0 9 (dk_at dksX4_next_3 14 rfl rfl)
theorem dX4_next_85 : decode cX4_next 85 = .ok (.aload_n 0, 1) := dk_42 (dk_at dksX4_next_3 17 rfl rfl)
theorem dX4_next_86 : decode cX4_next 86 = .ok (.getfield 19, 3) := dk_180 0 19 (dk_at dksX4_next_3 18 rfl rfl)
theorem dX4_next_89 : decode cX4_next 89 = .ok (.baload, 1) := dk_51 (dk_at dksX4_next_3 21 rfl rfl)
theorem dX4_next_90 : decode cX4_next 90 = .ok (.invokestatic 28, 3) := dk_184 0 28 (dk_at dksX4_next_4 0 rfl rfl)
theorem dX4_next_93 : decode cX4_next 93 = .ok (.ifCond .eq 89, 3) := dk_153 0 89 (dk_at dksX4_next_4 3 rfl rfl)
theorem dX4_next_96 : decode cX4_next 96 = .ok (.aload_n 0, 1) := dk_42 (dk_at dksX4_next_4 6 rfl rfl)
theorem dX4_next_97 : decode cX4_next 97 = .ok (.getfield 19, 3) := dk_180 0 19 (dk_at dksX4_next_4 7 rfl rfl)
theorem dX4_next_100 : decode cX4_next 100 = .ok (.aload_n 0, 1) := dk_42 (dk_at dksX4_next_4 10 rfl rfl)
theorem dX4_next_101 : decode cX4_next 101 = .ok (.getfield 15, 3) := dk_180 0 15 (dk_at dksX4_next_4 11 rfl rfl)
theorem dX4_next_104 : decode cX4_next 104 = .ok (.if_icmp .ge 31, 3) := dk_162 0 31 (dk_at dksX4_next_4 14 rfl rfl)
theorem dX4_next_107 : decode cX4_next 107 = .ok (.aload_n 0, 1) := dk_42 (dk_at dksX4_next_4 17 rfl rfl)
theorem dX4_next_108 : decode cX4_next 108 = .ok (.getfield 9, 3) := dk_180 0 9 (dk_at dksX4_next_4 18 rfl rfl)
theorem dX4_next_111 : decode cX4_next 111 = .ok (.aload_n 0, 1) := dk_42 (dk_at dksX4_next_4 21 rfl rfl)
theorem dX4_next_112 : decode cX4_next 112 = .ok (.getfield 19, 3) := dk_180 0 19 (dk_at dksX4_next_5 0 rfl rfl)
theorem dX4_next_115 : decode cX4_next 115 = .ok (.baload, 1) := dk_51 (dk_at dksX4_next_5 3 rfl rfl)
theorem dX4_next_116 : decode cX4_next 116 = .ok (.invokestatic 28, 3) := dk_184 0 28 (dk_at dksX4_next_5 4 rfl rfl)
theorem dX4_next_119 : decode cX4_next 119 = .ok (.ifCond .eq 16, 3) := dk_153 0 16 (dk_at dksX4_next_5 7 rfl rfl)
theorem dX4_next_122 : decode cX4_next 122 = .ok (.aload_n 0, 1) := dk_42 (dk_at dksX4_next_5 10 rfl rfl)
theorem dX4_next_123 : decode cX4_next 123 = .ok (.dup, 1) := dk_89 (dk_at dksX4_next_5 11 rfl rfl)
theorem dX4_next_124 : decode cX4_next 124 = .ok (.getfield 19, 3) := dk_180 0 19 (dk_at dksX4_next_5 12 rfl rfl)
theorem dX4_next_127 : decode cX4_next 127 = .ok (.iconst 1, 1) := dk_4 (dk_at dksX4_next_5 15 rfl rfl)
theorem dX4_next_128 : decode cX4_next 128 = .ok (.iadd, 1) := dk_96 (dk_at dksX4_next_5 16 rfl rfl)
theorem dX4_next_129 : decode cX4_next 129 = .ok (.putfield 19, 3) := dk_181 0 19 (dk_at dksX4_next_5 17 rfl rfl)
theorem dX4_next_132 : decode cX4_next 132 = .ok (.goto (-36), 3) := dk_167 255 220 (dk_at dksX4_next_5 20 rfl rfl)
theorem dX4_next_135 : decode cX4_next 135 = .ok (.aload_n 0, 1) := dk_42 (dk_at dksX4_next_5 23 rfl rfl)
theorem dX4_next_136 : decode cX4_next 136 = .ok (.sipush 302, 3) := dk_17 1 46 (dk_at dksX4_next_6 0 rfl rfl)
theorem dX4_next_139 : decode cX4_next 139 = .ok (.putfield 25, 3) := dk_181 0 25 (dk_at dksX4_next_6 3 rfl rfl)
theorem dX4_next_142 : decode cX4_next 142 = .ok (.iconst 0, 1) := dk_3 (dk_at dksX4_next_6 6 rfl rfl)
theorem dX4_next_143 : decode cX4_next 143 = .ok (.istore_n 1, 1) := dk_60 (dk_at dksX4_next_6 7 rfl rfl)
theorem dX4_next_144 : decode cX4_next 144 = .ok (.iload_n 1, 1) := dk_27 (dk_at dksX4_next_6 8 rfl rfl)
theorem dX4_next_145 : decode cX4_next 145 = .ok (.getstatic 32, 3) := dk_178 0 32 (dk_at dksX4_next_6 9 rfl rfl)
theorem dX4_next_148 : decode cX4_next 148 = .ok (.arraylength, 1) := dk_190 (dk_at dksX4_next_6 12 rfl rfl)
theorem dX4_next_149 : decode cX4_next 149 = .ok (.if_icmp .ge 30, 3) := dk_162 0 30 (dk_at dksX4_next_6 13 rfl rfl)
theorem dX4_next_152 : decode cX4_next 152 = .ok (.aload_n 0, 1) := dk_42 (dk_at dksX4_next_6 16 rfl rfl)
theorem dX4_next_153 : decode cX4_next 153 = .ok (.getstatic 32, 3) := dk_178 0 32 (dk_at dksX4_next_6 17 rfl rfl)
theorem dX4_next_156 : decode cX4_next 156 = .ok (.iload_n 1, 1) := dk_27 (dk_at dksX4_next_6 20 rfl rfl)
theorem dX4_next_157 : decode cX4_next 157 = .ok (.aaload, 1) := dk_50 (dk_at dksX4_next_6 21 rfl rfl)
theorem dX4_next_158 : decode cX4_next 158 = .ok (.invokevirtual 36, 3) := dk_182 0 36 (dk_at dksX4_next_7 0 rfl rfl)
theorem dX4_next_161 : decode cX4_next 161 = .ok (.ifCond .eq 12, 3) := dk_153 0 12 (dk_at dksX4_next_7 3 rfl rfl)
theorem dX4_next_164 : decode cX4_next 164 = .ok (.aload_n 0, 1) := dk_42 (dk_at dksX4_next_7 6 rfl rfl)
theorem dX4_next_165 : decode cX4_next 165 = .ok (.sipush 200, 3) := dk_17 0 200 (dk_at dksX4_next_7 7 rfl rfl)
theorem dX4_next_168 : decode cX4_next 168 = .ok (.iload_n 1, 1) := dk_27 (dk_at dksX4_next_7 10 rfl rfl)
theorem dX4_next_169 : decode cX4_next 169 = .ok (.iadd, 1) := dk_96 (dk_at dksX4_next_7 11 rfl rfl)
theorem dX4_next_170 : decode cX4_next 170 = .ok (.putfield 25, 3) := dk_181 0 25 (dk_at dksX4_next_7 12 rfl rfl)
theorem dX4_next_173 : decode cX4_next 173 = .ok (.iinc 1 1, 3) := dk_132 1 1 (dk_at dksX4_next_7 15 rfl rfl)
theorem dX4_next_176 : decode cX4_next 176 = .ok (.goto (-32), 3) := dk_167 255 224 (dk_at dksX4_next_7 18 rfl rfl)
theorem dX4_next_179 : decode cX4_next 179 = .ok (.goto 223, 3) := dk_167 0 223 (dk_at dksX4_next_7 21 rfl rfl)
theorem dX4_next_182 : decode cX4_next 182 = .ok (.aload_n 0, 1) := dk_42 (dk_at dksX4_next_8 0 rfl rfl)
theorem dX4_next_183 : decode cX4_next 183 = .ok (.getfield 9, 3) := dk_180 0 9 (dk_at dksX4_next_8 1 rfl rfl)
theorem dX4_next_186 : decode cX4_next 186 = .ok (.aload_n 0, 1) := dk_42 (dk_at dksX4_next_8 4 rfl rfl)
theorem dX4_next_187 : decode cX4_next 187 = .ok (.getfield 19, 3) := dk_180 0 19 (dk_at dksX4_next_8 5 rfl rfl)
theorem dX4_next_190 : decode cX4_next 190 = .ok (.baload, 1) := dk_51 (dk_at dksX4_next_8 8 rfl rfl)
theorem dX4_next_191 : decode cX4_next 191 = .ok (.invokestatic 40, 3) := dk_184 0 40 (dk_at dksX4_next_8 9 rfl rfl)
theorem dX4_next_194 : decode cX4_next 194 = .ok (.ifCond .eq 83, 3) := dk_153 0 83 (dk_at dksX4_next_8 12 rfl rfl)
theorem dX4_next_197 : decode cX4_next 197 = .ok (.aload_n 0, 1) := dk_42 (dk_at dksX4_next_8 15 rfl rfl)
theorem dX4_next_198 : decode cX4_next 198 = .ok (.sipush 300, 3) := dk_17 1 44 (dk_at dksX4_next_8 16 rfl rfl)
theorem dX4_next_201 : decode cX4_next 201 = .ok (.putfield 25, 3) := dk_181 0 25 (dk_at dksX4_next_8 19 rfl rfl)
theorem dX4_next_204 : decode cX4_next 204 = .ok (.aload_n 0, 1) := dk_42 (dk_at dksX4_next_8 22 rfl rfl)
theorem dX4_next_205 : decode cX4_next 205 = .ok (.iconst 0, 1) := dk_3 (dk_at dksX4_next_8 23 rfl rfl)
theorem dX4_next_206 : decode cX4_next 206 = .ok (.putfield 43, 3) := dk_181 0 43 (dk_at dksX4_next_9 0 rfl rfl)
theorem dX4_next_209 : decode cX4_next 209 = .ok (.aload_n 0, 1) := dk_42 (dk_at dksX4_next_9 3 rfl rfl)
theorem dX4_next_210 : decode cX4_next 210 = .ok (.getfield 19, 3) := dk_180 0 19 (dk_at dksX4_next_9 4 rfl rfl)
theorem dX4_next_213 : decode cX4_next 213 = .ok (.aload_n 0, 1) := dk_42 (dk_at dksX4_next_9 7 rfl rfl)
theorem dX4_next_214 : decode cX4_next 214 = .ok (.getfield 15, 3) := dk_180 0 15 (dk_at dksX4_next_9 8 rfl rfl)
theorem dX4_next_217 : decode cX4_next 217 = .ok (.if_icmp .ge 185, 3) := dk_162 0 185 (dk_at dksX4_next_9 11 rfl rfl)
theorem dX4_next_220 : decode cX4_next 220 = .ok (.aload_n 0, 1) := dk_42 (dk_at dksX4_next_9 14 rfl rfl)
theorem dX4_next_221 : decode cX4_next 221 = .ok (.getfield 9, 3) := dk_180 0 9 (dk_at dksX4_next_9 15 rfl rfl)
theorem dX4_next_224 : decode cX4_next 224 = .ok (.aload_n 0, 1) := dk_42 (dk_at dksX4_next_9 18 rfl rfl)
theorem dX4_next_225 : decode cX4_next 225 = .ok (.getfield 19, 3) := dk_180 0 19 (dk_at dksX4_next_9 19 rfl rfl)
theorem dX4_next_228 : decode cX4_next 228 = .ok (.baload, 1) := dk_51 (dk_at dksX4_next_9 22 rfl rfl)
theorem dX4_next_229 : decode cX4_next 229 = .ok (.invokestatic 40, 3) := dk_184 0 40 (dk_at dksX4_next_10 0 rfl rfl)
theorem dX4_next_232 : decode cX4_next 232 = .ok (.ifCond .eq 170, 3) := dk_153 0 170 (dk_at dksX4_next_10 3 rfl rfl)
theorem dX4_next_235 : decode cX4_next 235 = .ok (.aload_n 0, 1) := dk_42 (dk_at dksX4_next_10 6 rfl rfl)
theorem dX4_next_236 : decode cX4_next 236 = .ok (.ldc 46, 2) := dk_18 46 (dk_at dksX4_next_10 7 rfl rfl)
theorem dX4_next_238 : decode cX4_next 238 = .ok (.bipush 10, 2) := dk_16 10 (dk_at dksX4_next_10 9 rfl rfl)
theorem dX4_next_240 : decode cX4_next 240 = .ok (.aload_n 0, 1) := dk_42 (dk_at dksX4_next_10 11 rfl rfl)
theorem dX4_next_241 : decode cX4_next 241 = .ok (.getfield 43, 3) := dk_180 0 43 (dk_at dksX4_next_10 12 rfl rfl)
theorem dX4_next_244 : decode cX4_next 244 = .ok (.imul, 1) := dk_104 (dk_at dksX4_next_10 15 rfl rfl)
theorem dX4_next_245 : decode cX4_next 245 = .ok (.aload_n 0, 1) := dk_42 (dk_at dksX4_next_10 16 rfl rfl)
theorem dX4_next_246 : decode cX4_next 246 = .ok (.getfield 9, 3) := dk_180 0 9 (dk_at dksX4_next_10 17 rfl rfl)
theorem dX4_next_249 : decode cX4_next 249 = .ok (.aload_n 0, 1) := dk_42 (dk_at dksX4_next_10 20 rfl rfl)
theorem dX4_next_250 : decode cX4_next 250 = .ok (.getfield 19, 3) := dk_180 0 19 (dk_at dksX4_next_10 21 rfl rfl)
theorem dX4_next_253 : decode cX4_next 253 = .ok (.baload, 1) := dk_51 (dk_at dksX4_next_11 0 rfl rfl)
theorem dX4_next_254 : decode cX4_next 254 = .ok (.iadd, 1) := dk_96 (dk_at dksX4_next_11 1 rfl rfl)
theorem dX4_next_255 : decode cX4_next 255 = .ok (.bipush 48, 2) := dk_16 48 (dk_at dksX4_next_11 2 rfl rfl)
theorem dX4_next_257 : decode cX4_next 257 = .ok (.isub, 1) := dk_100 (dk_at dksX4_next_11 4 rfl rfl)
theorem dX4_next_258 : decode cX4_next 258 = .ok (.invokestatic 47, 3) := dk_184 0 47 (dk_at dksX4_next_11 5 rfl rfl)
theorem dX4_next_261 : decode cX4_next 261 = .ok (.putfield 43, 3) := dk_181 0 43 (dk_at dksX4_next_11 8 rfl rfl)
theorem dX4_next_264 : decode cX4_next 264 = .ok (.aload_n 0, 1) := dk_42 (dk_at dksX4_next_11 11 rfl rfl)
theorem dX4_next_265 : decode cX4_next 265 = .ok (.dup, 1) := dk_89 (dk_at dksX4_next_11 12 rfl rfl)
theorem dX4_next_266 : decode cX4_next 266 = .ok (.getfield 19, 3) := dk_180 0 19 (dk_at dksX4_next_11 13 rfl rfl)
theorem dX4_next_269 : decode cX4_next 269 = .ok (.iconst 1, 1) := dk_4 (dk_at dksX4_next_11 16 rfl rfl)
theorem dX4_next_270 : decode cX4_next 270 = .ok (.iadd, 1) := dk_96 (dk_at dksX4_next_11 17 rfl rfl)
theorem dX4_next_271 : decode cX4_next 271 = .ok (.putfield 19, 3) := dk_181 0 19 (dk_at dksX4_next_11 18 rfl rfl)
theorem dX4_next_274 : decode cX4_next 274 = .ok (.goto (-65), 3) := dk_167 255 191 (dk_at dksX4_next_11 21 rfl rfl)
theorem dX4_next_277 : decode cX4_next 277 = .ok (.aload_n 0, 1) := dk_42 (dk_at dksX4_next_12 0 rfl rfl)
theorem dX4_next_278 : decode cX4_next 278 = .ok (.getfield 9, 3) := dk_180 0 9 (dk_at dksX4_next_12 1 rfl rfl)
theorem dX4_next_281 : decode cX4_next 281 = .ok (.aload_n 0, 1) := dk_42 (dk_at dksX4_next_12 4 rfl rfl)
theorem dX4_next_282 : decode cX4_next 282 = .ok (.getfield 19, 3) := dk_180 0 19 (dk_at dksX4_next_12 5 rfl rfl)
theorem dX4_next_285 : decode cX4_next 285 = .ok (.baload, 1) := dk_51 (dk_at dksX4_next_12 8 rfl rfl)
theorem dX4_next_286 : decode cX4_next 286 = .ok (.istore_n 1, 1) := dk_60 (dk_at dksX4_next_12 9 rfl rfl)
theorem dX4_next_287 : decode cX4_next 287 = .ok (.aload_n 0, 1) := dk_42 (dk_at dksX4_next_12 10 rfl rfl)
theorem dX4_next_288 : decode cX4_next 288 = .ok (.dup, 1) := dk_89 (dk_at dksX4_next_12 11 rfl rfl)
theorem dX4_next_289 : decode cX4_next 289 = .ok (.getfield 19, 3) := dk_180 0 19 (dk_at dksX4_next_12 12 rfl rfl)
theorem dX4_next_292 : decode cX4_next 292 = .ok (.iconst 1, 1) := dk_4 (dk_at dksX4_next_12 15 rfl rfl)
theorem dX4_next_293 : decode cX4_next 293 = .ok (.iadd, 1) := dk_96 (dk_at dksX4_next_12 16 rfl rfl)
theorem dX4_next_294 : decode cX4_next 294 = .ok (.putfield 19, 3) := dk_181 0 19 (dk_at dksX4_next_12 17 rfl rfl)
theorem dX4_next_297 : decode cX4_next 297 = .ok (.aload_n 0, 1) := dk_42 (dk_at dksX4_next_12 20 rfl rfl)
theorem dX4_next_298 : decode cX4_next 298 = .ok (.sipush 302, 3) := dk_17 1 46 (dk_at dksX4_next_12 21 rfl rfl)
theorem dX4_next_301 : decode cX4_next 301 = .ok (.putfield 25, 3) := dk_181 0 25 (dk_at dksX4_next_13 0 rfl rfl)
theorem dX4_next_304 : decode cX4_next 304 = .ok (.iconst 0, 1) := dk_3 (dk_at dksX4_next_13 3 rfl rfl)
theorem dX4_next_305 : decode cX4_next 305 = .ok (.istore_n 2, 1) := dk_61 (dk_at dksX4_next_13 4 rfl rfl)
theorem dX4_next_306 : decode cX4_next 306 = .ok (.iload_n 2, 1) := dk_28 (dk_at dksX4_next_13 5 rfl rfl)
theorem dX4_next_307 : decode cX4_next 307 = .ok (.ldc 53, 2) := dk_18 53 (dk_at dksX4_next_13 6 rfl rfl)
theorem dX4_next_309 : decode cX4_next 309 = .ok (.invokevirtual 55, 3) := dk_182 0 55 (dk_at dksX4_next_13 8 rfl rfl)
theorem dX4_next_312 : decode cX4_next 312 = .ok (.if_icmp .ge 24, 3) := dk_162 0 24 (dk_at dksX4_next_13 11 rfl rfl)
theorem dX4_next_315 : decode cX4_next 315 = .ok (.ldc 53, 2) := dk_18 53 (dk_at dksX4_next_13 14 rfl rfl)
theorem dX4_next_317 : decode cX4_next 317 = .ok (.iload_n 2, 1) := dk_28 (dk_at dksX4_next_13 16 rfl rfl)
theorem dX4_next_318 : decode cX4_next 318 = .ok (.invokevirtual 61, 3) := dk_182 0 61 (dk_at dksX4_next_13 17 rfl rfl)
theorem dX4_next_321 : decode cX4_next 321 = .ok (.iload_n 1, 1) := dk_27 (dk_at dksX4_next_13 20 rfl rfl)
theorem dX4_next_322 : decode cX4_next 322 = .ok (.if_icmp .ne 8, 3) := dk_160 0 8 (dk_at dksX4_next_13 21 rfl rfl)
theorem dX4_next_325 : decode cX4_next 325 = .ok (.aload_n 0, 1) := dk_42 (dk_at dksX4_next_14 0 rfl rfl)
theorem dX4_next_326 : decode cX4_next 326 = .ok (.iload_n 1, 1) := dk_27 (dk_at dksX4_next_14 1 rfl rfl)
theorem dX4_next_327 : decode cX4_next 327 = .ok (.putfield 25, 3) := dk_181 0 25 (dk_at dksX4_next_14 2 rfl rfl)
theorem dX4_next_330 : decode cX4_next 330 = .ok (.iinc 2 1, 3) := dk_132 2 1 (dk_at dksX4_next_14 5 rfl rfl)
theorem dX4_next_333 : decode cX4_next 333 = .ok (.goto (-27), 3) := dk_167 255 229 (dk_at dksX4_next_14 8 rfl rfl)
theorem dX4_next_336 : decode cX4_next 336 = .ok (.iload_n 1, 1) := dk_27 (dk_at dksX4_next_14 11 rfl rfl)
theorem dX4_next_337 : decode cX4_next 337 = .ok (.bipush 60, 2) := dk_16 60 (dk_at dksX4_next_14 12 rfl rfl)
theorem dX4_next_339 : decode cX4_next 339 = .ok (.if_icmp .eq 9, 3) := dk_159 0 9 (dk_at dksX4_next_14 14 rfl rfl)
theorem dX4_next_342 : decode cX4_next 342 = .ok (.iload_n 1, 1) := dk_27 (dk_at dksX4_next_14 17 rfl rfl)
theorem dX4_next_343 : decode cX4_next 343 = .ok (.bipush 62, 2) := dk_16 62 (dk_at dksX4_next_14 18 rfl rfl)
theorem dX4_next_345 : decode cX4_next 345 = .ok (.if_icmp .ne 57, 3) := dk_160 0 57 (dk_at dksX4_next_14 20 rfl rfl)
theorem dX4_next_348 : decode cX4_next 348 = .ok (.aload_n 0, 1) := dk_42 (dk_at dksX4_next_14 23 rfl rfl)
theorem dX4_next_349 : decode cX4_next 349 = .ok (.getfield 19, 3) := dk_180 0 19 (dk_at dksX4_next_15 0 rfl rfl)
theorem dX4_next_352 : decode cX4_next 352 = .ok (.aload_n 0, 1) := dk_42 (dk_at dksX4_next_15 3 rfl rfl)
theorem dX4_next_353 : decode cX4_next 353 = .ok (.getfield 15, 3) := dk_180 0 15 (dk_at dksX4_next_15 4 rfl rfl)
theorem dX4_next_356 : decode cX4_next 356 = .ok (.if_icmp .ge 46, 3) := dk_162 0 46 (dk_at dksX4_next_15 7 rfl rfl)
theorem dX4_next_359 : decode cX4_next 359 = .ok (.aload_n 0, 1) := dk_42 (dk_at dksX4_next_15 10 rfl rfl)
theorem dX4_next_360 : decode cX4_next 360 = .ok (.getfield 9, 3) := dk_180 0 9 (dk_at dksX4_next_15 11 rfl rfl)
theorem dX4_next_363 : decode cX4_next 363 = .ok (.aload_n 0, 1) := dk_42 (dk_at dksX4_next_15 14 rfl rfl)
theorem dX4_next_364 : decode cX4_next 364 = .ok (.getfield 19, 3) := dk_180 0 19 (dk_at dksX4_next_15 15 rfl rfl)
theorem dX4_next_367 : decode cX4_next 367 = .ok (.baload, 1) := dk_51 (dk_at dksX4_next_15 18 rfl rfl)
theorem dX4_next_368 : decode cX4_next 368 = .ok (.bipush 61, 2) := dk_16 61 (dk_at dksX4_next_15 19 rfl rfl)
theorem dX4_next_370 : decode cX4_next 370 = .ok (.if_icmp .ne 32, 3) := dk_160 0 32 (dk_at dksX4_next_15 21 rfl rfl)
theorem dX4_next_373 : decode cX4_next 373 = .ok (.aload_n 0, 1) := dk_42 (dk_at dksX4_next_16 0 rfl rfl)
theorem dX4_next_374 : decode cX4_next 374 = .ok (.iload_n 1, 1) := dk_27 (dk_at dksX4_next_16 1 rfl rfl)
theorem dX4_next_375 : decode cX4_next 375 = .ok (.bipush 60, 2) := dk_16 60 (dk_at dksX4_next_16 2 rfl rfl)
theorem dX4_next_377 : decode cX4_next 377 = .ok (.if_icmp .ne 9, 3) := dk_160 0 9 (dk_at dksX4_next_16 4 rfl rfl)
theorem dX4_next_380 : decode cX4_next 380 = .ok (.sipush 303, 3) := dk_17 1 47 (dk_at dksX4_next_16 7 rfl rfl)
theorem dX4_next_383 : decode cX4_next 383 = .ok (.goto 6, 3) := dk_167 0 6 (dk_at dksX4_next_16 10 rfl rfl)
theorem dX4_next_386 : decode cX4_next 386 = .ok (.sipush 304, 3) := dk_17 1 48 (dk_at dksX4_next_16 13 rfl rfl)
theorem dX4_next_389 : decode cX4_next 389 = .ok (.putfield 25, 3) := dk_181 0 25 (dk_at dksX4_next_16 16 rfl rfl)
theorem dX4_next_392 : decode cX4_next 392 = .ok (.aload_n 0, 1) := dk_42 (dk_at dksX4_next_16 19 rfl rfl)
theorem dX4_next_393 : decode cX4_next 393 = .ok (.dup, 1) := dk_89 (dk_at dksX4_next_16 20 rfl rfl)
theorem dX4_next_394 : decode cX4_next 394 = .ok (.getfield 19, 3) := dk_180 0 19 (dk_at dksX4_next_16 21 rfl rfl)
theorem dX4_next_397 : decode cX4_next 397 = .ok (.iconst 1, 1) := dk_4 (dk_at dksX4_next_17 0 rfl rfl)
theorem dX4_next_398 : decode cX4_next 398 = .ok (.iadd, 1) := dk_96 (dk_at dksX4_next_17 1 rfl rfl)
theorem dX4_next_399 : decode cX4_next 399 = .ok (.putfield 19, 3) := dk_181 0 19 (dk_at dksX4_next_17 2 rfl rfl)
theorem dX4_next_402 : decode cX4_next 402 = .ok (.return_, 1) := dk_177 (dk_at dksX4_next_17 5 rfl rfl)
abbrev cX4_isLetter : ByteArray := prog_14_method_2_code
def yX4_isLetter : MethodName := ⟨RX4, "isLetter", "(I)Z"⟩
def dkwX4_isLetter_1 : List UInt8 := [4, 167, 0, 4, 3, 172]
abbrev dktX4_isLetter_1 : List UInt8 := dkwX4_isLetter_1 ++ []
def dkwX4_isLetter_0 : List UInt8 := [26, 16, 97, 161, 0, 9, 26, 16, 122, 164, 0, 15, 26, 16, 65, 161, 0, 13, 26, 16, 90, 163, 0, 7]
abbrev dktX4_isLetter_0 : List UInt8 := dkwX4_isLetter_0 ++ dktX4_isLetter_1
theorem dksX4_isLetter_0 : cX4_isLetter.data.toList.drop 0 = dktX4_isLetter_0 := by decide +kernel
theorem dksX4_isLetter_1 : cX4_isLetter.data.toList.drop 24 = dktX4_isLetter_1 := dk_seg dksX4_isLetter_0 24 rfl rfl
theorem dX4_isLetter_0 : decode cX4_isLetter 0 = .ok (.iload_n 0, 1) := dk_26 (dk_at dksX4_isLetter_0 0 rfl rfl)
theorem dX4_isLetter_1 : decode cX4_isLetter 1 = .ok (.bipush 97, 2) := dk_16 97 (dk_at dksX4_isLetter_0 1 rfl rfl)
theorem dX4_isLetter_3 : decode cX4_isLetter 3 = .ok (.if_icmp .lt 9, 3) := dk_161 0 9 (dk_at dksX4_isLetter_0 3 rfl rfl)
theorem dX4_isLetter_6 : decode cX4_isLetter 6 = .ok (.iload_n 0, 1) := dk_26 (dk_at dksX4_isLetter_0 6 rfl rfl)
theorem dX4_isLetter_7 : decode cX4_isLetter 7 = .ok (.bipush 122, 2) := dk_16 122 (dk_at dksX4_isLetter_0 7 rfl rfl)
theorem dX4_isLetter_9 : decode cX4_isLetter 9 = .ok (.if_icmp .le 15, 3) := dk_164 0 15 (dk_at dksX4_isLetter_0 9 rfl rfl)
theorem dX4_isLetter_12 : decode cX4_isLetter 12 = .ok (.iload_n 0, 1) := dk_26 (dk_at dksX4_isLetter_0 12 rfl rfl)
theorem dX4_isLetter_13 : decode cX4_isLetter 13 = .ok (.bipush 65, 2) := dk_16 65 (dk_at dksX4_isLetter_0 13 rfl rfl)
theorem dX4_isLetter_15 : decode cX4_isLetter 15 = .ok (.if_icmp .lt 13, 3) := dk_161 0 13 (dk_at dksX4_isLetter_0 15 rfl rfl)
theorem dX4_isLetter_18 : decode cX4_isLetter 18 = .ok (.iload_n 0, 1) := dk_26 (dk_at dksX4_isLetter_0 18 rfl rfl)
theorem dX4_isLetter_19 : decode cX4_isLetter 19 = .ok (.bipush 90, 2) := dk_16 90 (dk_at dksX4_isLetter_0 19 rfl rfl)
theorem dX4_isLetter_21 : decode cX4_isLetter 21 = .ok (.if_icmp .gt 7, 3) := dk_163 0 7 (dk_at dksX4_isLetter_0 21 rfl rfl)
theorem dX4_isLetter_24 : decode cX4_isLetter 24 = .ok (.iconst 1, 1) := dk_4 (dk_at dksX4_isLetter_1 0 rfl rfl)
theorem dX4_isLetter_25 : decode cX4_isLetter 25 = .ok (.goto 4, 3) := dk_167 0 4 (dk_at dksX4_isLetter_1 1 rfl rfl)
theorem dX4_isLetter_28 : decode cX4_isLetter 28 = .ok (.iconst 0, 1) := dk_3 (dk_at dksX4_isLetter_1 4 rfl rfl)
theorem dX4_isLetter_29 : decode cX4_isLetter 29 = .ok (.ireturn, 1) := dk_172 (dk_at dksX4_isLetter_1 5 rfl rfl)
abbrev cX4_isWord : ByteArray := prog_14_method_5_code
def yX4_isWord : MethodName := ⟨RX4, "isWord", "(Ljava/lang/String;)Z"⟩
def dkwX4_isWord_2 : List UInt8 := [159, 0, 5, 3, 172, 132, 2, 1, 167, 255, 224, 4, 172]
abbrev dktX4_isWord_2 : List UInt8 := dkwX4_isWord_2 ++ []
def dkwX4_isWord_1 : List UInt8 := [182, 0, 55, 162, 0, 30, 42, 180, 0, 9, 42, 180, 0, 22, 28, 96, 51, 43, 28, 182, 0, 61]
abbrev dktX4_isWord_1 : List UInt8 := dkwX4_isWord_1 ++ dktX4_isWord_2
def dkwX4_isWord_0 : List UInt8 := [42, 180, 0, 19, 42, 180, 0, 22, 100, 43, 182, 0, 55, 159, 0, 5, 3, 172, 3, 61, 28, 43]
abbrev dktX4_isWord_0 : List UInt8 := dkwX4_isWord_0 ++ dktX4_isWord_1
theorem dksX4_isWord_0 : cX4_isWord.data.toList.drop 0 = dktX4_isWord_0 := by decide +kernel
theorem dksX4_isWord_1 : cX4_isWord.data.toList.drop 22 = dktX4_isWord_1 := dk_seg dksX4_isWord_0 22 rfl rfl
theorem dksX4_isWord_2 : cX4_isWord.data.toList.drop 44 = dktX4_isWord_2 := dk_seg dksX4_isWord_1 22 rfl rfl
theorem dX4_isWord_0 : decode cX4_isWord 0 = .ok (.aload_n 0, 1) := dk_42 (dk_at dksX4_isWord_0 0 rfl rfl)
theorem dX4_isWord_1 : decode cX4_isWord 1 = .ok (.getfield 19, 3) := dk_180 0 19 (dk_at dksX4_isWord_0 1 rfl rfl)
theorem dX4_isWord_4 : decode cX4_isWord 4 = .ok (.aload_n 0, 1) := dk_42 (dk_at dksX4_isWord_0 4 rfl rfl)
theorem dX4_isWord_5 : decode cX4_isWord 5 = .ok (.getfield 22, 3) := dk_180 0 22 (dk_at dksX4_isWord_0 5 rfl rfl)
theorem dX4_isWord_8 : decode cX4_isWord 8 = .ok (.isub, 1) := dk_100 (dk_at dksX4_isWord_0 8 rfl rfl)
theorem dX4_isWord_9 : decode cX4_isWord 9 = .ok (.aload_n 1, 1) := dk_43 (dk_at dksX4_isWord_0 9 rfl rfl)
theorem dX4_isWord_10 : decode cX4_isWord 10 = .ok (.invokevirtual 55, 3) := dk_182 0 55 (dk_at dksX4_isWord_0 10 rfl rfl)
theorem dX4_isWord_13 : decode cX4_isWord 13 = .ok (.if_icmp .eq 5, 3) := dk_159 0 5 (dk_at dksX4_isWord_0 13 rfl rfl)
theorem dX4_isWord_16 : decode cX4_isWord 16 = .ok (.iconst 0, 1) := dk_3 (dk_at dksX4_isWord_0 16 rfl rfl)
theorem dX4_isWord_17 : decode cX4_isWord 17 = .ok (.ireturn, 1) := dk_172 (dk_at dksX4_isWord_0 17 rfl rfl)
theorem dX4_isWord_18 : decode cX4_isWord 18 = .ok (.iconst 0, 1) := dk_3 (dk_at dksX4_isWord_0 18 rfl rfl)
theorem dX4_isWord_19 : decode cX4_isWord 19 = .ok (.istore_n 2, 1) := dk_61 (dk_at dksX4_isWord_0 19 rfl rfl)
theorem dX4_isWord_20 : decode cX4_isWord 20 = .ok (.iload_n 2, 1) := dk_28 (dk_at dksX4_isWord_0 20 rfl rfl)
theorem dX4_isWord_21 : decode cX4_isWord 21 = .ok (.aload_n 1, 1) := dk_43 (dk_at dksX4_isWord_0 21 rfl rfl)
theorem dX4_isWord_22 : decode cX4_isWord 22 = .ok (.invokevirtual 55, 3) := dk_182 0 55 (dk_at dksX4_isWord_1 0 rfl rfl)
theorem dX4_isWord_25 : decode cX4_isWord 25 = .ok (.if_icmp .ge 30, 3) := dk_162 0 30 (dk_at dksX4_isWord_1 3 rfl rfl)
theorem dX4_isWord_28 : decode cX4_isWord 28 = .ok (.aload_n 0, 1) := dk_42 (dk_at dksX4_isWord_1 6 rfl rfl)
theorem dX4_isWord_29 : decode cX4_isWord 29 = .ok (.getfield 9, 3) := dk_180 0 9 (dk_at dksX4_isWord_1 7 rfl rfl)
theorem dX4_isWord_32 : decode cX4_isWord 32 = .ok (.aload_n 0, 1) := dk_42 (dk_at dksX4_isWord_1 10 rfl rfl)
theorem dX4_isWord_33 : decode cX4_isWord 33 = .ok (.getfield 22, 3) := dk_180 0 22 (dk_at dksX4_isWord_1 11 rfl rfl)
theorem dX4_isWord_36 : decode cX4_isWord 36 = .ok (.iload_n 2, 1) := dk_28 (dk_at dksX4_isWord_1 14 rfl rfl)
theorem dX4_isWord_37 : decode cX4_isWord 37 = .ok (.iadd, 1) := dk_96 (dk_at dksX4_isWord_1 15 rfl rfl)
theorem dX4_isWord_38 : decode cX4_isWord 38 = .ok (.baload, 1) := dk_51 (dk_at dksX4_isWord_1 16 rfl rfl)
theorem dX4_isWord_39 : decode cX4_isWord 39 = .ok (.aload_n 1, 1) := dk_43 (dk_at dksX4_isWord_1 17 rfl rfl)
theorem dX4_isWord_40 : decode cX4_isWord 40 = .ok (.iload_n 2, 1) := dk_28 (dk_at dksX4_isWord_1 18 rfl rfl)
theorem dX4_isWord_41 : decode cX4_isWord 41 = .ok (.invokevirtual 61, 3) := dk_182 0 61 (dk_at dksX4_isWord_1 19 rfl rfl)
theorem dX4_isWord_44 : decode cX4_isWord 44 = .ok (.if_icmp .eq 5, 3) := dk_159 0 5 (dk_at dksX4_isWord_2 0 rfl rfl)
theorem dX4_isWord_47 : decode cX4_isWord 47 = .ok (.iconst 0, 1) := dk_3 (dk_at dksX4_isWord_2 3 rfl rfl)
theorem dX4_isWord_48 : decode cX4_isWord 48 = .ok (.ireturn, 1) := dk_172 (dk_at dksX4_isWord_2 4 rfl rfl)
theorem dX4_isWord_49 : decode cX4_isWord 49 = .ok (.iinc 2 1, 3) := dk_132 2 1 (dk_at dksX4_isWord_2 5 rfl rfl)
theorem dX4_isWord_52 : decode cX4_isWord 52 = .ok (.goto (-32), 3) := dk_167 255 224 (dk_at dksX4_isWord_2 8 rfl rfl)
theorem dX4_isWord_55 : decode cX4_isWord 55 = .ok (.iconst 1, 1) := dk_4 (dk_at dksX4_isWord_2 11 rfl rfl)
theorem dX4_isWord_56 : decode cX4_isWord 56 = .ok (.ireturn, 1) := dk_172 (dk_at dksX4_isWord_2 12 rfl rfl)
abbrev cX4_isDigit : ByteArray := prog_14_method_3_code
def yX4_isDigit : MethodName := ⟨RX4, "isDigit", "(I)Z"⟩
def dkwX4_isDigit_0 : List UInt8 := [26, 16, 48, 161, 0, 13, 26, 16, 57, 163, 0, 7, 4, 167, 0, 4, 3, 172]
abbrev dktX4_isDigit_0 : List UInt8 := dkwX4_isDigit_0 ++ []
theorem dksX4_isDigit_0 : cX4_isDigit.data.toList.drop 0 = dktX4_isDigit_0 := by decide +kernel
theorem dX4_isDigit_0 : decode cX4_isDigit 0 = .ok (.iload_n 0, 1) := dk_26 (dk_at dksX4_isDigit_0 0 rfl rfl)
theorem dX4_isDigit_1 : decode cX4_isDigit 1 = .ok (.bipush 48, 2) := dk_16 48 (dk_at dksX4_isDigit_0 1 rfl rfl)
theorem dX4_isDigit_3 : decode cX4_isDigit 3 = .ok (.if_icmp .lt 13, 3) := dk_161 0 13 (dk_at dksX4_isDigit_0 3 rfl rfl)
theorem dX4_isDigit_6 : decode cX4_isDigit 6 = .ok (.iload_n 0, 1) := dk_26 (dk_at dksX4_isDigit_0 6 rfl rfl)
theorem dX4_isDigit_7 : decode cX4_isDigit 7 = .ok (.bipush 57, 2) := dk_16 57 (dk_at dksX4_isDigit_0 7 rfl rfl)
theorem dX4_isDigit_9 : decode cX4_isDigit 9 = .ok (.if_icmp .gt 7, 3) := dk_163 0 7 (dk_at dksX4_isDigit_0 9 rfl rfl)
theorem dX4_isDigit_12 : decode cX4_isDigit 12 = .ok (.iconst 1, 1) := dk_4 (dk_at dksX4_isDigit_0 12 rfl rfl)
theorem dX4_isDigit_13 : decode cX4_isDigit 13 = .ok (.goto 4, 3) := dk_167 0 4 (dk_at dksX4_isDigit_0 13 rfl rfl)
theorem dX4_isDigit_16 : decode cX4_isDigit 16 = .ok (.iconst 0, 1) := dk_3 (dk_at dksX4_isDigit_0 16 rfl rfl)
theorem dX4_isDigit_17 : decode cX4_isDigit 17 = .ok (.ireturn, 1) := dk_172 (dk_at dksX4_isDigit_0 17 rfl rfl)
abbrev cX4_wrong : ByteArray := prog_14_method_6_code
def yX4_wrong : MethodName := ⟨RX4, "wrong", "(I)LThroughPack$Wrong;"⟩
def dkwX4_wrong_0 : List UInt8 := [187, 0, 65, 89, 27, 42, 180, 0, 22, 183, 0, 67, 176]
abbrev dktX4_wrong_0 : List UInt8 := dkwX4_wrong_0 ++ []
theorem dksX4_wrong_0 : cX4_wrong.data.toList.drop 0 = dktX4_wrong_0 := by decide +kernel
theorem dX4_wrong_0 : decode cX4_wrong 0 = .ok (.new 65, 3) := dk_187 0 65 (dk_at dksX4_wrong_0 0 rfl rfl)
theorem dX4_wrong_3 : decode cX4_wrong 3 = .ok (.dup, 1) := dk_89 (dk_at dksX4_wrong_0 3 rfl rfl)
theorem dX4_wrong_4 : decode cX4_wrong 4 = .ok (.iload_n 1, 1) := dk_27 (dk_at dksX4_wrong_0 4 rfl rfl)
theorem dX4_wrong_5 : decode cX4_wrong 5 = .ok (.aload_n 0, 1) := dk_42 (dk_at dksX4_wrong_0 5 rfl rfl)
theorem dX4_wrong_6 : decode cX4_wrong 6 = .ok (.getfield 22, 3) := dk_180 0 22 (dk_at dksX4_wrong_0 6 rfl rfl)
theorem dX4_wrong_9 : decode cX4_wrong 9 = .ok (.invokespecial 67, 3) := dk_183 0 67 (dk_at dksX4_wrong_0 9 rfl rfl)
theorem dX4_wrong_12 : decode cX4_wrong 12 = .ok (.areturn, 1) := dk_176 (dk_at dksX4_wrong_0 12 rfl rfl)
abbrev cX4_clause : ByteArray := prog_14_method_11_code
def yX4_clause : MethodName := ⟨RX4, "clause", "(LThroughPack$Text;)V"⟩
def dkwX4_clause_6 : List UInt8 := [183, 0, 135, 182, 0, 112, 87, 177]
abbrev dktX4_clause_6 : List UInt8 := dkwX4_clause_6 ++ []
def dkwX4_clause_5 : List UInt8 := [182, 0, 128, 61, 42, 17, 0, 206, 182, 0, 100, 43, 180, 0, 130, 187, 0, 133, 89, 28, 42, 182, 0, 108]
abbrev dktX4_clause_5 : List UInt8 := dkwX4_clause_5 ++ dktX4_clause_6
def dkwX4_clause_4 : List UInt8 := [182, 0, 124, 181, 0, 86, 167, 0, 49, 43, 42, 182, 0, 124, 181, 0, 90, 167, 0, 38, 42, 3, 16, 7]
abbrev dktX4_clause_4 : List UInt8 := dkwX4_clause_4 ++ dktX4_clause_5
def dkwX4_clause_3 : List UInt8 := [182, 0, 112, 87, 167, 0, 75, 43, 180, 0, 121, 42, 182, 0, 108, 182, 0, 112, 87, 167, 0, 60, 43, 42]
abbrev dktX4_clause_3 : List UInt8 := dkwX4_clause_3 ++ dktX4_clause_4
def dkwX4_clause_2 : List UInt8 := [43, 180, 0, 104, 42, 182, 0, 108, 182, 0, 112, 87, 167, 0, 90, 43, 180, 0, 118, 42, 182, 0, 108]
abbrev dktX4_clause_2 : List UInt8 := dkwX4_clause_2 ++ dktX4_clause_3
def dkwX4_clause_1 : List UInt8 := [170, 0, 0, 0, 0, 0, 0, 107, 0, 0, 0, 200, 0, 0, 0, 205, 0, 0, 0, 40, 0, 0, 0, 55, 0, 0, 0, 70, 0, 0, 0, 107, 0, 0, 0, 85, 0, 0, 0, 96]
abbrev dktX4_clause_1 : List UInt8 := dkwX4_clause_1 ++ dktX4_clause_2
def dkwX4_clause_0 : List UInt8 := [42, 180, 0, 83]
abbrev dktX4_clause_0 : List UInt8 := dkwX4_clause_0 ++ dktX4_clause_1
theorem dksX4_clause_0 : cX4_clause.data.toList.drop 0 = dktX4_clause_0 := by decide +kernel
theorem dksX4_clause_1 : cX4_clause.data.toList.drop 4 = dktX4_clause_1 := dk_seg dksX4_clause_0 4 rfl rfl
theorem dksX4_clause_2 : cX4_clause.data.toList.drop 44 = dktX4_clause_2 := dk_seg dksX4_clause_1 40 rfl rfl
theorem dksX4_clause_3 : cX4_clause.data.toList.drop 67 = dktX4_clause_3 := dk_seg dksX4_clause_2 23 rfl rfl
theorem dksX4_clause_4 : cX4_clause.data.toList.drop 91 = dktX4_clause_4 := dk_seg dksX4_clause_3 24 rfl rfl
theorem dksX4_clause_5 : cX4_clause.data.toList.drop 115 = dktX4_clause_5 := dk_seg dksX4_clause_4 24 rfl rfl
theorem dksX4_clause_6 : cX4_clause.data.toList.drop 139 = dktX4_clause_6 := dk_seg dksX4_clause_5 24 rfl rfl
theorem dX4_clause_0 : decode cX4_clause 0 = .ok (.aload_n 0, 1) := dk_42 (dk_at dksX4_clause_0 0 rfl rfl)
theorem dX4_clause_1 : decode cX4_clause 1 = .ok (.getfield 83, 3) := dk_180 0 83 (dk_at dksX4_clause_0 1 rfl rfl)
theorem dX4_clause_4 : decode cX4_clause 4 = .ok (.tableswitch 107 200 205 #[40, 55, 70, 107, 85, 96], 40) := by decide +kernel
theorem dX4_clause_44 : decode cX4_clause 44 = .ok (.aload_n 1, 1) := dk_43 (dk_at dksX4_clause_2 0 rfl rfl)
theorem dX4_clause_45 : decode cX4_clause 45 = .ok (.getfield 104, 3) := dk_180 0 104 (dk_at dksX4_clause_2 1 rfl rfl)
theorem dX4_clause_48 : decode cX4_clause 48 = .ok (.aload_n 0, 1) := dk_42 (dk_at dksX4_clause_2 4 rfl rfl)
theorem dX4_clause_49 : decode cX4_clause 49 = .ok (.invokevirtual 108, 3) := dk_182 0 108 (dk_at dksX4_clause_2 5 rfl rfl)
theorem dX4_clause_52 : decode cX4_clause 52 = .ok (.invokevirtual 112, 3) := dk_182 0 112 (dk_at dksX4_clause_2 8 rfl rfl)
theorem dX4_clause_55 : decode cX4_clause 55 = .ok (.pop, 1) := dk_87 (dk_at dksX4_clause_2 11 rfl rfl)
theorem dX4_clause_56 : decode cX4_clause 56 = .ok (.goto 90, 3) := dk_167 0 90 (dk_at dksX4_clause_2 12 rfl rfl)
theorem dX4_clause_59 : decode cX4_clause 59 = .ok (.aload_n 1, 1) := dk_43 (dk_at dksX4_clause_2 15 rfl rfl)
theorem dX4_clause_60 : decode cX4_clause 60 = .ok (.getfield 118, 3) := dk_180 0 118 (dk_at dksX4_clause_2 16 rfl rfl)
theorem dX4_clause_63 : decode cX4_clause 63 = .ok (.aload_n 0, 1) := dk_42 (dk_at dksX4_clause_2 19 rfl rfl)
theorem dX4_clause_64 : decode cX4_clause 64 = .ok (.invokevirtual 108, 3) := dk_182 0 108 (dk_at dksX4_clause_2 20 rfl rfl)
theorem dX4_clause_67 : decode cX4_clause 67 = .ok (.invokevirtual 112, 3) := dk_182 0 112 (dk_at dksX4_clause_3 0 rfl rfl)
theorem dX4_clause_70 : decode cX4_clause 70 = .ok (.pop, 1) := dk_87 (dk_at dksX4_clause_3 3 rfl rfl)
theorem dX4_clause_71 : decode cX4_clause 71 = .ok (.goto 75, 3) := dk_167 0 75 (dk_at dksX4_clause_3 4 rfl rfl)
theorem dX4_clause_74 : decode cX4_clause 74 = .ok (.aload_n 1, 1) := dk_43 (dk_at dksX4_clause_3 7 rfl rfl)
theorem dX4_clause_75 : decode cX4_clause 75 = .ok (.getfield 121, 3) := dk_180 0 121 (dk_at dksX4_clause_3 8 rfl rfl)
theorem dX4_clause_78 : decode cX4_clause 78 = .ok (.aload_n 0, 1) := dk_42 (dk_at dksX4_clause_3 11 rfl rfl)
theorem dX4_clause_79 : decode cX4_clause 79 = .ok (.invokevirtual 108, 3) := dk_182 0 108 (dk_at dksX4_clause_3 12 rfl rfl)
theorem dX4_clause_82 : decode cX4_clause 82 = .ok (.invokevirtual 112, 3) := dk_182 0 112 (dk_at dksX4_clause_3 15 rfl rfl)
theorem dX4_clause_85 : decode cX4_clause 85 = .ok (.pop, 1) := dk_87 (dk_at dksX4_clause_3 18 rfl rfl)
theorem dX4_clause_86 : decode cX4_clause 86 = .ok (.goto 60, 3) := dk_167 0 60 (dk_at dksX4_clause_3 19 rfl rfl)
theorem dX4_clause_89 : decode cX4_clause 89 = .ok (.aload_n 1, 1) := dk_43 (dk_at dksX4_clause_3 22 rfl rfl)
theorem dX4_clause_90 : decode cX4_clause 90 = .ok (.aload_n 0, 1) := dk_42 (dk_at dksX4_clause_3 23 rfl rfl)
theorem dX4_clause_91 : decode cX4_clause 91 = .ok (.invokevirtual 124, 3) := dk_182 0 124 (dk_at dksX4_clause_4 0 rfl rfl)
theorem dX4_clause_94 : decode cX4_clause 94 = .ok (.putfield 86, 3) := dk_181 0 86 (dk_at dksX4_clause_4 3 rfl rfl)
theorem dX4_clause_97 : decode cX4_clause 97 = .ok (.goto 49, 3) := dk_167 0 49 (dk_at dksX4_clause_4 6 rfl rfl)
theorem dX4_clause_100 : decode cX4_clause 100 = .ok (.aload_n 1, 1) := dk_43 (dk_at dksX4_clause_4 9 rfl rfl)
theorem dX4_clause_101 : decode cX4_clause 101 = .ok (.aload_n 0, 1) := dk_42 (dk_at dksX4_clause_4 10 rfl rfl)
theorem dX4_clause_102 : decode cX4_clause 102 = .ok (.invokevirtual 124, 3) := dk_182 0 124 (dk_at dksX4_clause_4 11 rfl rfl)
theorem dX4_clause_105 : decode cX4_clause 105 = .ok (.putfield 90, 3) := dk_181 0 90 (dk_at dksX4_clause_4 14 rfl rfl)
theorem dX4_clause_108 : decode cX4_clause 108 = .ok (.goto 38, 3) := dk_167 0 38 (dk_at dksX4_clause_4 17 rfl rfl)
theorem dX4_clause_111 : decode cX4_clause 111 = .ok (.aload_n 0, 1) := dk_42 (dk_at dksX4_clause_4 20 rfl rfl)
theorem dX4_clause_112 : decode cX4_clause 112 = .ok (.iconst 0, 1) := dk_3 (dk_at dksX4_clause_4 21 rfl rfl)
theorem dX4_clause_113 : decode cX4_clause 113 = .ok (.bipush 7, 2) := dk_16 7 (dk_at dksX4_clause_4 22 rfl rfl)
theorem dX4_clause_115 : decode cX4_clause 115 = .ok (.invokevirtual 128, 3) := dk_182 0 128 (dk_at dksX4_clause_5 0 rfl rfl)
theorem dX4_clause_118 : decode cX4_clause 118 = .ok (.istore_n 2, 1) := dk_61 (dk_at dksX4_clause_5 3 rfl rfl)
theorem dX4_clause_119 : decode cX4_clause 119 = .ok (.aload_n 0, 1) := dk_42 (dk_at dksX4_clause_5 4 rfl rfl)
theorem dX4_clause_120 : decode cX4_clause 120 = .ok (.sipush 206, 3) := dk_17 0 206 (dk_at dksX4_clause_5 5 rfl rfl)
theorem dX4_clause_123 : decode cX4_clause 123 = .ok (.invokevirtual 100, 3) := dk_182 0 100 (dk_at dksX4_clause_5 8 rfl rfl)
theorem dX4_clause_126 : decode cX4_clause 126 = .ok (.aload_n 1, 1) := dk_43 (dk_at dksX4_clause_5 11 rfl rfl)
theorem dX4_clause_127 : decode cX4_clause 127 = .ok (.getfield 130, 3) := dk_180 0 130 (dk_at dksX4_clause_5 12 rfl rfl)
theorem dX4_clause_130 : decode cX4_clause 130 = .ok (.new 133, 3) := dk_187 0 133 (dk_at dksX4_clause_5 15 rfl rfl)
theorem dX4_clause_133 : decode cX4_clause 133 = .ok (.dup, 1) := dk_89 (dk_at dksX4_clause_5 18 rfl rfl)
theorem dX4_clause_134 : decode cX4_clause 134 = .ok (.iload_n 2, 1) := dk_28 (dk_at dksX4_clause_5 19 rfl rfl)
theorem dX4_clause_135 : decode cX4_clause 135 = .ok (.aload_n 0, 1) := dk_42 (dk_at dksX4_clause_5 20 rfl rfl)
theorem dX4_clause_136 : decode cX4_clause 136 = .ok (.invokevirtual 108, 3) := dk_182 0 108 (dk_at dksX4_clause_5 21 rfl rfl)
theorem dX4_clause_139 : decode cX4_clause 139 = .ok (.invokespecial 135, 3) := dk_183 0 135 (dk_at dksX4_clause_6 0 rfl rfl)
theorem dX4_clause_142 : decode cX4_clause 142 = .ok (.invokevirtual 112, 3) := dk_182 0 112 (dk_at dksX4_clause_6 3 rfl rfl)
theorem dX4_clause_145 : decode cX4_clause 145 = .ok (.pop, 1) := dk_87 (dk_at dksX4_clause_6 6 rfl rfl)
theorem dX4_clause_146 : decode cX4_clause 146 = .ok (.return_, 1) := dk_177 (dk_at dksX4_clause_6 7 rfl rfl)
abbrev cX4_either : ByteArray := prog_14_method_12_code
def yX4_either : MethodName := ⟨RX4, "either", "()LThroughPack$Asked;"⟩
def dkwX4_either_2 : List UInt8 := [160, 0, 14, 43, 3, 182, 0, 144, 192, 0, 148, 167, 0, 12, 187, 0, 150, 89, 3, 43, 183, 0, 152, 176]
abbrev dktX4_either_2 : List UInt8 := dkwX4_either_2 ++ []
def dkwX4_either_1 : List UInt8 := [160, 0, 19, 42, 182, 0, 74, 43, 42, 182, 0, 139, 182, 0, 112, 87, 167, 255, 233, 43, 182, 0, 142, 4]
abbrev dktX4_either_1 : List UInt8 := dkwX4_either_1 ++ dktX4_either_2
def dkwX4_either_0 : List UInt8 := [187, 0, 113, 89, 183, 0, 138, 76, 43, 42, 182, 0, 139, 182, 0, 112, 87, 42, 180, 0, 25, 17, 0, 207]
abbrev dktX4_either_0 : List UInt8 := dkwX4_either_0 ++ dktX4_either_1
theorem dksX4_either_0 : cX4_either.data.toList.drop 0 = dktX4_either_0 := by decide +kernel
theorem dksX4_either_1 : cX4_either.data.toList.drop 24 = dktX4_either_1 := dk_seg dksX4_either_0 24 rfl rfl
theorem dksX4_either_2 : cX4_either.data.toList.drop 48 = dktX4_either_2 := dk_seg dksX4_either_1 24 rfl rfl
theorem dX4_either_0 : decode cX4_either 0 = .ok (.new 113, 3) := dk_187 0 113 (dk_at dksX4_either_0 0 rfl rfl)
theorem dX4_either_3 : decode cX4_either 3 = .ok (.dup, 1) := dk_89 (dk_at dksX4_either_0 3 rfl rfl)
theorem dX4_either_4 : decode cX4_either 4 = .ok (.invokespecial 138, 3) := dk_183 0 138 (dk_at dksX4_either_0 4 rfl rfl)
theorem dX4_either_7 : decode cX4_either 7 = .ok (.astore_n 1, 1) := dk_76 (dk_at dksX4_either_0 7 rfl rfl)
theorem dX4_either_8 : decode cX4_either 8 = .ok (.aload_n 1, 1) := dk_43 (dk_at dksX4_either_0 8 rfl rfl)
theorem dX4_either_9 : decode cX4_either 9 = .ok (.aload_n 0, 1) := dk_42 (dk_at dksX4_either_0 9 rfl rfl)
theorem dX4_either_10 : decode cX4_either 10 = .ok (.invokevirtual 139, 3) := dk_182 0 139 (dk_at dksX4_either_0 10 rfl rfl)
theorem dX4_either_13 : decode cX4_either 13 = .ok (.invokevirtual 112, 3) := dk_182 0 112 (dk_at dksX4_either_0 13 rfl rfl)
theorem dX4_either_16 : decode cX4_either 16 = .ok (.pop, 1) := dk_87 (dk_at dksX4_either_0 16 rfl rfl)
theorem dX4_either_17 : decode cX4_either 17 = .ok (.aload_n 0, 1) := dk_42 (dk_at dksX4_either_0 17 rfl rfl)
theorem dX4_either_18 : decode cX4_either 18 = .ok (.getfield 25, 3) := dk_180 0 25 (dk_at dksX4_either_0 18 rfl rfl)
theorem dX4_either_21 : decode cX4_either 21 = .ok (.sipush 207, 3) := dk_17 0 207 (dk_at dksX4_either_0 21 rfl rfl)
theorem dX4_either_24 : decode cX4_either 24 = .ok (.if_icmp .ne 19, 3) := dk_160 0 19 (dk_at dksX4_either_1 0 rfl rfl)
theorem dX4_either_27 : decode cX4_either 27 = .ok (.aload_n 0, 1) := dk_42 (dk_at dksX4_either_1 3 rfl rfl)
theorem dX4_either_28 : decode cX4_either 28 = .ok (.invokevirtual 74, 3) := dk_182 0 74 (dk_at dksX4_either_1 4 rfl rfl)
theorem dX4_either_31 : decode cX4_either 31 = .ok (.aload_n 1, 1) := dk_43 (dk_at dksX4_either_1 7 rfl rfl)
theorem dX4_either_32 : decode cX4_either 32 = .ok (.aload_n 0, 1) := dk_42 (dk_at dksX4_either_1 8 rfl rfl)
theorem dX4_either_33 : decode cX4_either 33 = .ok (.invokevirtual 139, 3) := dk_182 0 139 (dk_at dksX4_either_1 9 rfl rfl)
theorem dX4_either_36 : decode cX4_either 36 = .ok (.invokevirtual 112, 3) := dk_182 0 112 (dk_at dksX4_either_1 12 rfl rfl)
theorem dX4_either_39 : decode cX4_either 39 = .ok (.pop, 1) := dk_87 (dk_at dksX4_either_1 15 rfl rfl)
theorem dX4_either_40 : decode cX4_either 40 = .ok (.goto (-23), 3) := dk_167 255 233 (dk_at dksX4_either_1 16 rfl rfl)
theorem dX4_either_43 : decode cX4_either 43 = .ok (.aload_n 1, 1) := dk_43 (dk_at dksX4_either_1 19 rfl rfl)
theorem dX4_either_44 : decode cX4_either 44 = .ok (.invokevirtual 142, 3) := dk_182 0 142 (dk_at dksX4_either_1 20 rfl rfl)
theorem dX4_either_47 : decode cX4_either 47 = .ok (.iconst 1, 1) := dk_4 (dk_at dksX4_either_1 23 rfl rfl)
theorem dX4_either_48 : decode cX4_either 48 = .ok (.if_icmp .ne 14, 3) := dk_160 0 14 (dk_at dksX4_either_2 0 rfl rfl)
theorem dX4_either_51 : decode cX4_either 51 = .ok (.aload_n 1, 1) := dk_43 (dk_at dksX4_either_2 3 rfl rfl)
theorem dX4_either_52 : decode cX4_either 52 = .ok (.iconst 0, 1) := dk_3 (dk_at dksX4_either_2 4 rfl rfl)
theorem dX4_either_53 : decode cX4_either 53 = .ok (.invokevirtual 144, 3) := dk_182 0 144 (dk_at dksX4_either_2 5 rfl rfl)
theorem dX4_either_56 : decode cX4_either 56 = .ok (.checkcast 148, 3) := dk_192 0 148 (dk_at dksX4_either_2 8 rfl rfl)
theorem dX4_either_59 : decode cX4_either 59 = .ok (.goto 12, 3) := dk_167 0 12 (dk_at dksX4_either_2 11 rfl rfl)
theorem dX4_either_62 : decode cX4_either 62 = .ok (.new 150, 3) := dk_187 0 150 (dk_at dksX4_either_2 14 rfl rfl)
theorem dX4_either_65 : decode cX4_either 65 = .ok (.dup, 1) := dk_89 (dk_at dksX4_either_2 17 rfl rfl)
theorem dX4_either_66 : decode cX4_either 66 = .ok (.iconst 0, 1) := dk_3 (dk_at dksX4_either_2 18 rfl rfl)
theorem dX4_either_67 : decode cX4_either 67 = .ok (.aload_n 1, 1) := dk_43 (dk_at dksX4_either_2 19 rfl rfl)
theorem dX4_either_68 : decode cX4_either 68 = .ok (.invokespecial 152, 3) := dk_183 0 152 (dk_at dksX4_either_2 20 rfl rfl)
theorem dX4_either_71 : decode cX4_either 71 = .ok (.areturn, 1) := dk_176 (dk_at dksX4_either_2 23 rfl rfl)
abbrev cX4_both : ByteArray := prog_14_method_13_code
def yX4_both : MethodName := ⟨RX4, "both", "()LThroughPack$Asked;"⟩
def dkwX4_both_2 : List UInt8 := [160, 0, 14, 43, 3, 182, 0, 144, 192, 0, 148, 167, 0, 12, 187, 0, 150, 89, 4, 43, 183, 0, 152, 176]
abbrev dktX4_both_2 : List UInt8 := dkwX4_both_2 ++ []
def dkwX4_both_1 : List UInt8 := [160, 0, 19, 42, 182, 0, 74, 43, 42, 182, 0, 155, 182, 0, 112, 87, 167, 255, 233, 43, 182, 0, 142, 4]
abbrev dktX4_both_1 : List UInt8 := dkwX4_both_1 ++ dktX4_both_2
def dkwX4_both_0 : List UInt8 := [187, 0, 113, 89, 183, 0, 138, 76, 43, 42, 182, 0, 155, 182, 0, 112, 87, 42, 180, 0, 25, 17, 0, 208]
abbrev dktX4_both_0 : List UInt8 := dkwX4_both_0 ++ dktX4_both_1
theorem dksX4_both_0 : cX4_both.data.toList.drop 0 = dktX4_both_0 := by decide +kernel
theorem dksX4_both_1 : cX4_both.data.toList.drop 24 = dktX4_both_1 := dk_seg dksX4_both_0 24 rfl rfl
theorem dksX4_both_2 : cX4_both.data.toList.drop 48 = dktX4_both_2 := dk_seg dksX4_both_1 24 rfl rfl
theorem dX4_both_0 : decode cX4_both 0 = .ok (.new 113, 3) := dk_187 0 113 (dk_at dksX4_both_0 0 rfl rfl)
theorem dX4_both_3 : decode cX4_both 3 = .ok (.dup, 1) := dk_89 (dk_at dksX4_both_0 3 rfl rfl)
theorem dX4_both_4 : decode cX4_both 4 = .ok (.invokespecial 138, 3) := dk_183 0 138 (dk_at dksX4_both_0 4 rfl rfl)
theorem dX4_both_7 : decode cX4_both 7 = .ok (.astore_n 1, 1) := dk_76 (dk_at dksX4_both_0 7 rfl rfl)
theorem dX4_both_8 : decode cX4_both 8 = .ok (.aload_n 1, 1) := dk_43 (dk_at dksX4_both_0 8 rfl rfl)
theorem dX4_both_9 : decode cX4_both 9 = .ok (.aload_n 0, 1) := dk_42 (dk_at dksX4_both_0 9 rfl rfl)
theorem dX4_both_10 : decode cX4_both 10 = .ok (.invokevirtual 155, 3) := dk_182 0 155 (dk_at dksX4_both_0 10 rfl rfl)
theorem dX4_both_13 : decode cX4_both 13 = .ok (.invokevirtual 112, 3) := dk_182 0 112 (dk_at dksX4_both_0 13 rfl rfl)
theorem dX4_both_16 : decode cX4_both 16 = .ok (.pop, 1) := dk_87 (dk_at dksX4_both_0 16 rfl rfl)
theorem dX4_both_17 : decode cX4_both 17 = .ok (.aload_n 0, 1) := dk_42 (dk_at dksX4_both_0 17 rfl rfl)
theorem dX4_both_18 : decode cX4_both 18 = .ok (.getfield 25, 3) := dk_180 0 25 (dk_at dksX4_both_0 18 rfl rfl)
theorem dX4_both_21 : decode cX4_both 21 = .ok (.sipush 208, 3) := dk_17 0 208 (dk_at dksX4_both_0 21 rfl rfl)
theorem dX4_both_24 : decode cX4_both 24 = .ok (.if_icmp .ne 19, 3) := dk_160 0 19 (dk_at dksX4_both_1 0 rfl rfl)
theorem dX4_both_27 : decode cX4_both 27 = .ok (.aload_n 0, 1) := dk_42 (dk_at dksX4_both_1 3 rfl rfl)
theorem dX4_both_28 : decode cX4_both 28 = .ok (.invokevirtual 74, 3) := dk_182 0 74 (dk_at dksX4_both_1 4 rfl rfl)
theorem dX4_both_31 : decode cX4_both 31 = .ok (.aload_n 1, 1) := dk_43 (dk_at dksX4_both_1 7 rfl rfl)
theorem dX4_both_32 : decode cX4_both 32 = .ok (.aload_n 0, 1) := dk_42 (dk_at dksX4_both_1 8 rfl rfl)
theorem dX4_both_33 : decode cX4_both 33 = .ok (.invokevirtual 155, 3) := dk_182 0 155 (dk_at dksX4_both_1 9 rfl rfl)
theorem dX4_both_36 : decode cX4_both 36 = .ok (.invokevirtual 112, 3) := dk_182 0 112 (dk_at dksX4_both_1 12 rfl rfl)
theorem dX4_both_39 : decode cX4_both 39 = .ok (.pop, 1) := dk_87 (dk_at dksX4_both_1 15 rfl rfl)
theorem dX4_both_40 : decode cX4_both 40 = .ok (.goto (-23), 3) := dk_167 255 233 (dk_at dksX4_both_1 16 rfl rfl)
theorem dX4_both_43 : decode cX4_both 43 = .ok (.aload_n 1, 1) := dk_43 (dk_at dksX4_both_1 19 rfl rfl)
theorem dX4_both_44 : decode cX4_both 44 = .ok (.invokevirtual 142, 3) := dk_182 0 142 (dk_at dksX4_both_1 20 rfl rfl)
theorem dX4_both_47 : decode cX4_both 47 = .ok (.iconst 1, 1) := dk_4 (dk_at dksX4_both_1 23 rfl rfl)
theorem dX4_both_48 : decode cX4_both 48 = .ok (.if_icmp .ne 14, 3) := dk_160 0 14 (dk_at dksX4_both_2 0 rfl rfl)
theorem dX4_both_51 : decode cX4_both 51 = .ok (.aload_n 1, 1) := dk_43 (dk_at dksX4_both_2 3 rfl rfl)
theorem dX4_both_52 : decode cX4_both 52 = .ok (.iconst 0, 1) := dk_3 (dk_at dksX4_both_2 4 rfl rfl)
theorem dX4_both_53 : decode cX4_both 53 = .ok (.invokevirtual 144, 3) := dk_182 0 144 (dk_at dksX4_both_2 5 rfl rfl)
theorem dX4_both_56 : decode cX4_both 56 = .ok (.checkcast 148, 3) := dk_192 0 148 (dk_at dksX4_both_2 8 rfl rfl)
theorem dX4_both_59 : decode cX4_both 59 = .ok (.goto 12, 3) := dk_167 0 12 (dk_at dksX4_both_2 11 rfl rfl)
theorem dX4_both_62 : decode cX4_both 62 = .ok (.new 150, 3) := dk_187 0 150 (dk_at dksX4_both_2 14 rfl rfl)
theorem dX4_both_65 : decode cX4_both 65 = .ok (.dup, 1) := dk_89 (dk_at dksX4_both_2 17 rfl rfl)
theorem dX4_both_66 : decode cX4_both 66 = .ok (.iconst 1, 1) := dk_4 (dk_at dksX4_both_2 18 rfl rfl)
theorem dX4_both_67 : decode cX4_both 67 = .ok (.aload_n 1, 1) := dk_43 (dk_at dksX4_both_2 19 rfl rfl)
theorem dX4_both_68 : decode cX4_both 68 = .ok (.invokespecial 152, 3) := dk_183 0 152 (dk_at dksX4_both_2 20 rfl rfl)
theorem dX4_both_71 : decode cX4_both 71 = .ok (.areturn, 1) := dk_176 (dk_at dksX4_both_2 23 rfl rfl)
abbrev cX4_ask : ByteArray := prog_14_method_14_code
def yX4_ask : MethodName := ⟨RX4, "ask", "()LThroughPack$Asked;"⟩
def dkwX4_ask_4 : List UInt8 := [191, 42, 182, 0, 74, 187, 0, 166, 89, 28, 43, 42, 182, 0, 124, 183, 0, 168, 176]
abbrev dktX4_ask_4 : List UInt8 := dkwX4_ask_4 ++ []
def dkwX4_ask_3 : List UInt8 := [16, 35, 159, 0, 23, 28, 17, 1, 47, 159, 0, 16, 28, 17, 1, 48, 159, 0, 9, 42, 4, 182, 0, 70]
abbrev dktX4_ask_3 : List UInt8 := dkwX4_ask_3 ++ dktX4_ask_4
def dkwX4_ask_2 : List UInt8 := [180, 0, 25, 61, 28, 16, 60, 159, 0, 41, 28, 16, 62, 159, 0, 35, 28, 16, 61, 159, 0, 29, 28]
abbrev dktX4_ask_2 : List UInt8 := dkwX4_ask_2 ++ dktX4_ask_3
def dkwX4_ask_1 : List UInt8 := [183, 0, 163, 76, 42, 89, 180, 0, 77, 4, 100, 181, 0, 77, 43, 176, 42, 182, 0, 124, 76, 42]
abbrev dktX4_ask_1 : List UInt8 := dkwX4_ask_1 ++ dktX4_ask_2
def dkwX4_ask_0 : List UInt8 := [42, 180, 0, 25, 17, 0, 209, 160, 0, 31, 42, 182, 0, 158, 187, 0, 161, 89, 42, 182, 0, 155]
abbrev dktX4_ask_0 : List UInt8 := dkwX4_ask_0 ++ dktX4_ask_1
theorem dksX4_ask_0 : cX4_ask.data.toList.drop 0 = dktX4_ask_0 := by decide +kernel
theorem dksX4_ask_1 : cX4_ask.data.toList.drop 22 = dktX4_ask_1 := dk_seg dksX4_ask_0 22 rfl rfl
theorem dksX4_ask_2 : cX4_ask.data.toList.drop 44 = dktX4_ask_2 := dk_seg dksX4_ask_1 22 rfl rfl
theorem dksX4_ask_3 : cX4_ask.data.toList.drop 67 = dktX4_ask_3 := dk_seg dksX4_ask_2 23 rfl rfl
theorem dksX4_ask_4 : cX4_ask.data.toList.drop 91 = dktX4_ask_4 := dk_seg dksX4_ask_3 24 rfl rfl
theorem dX4_ask_0 : decode cX4_ask 0 = .ok (.aload_n 0, 1) := dk_42 (dk_at dksX4_ask_0 0 rfl rfl)
theorem dX4_ask_1 : decode cX4_ask 1 = .ok (.getfield 25, 3) := dk_180 0 25 (dk_at dksX4_ask_0 1 rfl rfl)
theorem dX4_ask_4 : decode cX4_ask 4 = .ok (.sipush 209, 3) := dk_17 0 209 (dk_at dksX4_ask_0 4 rfl rfl)
theorem dX4_ask_7 : decode cX4_ask 7 = .ok (.if_icmp .ne 31, 3) := dk_160 0 31 (dk_at dksX4_ask_0 7 rfl rfl)
theorem dX4_ask_10 : decode cX4_ask 10 = .ok (.aload_n 0, 1) := dk_42 (dk_at dksX4_ask_0 10 rfl rfl)
theorem dX4_ask_11 : decode cX4_ask 11 = .ok (.invokevirtual 158, 3) := dk_182 0 158 (dk_at dksX4_ask_0 11 rfl rfl)
theorem dX4_ask_14 : decode cX4_ask 14 = .ok (.new 161, 3) := dk_187 0 161 (dk_at dksX4_ask_0 14 rfl rfl)
theorem dX4_ask_17 : decode cX4_ask 17 = .ok (.dup, 1) := dk_89 (dk_at dksX4_ask_0 17 rfl rfl)
theorem dX4_ask_18 : decode cX4_ask 18 = .ok (.aload_n 0, 1) := dk_42 (dk_at dksX4_ask_0 18 rfl rfl)
theorem dX4_ask_19 : decode cX4_ask 19 = .ok (.invokevirtual 155, 3) := dk_182 0 155 (dk_at dksX4_ask_0 19 rfl rfl)
theorem dX4_ask_22 : decode cX4_ask 22 = .ok (.invokespecial 163, 3) := dk_183 0 163 (dk_at dksX4_ask_1 0 rfl rfl)
theorem dX4_ask_25 : decode cX4_ask 25 = .ok (.astore_n 1, 1) := dk_76 (dk_at dksX4_ask_1 3 rfl rfl)
theorem dX4_ask_26 : decode cX4_ask 26 = .ok (.aload_n 0, 1) := dk_42 (dk_at dksX4_ask_1 4 rfl rfl)
theorem dX4_ask_27 : decode cX4_ask 27 = .ok (.dup, 1) := dk_89 (dk_at dksX4_ask_1 5 rfl rfl)
theorem dX4_ask_28 : decode cX4_ask 28 = .ok (.getfield 77, 3) := dk_180 0 77 (dk_at dksX4_ask_1 6 rfl rfl)
theorem dX4_ask_31 : decode cX4_ask 31 = .ok (.iconst 1, 1) := dk_4 (dk_at dksX4_ask_1 9 rfl rfl)
theorem dX4_ask_32 : decode cX4_ask 32 = .ok (.isub, 1) := dk_100 (dk_at dksX4_ask_1 10 rfl rfl)
theorem dX4_ask_33 : decode cX4_ask 33 = .ok (.putfield 77, 3) := dk_181 0 77 (dk_at dksX4_ask_1 11 rfl rfl)
theorem dX4_ask_36 : decode cX4_ask 36 = .ok (.aload_n 1, 1) := dk_43 (dk_at dksX4_ask_1 14 rfl rfl)
theorem dX4_ask_37 : decode cX4_ask 37 = .ok (.areturn, 1) := dk_176 (dk_at dksX4_ask_1 15 rfl rfl)
theorem dX4_ask_38 : decode cX4_ask 38 = .ok (.aload_n 0, 1) := dk_42 (dk_at dksX4_ask_1 16 rfl rfl)
theorem dX4_ask_39 : decode cX4_ask 39 = .ok (.invokevirtual 124, 3) := dk_182 0 124 (dk_at dksX4_ask_1 17 rfl rfl)
theorem dX4_ask_42 : decode cX4_ask 42 = .ok (.astore_n 1, 1) := dk_76 (dk_at dksX4_ask_1 20 rfl rfl)
theorem dX4_ask_43 : decode cX4_ask 43 = .ok (.aload_n 0, 1) := dk_42 (dk_at dksX4_ask_1 21 rfl rfl)
theorem dX4_ask_44 : decode cX4_ask 44 = .ok (.getfield 25, 3) := dk_180 0 25 (dk_at dksX4_ask_2 0 rfl rfl)
theorem dX4_ask_47 : decode cX4_ask 47 = .ok (.istore_n 2, 1) := dk_61 (dk_at dksX4_ask_2 3 rfl rfl)
theorem dX4_ask_48 : decode cX4_ask 48 = .ok (.iload_n 2, 1) := dk_28 (dk_at dksX4_ask_2 4 rfl rfl)
theorem dX4_ask_49 : decode cX4_ask 49 = .ok (.bipush 60, 2) := dk_16 60 (dk_at dksX4_ask_2 5 rfl rfl)
theorem dX4_ask_51 : decode cX4_ask 51 = .ok (.if_icmp .eq 41, 3) := dk_159 0 41 (dk_at dksX4_ask_2 7 rfl rfl)
theorem dX4_ask_54 : decode cX4_ask 54 = .ok (.iload_n 2, 1) := dk_28 (dk_at dksX4_ask_2 10 rfl rfl)
theorem dX4_ask_55 : decode cX4_ask 55 = .ok (.bipush 62, 2) := dk_16 62 (dk_at dksX4_ask_2 11 rfl rfl)
theorem dX4_ask_57 : decode cX4_ask 57 = .ok (.if_icmp .eq 35, 3) := dk_159 0 35 (dk_at dksX4_ask_2 13 rfl rfl)
theorem dX4_ask_60 : decode cX4_ask 60 = .ok (.iload_n 2, 1) := dk_28 (dk_at dksX4_ask_2 16 rfl rfl)
theorem dX4_ask_61 : decode cX4_ask 61 = .ok (.bipush 61, 2) := dk_16 61 (dk_at dksX4_ask_2 17 rfl rfl)
theorem dX4_ask_63 : decode cX4_ask 63 = .ok (.if_icmp .eq 29, 3) := dk_159 0 29 (dk_at dksX4_ask_2 19 rfl rfl)
theorem dX4_ask_66 : decode cX4_ask 66 = .ok (.iload_n 2, 1) := dk_28 (dk_at dksX4_ask_2 22 rfl rfl)
theorem dX4_ask_67 : decode cX4_ask 67 = .ok (.bipush 35, 2) := dk_16 35 (dk_at dksX4_ask_3 0 rfl rfl)
theorem dX4_ask_69 : decode cX4_ask 69 = .ok (.if_icmp .eq 23, 3) := dk_159 0 23 (dk_at dksX4_ask_3 2 rfl rfl)
theorem dX4_ask_72 : decode cX4_ask 72 = .ok (.iload_n 2, 1) := dk_28 (dk_at dksX4_ask_3 5 rfl rfl)
theorem dX4_ask_73 : decode cX4_ask 73 = .ok (.sipush 303, 3) := dk_17 1 47 (dk_at dksX4_ask_3 6 rfl rfl)
theorem dX4_ask_76 : decode cX4_ask 76 = .ok (.if_icmp .eq 16, 3) := dk_159 0 16 (dk_at dksX4_ask_3 9 rfl rfl)
theorem dX4_ask_79 : decode cX4_ask 79 = .ok (.iload_n 2, 1) := dk_28 (dk_at dksX4_ask_3 12 rfl rfl)
theorem dX4_ask_80 : decode cX4_ask 80 = .ok (.sipush 304, 3) := dk_17 1 48 (dk_at dksX4_ask_3 13 rfl rfl)
theorem dX4_ask_83 : decode cX4_ask 83 = .ok (.if_icmp .eq 9, 3) := dk_159 0 9 (dk_at dksX4_ask_3 16 rfl rfl)
theorem dX4_ask_86 : decode cX4_ask 86 = .ok (.aload_n 0, 1) := dk_42 (dk_at dksX4_ask_3 19 rfl rfl)
theorem dX4_ask_87 : decode cX4_ask 87 = .ok (.iconst 1, 1) := dk_4 (dk_at dksX4_ask_3 20 rfl rfl)
theorem dX4_ask_88 : decode cX4_ask 88 = .ok (.invokevirtual 70, 3) := dk_182 0 70 (dk_at dksX4_ask_3 21 rfl rfl)
theorem dX4_ask_91 : decode cX4_ask 91 = .ok (.athrow, 1) := dk_191 (dk_at dksX4_ask_4 0 rfl rfl)
theorem dX4_ask_92 : decode cX4_ask 92 = .ok (.aload_n 0, 1) := dk_42 (dk_at dksX4_ask_4 1 rfl rfl)
theorem dX4_ask_93 : decode cX4_ask 93 = .ok (.invokevirtual 74, 3) := dk_182 0 74 (dk_at dksX4_ask_4 2 rfl rfl)
theorem dX4_ask_96 : decode cX4_ask 96 = .ok (.new 166, 3) := dk_187 0 166 (dk_at dksX4_ask_4 5 rfl rfl)
theorem dX4_ask_99 : decode cX4_ask 99 = .ok (.dup, 1) := dk_89 (dk_at dksX4_ask_4 8 rfl rfl)
theorem dX4_ask_100 : decode cX4_ask 100 = .ok (.iload_n 2, 1) := dk_28 (dk_at dksX4_ask_4 9 rfl rfl)
theorem dX4_ask_101 : decode cX4_ask 101 = .ok (.aload_n 1, 1) := dk_43 (dk_at dksX4_ask_4 10 rfl rfl)
theorem dX4_ask_102 : decode cX4_ask 102 = .ok (.aload_n 0, 1) := dk_42 (dk_at dksX4_ask_4 11 rfl rfl)
theorem dX4_ask_103 : decode cX4_ask 103 = .ok (.invokevirtual 124, 3) := dk_182 0 124 (dk_at dksX4_ask_4 12 rfl rfl)
theorem dX4_ask_106 : decode cX4_ask 106 = .ok (.invokespecial 168, 3) := dk_183 0 168 (dk_at dksX4_ask_4 15 rfl rfl)
theorem dX4_ask_109 : decode cX4_ask 109 = .ok (.areturn, 1) := dk_176 (dk_at dksX4_ask_4 18 rfl rfl)
abbrev cX4_opens : ByteArray := prog_14_method_9_code
def yX4_opens : MethodName := ⟨RX4, "opens", "()V"⟩
def dkwX4_opens_1 : List UInt8 := [181, 0, 77, 42, 182, 0, 74, 177]
abbrev dktX4_opens_1 : List UInt8 := dkwX4_opens_1 ++ []
def dkwX4_opens_0 : List UInt8 := [42, 180, 0, 77, 16, 8, 160, 0, 9, 42, 6, 182, 0, 70, 191, 42, 89, 180, 0, 77, 4, 96]
abbrev dktX4_opens_0 : List UInt8 := dkwX4_opens_0 ++ dktX4_opens_1
theorem dksX4_opens_0 : cX4_opens.data.toList.drop 0 = dktX4_opens_0 := by decide +kernel
theorem dksX4_opens_1 : cX4_opens.data.toList.drop 22 = dktX4_opens_1 := dk_seg dksX4_opens_0 22 rfl rfl
theorem dX4_opens_0 : decode cX4_opens 0 = .ok (.aload_n 0, 1) := dk_42 (dk_at dksX4_opens_0 0 rfl rfl)
theorem dX4_opens_1 : decode cX4_opens 1 = .ok (.getfield 77, 3) := dk_180 0 77 (dk_at dksX4_opens_0 1 rfl rfl)
theorem dX4_opens_4 : decode cX4_opens 4 = .ok (.bipush 8, 2) := dk_16 8 (dk_at dksX4_opens_0 4 rfl rfl)
theorem dX4_opens_6 : decode cX4_opens 6 = .ok (.if_icmp .ne 9, 3) := dk_160 0 9 (dk_at dksX4_opens_0 6 rfl rfl)
theorem dX4_opens_9 : decode cX4_opens 9 = .ok (.aload_n 0, 1) := dk_42 (dk_at dksX4_opens_0 9 rfl rfl)
theorem dX4_opens_10 : decode cX4_opens 10 = .ok (.iconst 3, 1) := dk_6 (dk_at dksX4_opens_0 10 rfl rfl)
theorem dX4_opens_11 : decode cX4_opens 11 = .ok (.invokevirtual 70, 3) := dk_182 0 70 (dk_at dksX4_opens_0 11 rfl rfl)
theorem dX4_opens_14 : decode cX4_opens 14 = .ok (.athrow, 1) := dk_191 (dk_at dksX4_opens_0 14 rfl rfl)
theorem dX4_opens_15 : decode cX4_opens 15 = .ok (.aload_n 0, 1) := dk_42 (dk_at dksX4_opens_0 15 rfl rfl)
theorem dX4_opens_16 : decode cX4_opens 16 = .ok (.dup, 1) := dk_89 (dk_at dksX4_opens_0 16 rfl rfl)
theorem dX4_opens_17 : decode cX4_opens 17 = .ok (.getfield 77, 3) := dk_180 0 77 (dk_at dksX4_opens_0 17 rfl rfl)
theorem dX4_opens_20 : decode cX4_opens 20 = .ok (.iconst 1, 1) := dk_4 (dk_at dksX4_opens_0 20 rfl rfl)
theorem dX4_opens_21 : decode cX4_opens 21 = .ok (.iadd, 1) := dk_96 (dk_at dksX4_opens_0 21 rfl rfl)
theorem dX4_opens_22 : decode cX4_opens 22 = .ok (.putfield 77, 3) := dk_181 0 77 (dk_at dksX4_opens_1 0 rfl rfl)
theorem dX4_opens_25 : decode cX4_opens 25 = .ok (.aload_n 0, 1) := dk_42 (dk_at dksX4_opens_1 3 rfl rfl)
theorem dX4_opens_26 : decode cX4_opens 26 = .ok (.invokevirtual 74, 3) := dk_182 0 74 (dk_at dksX4_opens_1 4 rfl rfl)
theorem dX4_opens_29 : decode cX4_opens 29 = .ok (.return_, 1) := dk_177 (dk_at dksX4_opens_1 7 rfl rfl)
abbrev cX4_sum : ByteArray := prog_14_method_15_code
def yX4_sum : MethodName := ⟨RX4, "sum", "()LThroughPack$Sum;"⟩
def dkwX4_sum_2 : List UInt8 := [182, 0, 179, 167, 255, 220, 43, 182, 0, 182, 176]
abbrev dktX4_sum_2 : List UInt8 := dkwX4_sum_2 ++ []
def dkwX4_sum_1 : List UInt8 := [180, 0, 25, 16, 45, 160, 0, 24, 42, 180, 0, 25, 61, 42, 182, 0, 74, 43, 28, 42, 182, 0, 173]
abbrev dktX4_sum_1 : List UInt8 := dkwX4_sum_1 ++ dktX4_sum_2
def dkwX4_sum_0 : List UInt8 := [187, 0, 171, 89, 42, 182, 0, 173, 183, 0, 176, 76, 42, 180, 0, 25, 16, 43, 159, 0, 12, 42]
abbrev dktX4_sum_0 : List UInt8 := dkwX4_sum_0 ++ dktX4_sum_1
theorem dksX4_sum_0 : cX4_sum.data.toList.drop 0 = dktX4_sum_0 := by decide +kernel
theorem dksX4_sum_1 : cX4_sum.data.toList.drop 22 = dktX4_sum_1 := dk_seg dksX4_sum_0 22 rfl rfl
theorem dksX4_sum_2 : cX4_sum.data.toList.drop 45 = dktX4_sum_2 := dk_seg dksX4_sum_1 23 rfl rfl
theorem dX4_sum_0 : decode cX4_sum 0 = .ok (.new 171, 3) := dk_187 0 171 (dk_at dksX4_sum_0 0 rfl rfl)
theorem dX4_sum_3 : decode cX4_sum 3 = .ok (.dup, 1) := dk_89 (dk_at dksX4_sum_0 3 rfl rfl)
theorem dX4_sum_4 : decode cX4_sum 4 = .ok (.aload_n 0, 1) := dk_42 (dk_at dksX4_sum_0 4 rfl rfl)
theorem dX4_sum_5 : decode cX4_sum 5 = .ok (.invokevirtual 173, 3) := dk_182 0 173 (dk_at dksX4_sum_0 5 rfl rfl)
theorem dX4_sum_8 : decode cX4_sum 8 = .ok (.invokespecial 176, 3) := dk_183 0 176 (dk_at dksX4_sum_0 8 rfl rfl)
theorem dX4_sum_11 : decode cX4_sum 11 = .ok (.astore_n 1, 1) := dk_76 (dk_at dksX4_sum_0 11 rfl rfl)
theorem dX4_sum_12 : decode cX4_sum 12 = .ok (.aload_n 0, 1) := dk_42 (dk_at dksX4_sum_0 12 rfl rfl)
theorem dX4_sum_13 : decode cX4_sum 13 = .ok (.getfield 25, 3) := dk_180 0 25 (dk_at dksX4_sum_0 13 rfl rfl)
theorem dX4_sum_16 : decode cX4_sum 16 = .ok (.bipush 43, 2) := dk_16 43 (dk_at dksX4_sum_0 16 rfl rfl)
theorem dX4_sum_18 : decode cX4_sum 18 = .ok (.if_icmp .eq 12, 3) := dk_159 0 12 (dk_at dksX4_sum_0 18 rfl rfl)
theorem dX4_sum_21 : decode cX4_sum 21 = .ok (.aload_n 0, 1) := dk_42 (dk_at dksX4_sum_0 21 rfl rfl)
theorem dX4_sum_22 : decode cX4_sum 22 = .ok (.getfield 25, 3) := dk_180 0 25 (dk_at dksX4_sum_1 0 rfl rfl)
theorem dX4_sum_25 : decode cX4_sum 25 = .ok (.bipush 45, 2) := dk_16 45 (dk_at dksX4_sum_1 3 rfl rfl)
theorem dX4_sum_27 : decode cX4_sum 27 = .ok (.if_icmp .ne 24, 3) := dk_160 0 24 (dk_at dksX4_sum_1 5 rfl rfl)
theorem dX4_sum_30 : decode cX4_sum 30 = .ok (.aload_n 0, 1) := dk_42 (dk_at dksX4_sum_1 8 rfl rfl)
theorem dX4_sum_31 : decode cX4_sum 31 = .ok (.getfield 25, 3) := dk_180 0 25 (dk_at dksX4_sum_1 9 rfl rfl)
theorem dX4_sum_34 : decode cX4_sum 34 = .ok (.istore_n 2, 1) := dk_61 (dk_at dksX4_sum_1 12 rfl rfl)
theorem dX4_sum_35 : decode cX4_sum 35 = .ok (.aload_n 0, 1) := dk_42 (dk_at dksX4_sum_1 13 rfl rfl)
theorem dX4_sum_36 : decode cX4_sum 36 = .ok (.invokevirtual 74, 3) := dk_182 0 74 (dk_at dksX4_sum_1 14 rfl rfl)
theorem dX4_sum_39 : decode cX4_sum 39 = .ok (.aload_n 1, 1) := dk_43 (dk_at dksX4_sum_1 17 rfl rfl)
theorem dX4_sum_40 : decode cX4_sum 40 = .ok (.iload_n 2, 1) := dk_28 (dk_at dksX4_sum_1 18 rfl rfl)
theorem dX4_sum_41 : decode cX4_sum 41 = .ok (.aload_n 0, 1) := dk_42 (dk_at dksX4_sum_1 19 rfl rfl)
theorem dX4_sum_42 : decode cX4_sum 42 = .ok (.invokevirtual 173, 3) := dk_182 0 173 (dk_at dksX4_sum_1 20 rfl rfl)
theorem dX4_sum_45 : decode cX4_sum 45 = .ok (.invokevirtual 179, 3) := dk_182 0 179 (dk_at dksX4_sum_2 0 rfl rfl)
theorem dX4_sum_48 : decode cX4_sum 48 = .ok (.goto (-36), 3) := dk_167 255 220 (dk_at dksX4_sum_2 3 rfl rfl)
theorem dX4_sum_51 : decode cX4_sum 51 = .ok (.aload_n 1, 1) := dk_43 (dk_at dksX4_sum_2 6 rfl rfl)
theorem dX4_sum_52 : decode cX4_sum 52 = .ok (.invokevirtual 182, 3) := dk_182 0 182 (dk_at dksX4_sum_2 7 rfl rfl)
theorem dX4_sum_55 : decode cX4_sum 55 = .ok (.areturn, 1) := dk_176 (dk_at dksX4_sum_2 10 rfl rfl)
abbrev cX4_product : ByteArray := prog_14_method_16_code
def yX4_product : MethodName := ⟨RX4, "product", "()LThroughPack$Sum;"⟩
def dkwX4_product_2 : List UInt8 := [182, 0, 179, 167, 255, 220, 43, 182, 0, 182, 176]
abbrev dktX4_product_2 : List UInt8 := dkwX4_product_2 ++ []
def dkwX4_product_1 : List UInt8 := [180, 0, 25, 16, 47, 160, 0, 24, 42, 180, 0, 25, 61, 42, 182, 0, 74, 43, 28, 42, 182, 0, 185]
abbrev dktX4_product_1 : List UInt8 := dkwX4_product_1 ++ dktX4_product_2
def dkwX4_product_0 : List UInt8 := [187, 0, 171, 89, 42, 182, 0, 185, 183, 0, 176, 76, 42, 180, 0, 25, 16, 42, 159, 0, 12, 42]
abbrev dktX4_product_0 : List UInt8 := dkwX4_product_0 ++ dktX4_product_1
theorem dksX4_product_0 : cX4_product.data.toList.drop 0 = dktX4_product_0 := by decide +kernel
theorem dksX4_product_1 : cX4_product.data.toList.drop 22 = dktX4_product_1 := dk_seg dksX4_product_0 22 rfl rfl
theorem dksX4_product_2 : cX4_product.data.toList.drop 45 = dktX4_product_2 := dk_seg dksX4_product_1 23 rfl rfl
theorem dX4_product_0 : decode cX4_product 0 = .ok (.new 171, 3) := dk_187 0 171 (dk_at dksX4_product_0 0 rfl rfl)
theorem dX4_product_3 : decode cX4_product 3 = .ok (.dup, 1) := dk_89 (dk_at dksX4_product_0 3 rfl rfl)
theorem dX4_product_4 : decode cX4_product 4 = .ok (.aload_n 0, 1) := dk_42 (dk_at dksX4_product_0 4 rfl rfl)
theorem dX4_product_5 : decode cX4_product 5 = .ok (.invokevirtual 185, 3) := dk_182 0 185 (dk_at dksX4_product_0 5 rfl rfl)
theorem dX4_product_8 : decode cX4_product 8 = .ok (.invokespecial 176, 3) := dk_183 0 176 (dk_at dksX4_product_0 8 rfl rfl)
theorem dX4_product_11 : decode cX4_product 11 = .ok (.astore_n 1, 1) := dk_76 (dk_at dksX4_product_0 11 rfl rfl)
theorem dX4_product_12 : decode cX4_product 12 = .ok (.aload_n 0, 1) := dk_42 (dk_at dksX4_product_0 12 rfl rfl)
theorem dX4_product_13 : decode cX4_product 13 = .ok (.getfield 25, 3) := dk_180 0 25 (dk_at dksX4_product_0 13 rfl rfl)
theorem dX4_product_16 : decode cX4_product 16 = .ok (.bipush 42, 2) := dk_16 42 (dk_at dksX4_product_0 16 rfl rfl)
theorem dX4_product_18 : decode cX4_product 18 = .ok (.if_icmp .eq 12, 3) := dk_159 0 12 (dk_at dksX4_product_0 18 rfl rfl)
theorem dX4_product_21 : decode cX4_product 21 = .ok (.aload_n 0, 1) := dk_42 (dk_at dksX4_product_0 21 rfl rfl)
theorem dX4_product_22 : decode cX4_product 22 = .ok (.getfield 25, 3) := dk_180 0 25 (dk_at dksX4_product_1 0 rfl rfl)
theorem dX4_product_25 : decode cX4_product 25 = .ok (.bipush 47, 2) := dk_16 47 (dk_at dksX4_product_1 3 rfl rfl)
theorem dX4_product_27 : decode cX4_product 27 = .ok (.if_icmp .ne 24, 3) := dk_160 0 24 (dk_at dksX4_product_1 5 rfl rfl)
theorem dX4_product_30 : decode cX4_product 30 = .ok (.aload_n 0, 1) := dk_42 (dk_at dksX4_product_1 8 rfl rfl)
theorem dX4_product_31 : decode cX4_product 31 = .ok (.getfield 25, 3) := dk_180 0 25 (dk_at dksX4_product_1 9 rfl rfl)
theorem dX4_product_34 : decode cX4_product 34 = .ok (.istore_n 2, 1) := dk_61 (dk_at dksX4_product_1 12 rfl rfl)
theorem dX4_product_35 : decode cX4_product 35 = .ok (.aload_n 0, 1) := dk_42 (dk_at dksX4_product_1 13 rfl rfl)
theorem dX4_product_36 : decode cX4_product 36 = .ok (.invokevirtual 74, 3) := dk_182 0 74 (dk_at dksX4_product_1 14 rfl rfl)
theorem dX4_product_39 : decode cX4_product 39 = .ok (.aload_n 1, 1) := dk_43 (dk_at dksX4_product_1 17 rfl rfl)
theorem dX4_product_40 : decode cX4_product 40 = .ok (.iload_n 2, 1) := dk_28 (dk_at dksX4_product_1 18 rfl rfl)
theorem dX4_product_41 : decode cX4_product 41 = .ok (.aload_n 0, 1) := dk_42 (dk_at dksX4_product_1 19 rfl rfl)
theorem dX4_product_42 : decode cX4_product 42 = .ok (.invokevirtual 185, 3) := dk_182 0 185 (dk_at dksX4_product_1 20 rfl rfl)
theorem dX4_product_45 : decode cX4_product 45 = .ok (.invokevirtual 179, 3) := dk_182 0 179 (dk_at dksX4_product_2 0 rfl rfl)
theorem dX4_product_48 : decode cX4_product 48 = .ok (.goto (-36), 3) := dk_167 255 220 (dk_at dksX4_product_2 3 rfl rfl)
theorem dX4_product_51 : decode cX4_product 51 = .ok (.aload_n 1, 1) := dk_43 (dk_at dksX4_product_2 6 rfl rfl)
theorem dX4_product_52 : decode cX4_product 52 = .ok (.invokevirtual 182, 3) := dk_182 0 182 (dk_at dksX4_product_2 7 rfl rfl)
theorem dX4_product_55 : decode cX4_product 55 = .ok (.areturn, 1) := dk_176 (dk_at dksX4_product_2 10 rfl rfl)
abbrev cX4_one : ByteArray := prog_14_method_17_code
def yX4_one : MethodName := ⟨RX4, "one", "()LThroughPack$Sum;"⟩
def dkwX4_one_7 : List UInt8 := [181, 0, 77, 43, 176]
abbrev dktX4_one_7 : List UInt8 := dkwX4_one_7 ++ []
def dkwX4_one_6 : List UInt8 := [182, 0, 185, 183, 0, 197, 76, 167, 0, 9, 42, 4, 182, 0, 70, 191, 42, 89, 180, 0, 77, 4, 100]
abbrev dktX4_one_6 : List UInt8 := dkwX4_one_6 ++ dktX4_one_7
def dkwX4_one_5 : List UInt8 := [182, 0, 100, 167, 0, 37, 42, 180, 0, 25, 16, 45, 160, 0, 22, 42, 182, 0, 158, 187, 0, 195, 89, 42]
abbrev dktX4_one_5 : List UInt8 := dkwX4_one_5 ++ dktX4_one_6
def dkwX4_one_4 : List UInt8 := [43, 176, 42, 180, 0, 25, 16, 40, 160, 0, 21, 42, 182, 0, 158, 42, 182, 0, 124, 76, 42, 16, 41]
abbrev dktX4_one_4 : List UInt8 := dkwX4_one_4 ++ dktX4_one_5
def dkwX4_one_3 : List UInt8 := [182, 0, 70, 191, 187, 0, 192, 89, 42, 180, 0, 25, 17, 0, 210, 100, 183, 0, 194, 76, 42, 182, 0, 74]
abbrev dktX4_one_3 : List UInt8 := dkwX4_one_3 ++ dktX4_one_4
def dkwX4_one_2 : List UInt8 := [42, 180, 0, 25, 17, 0, 219, 161, 0, 19, 42, 180, 0, 83, 17, 0, 203, 159, 0, 9, 42, 8]
abbrev dktX4_one_2 : List UInt8 := dkwX4_one_2 ++ dktX4_one_3
def dkwX4_one_1 : List UInt8 := [183, 0, 190, 176, 42, 180, 0, 25, 17, 0, 210, 161, 0, 61, 42, 180, 0, 25, 17, 0, 220, 163, 0, 51]
abbrev dktX4_one_1 : List UInt8 := dkwX4_one_1 ++ dktX4_one_2
def dkwX4_one_0 : List UInt8 := [42, 180, 0, 25, 17, 1, 44, 160, 0, 19, 187, 0, 188, 89, 42, 3, 17, 3, 231, 182, 0, 128]
abbrev dktX4_one_0 : List UInt8 := dkwX4_one_0 ++ dktX4_one_1
theorem dksX4_one_0 : cX4_one.data.toList.drop 0 = dktX4_one_0 := by decide +kernel
theorem dksX4_one_1 : cX4_one.data.toList.drop 22 = dktX4_one_1 := dk_seg dksX4_one_0 22 rfl rfl
theorem dksX4_one_2 : cX4_one.data.toList.drop 46 = dktX4_one_2 := dk_seg dksX4_one_1 24 rfl rfl
theorem dksX4_one_3 : cX4_one.data.toList.drop 68 = dktX4_one_3 := dk_seg dksX4_one_2 22 rfl rfl
theorem dksX4_one_4 : cX4_one.data.toList.drop 92 = dktX4_one_4 := dk_seg dksX4_one_3 24 rfl rfl
theorem dksX4_one_5 : cX4_one.data.toList.drop 115 = dktX4_one_5 := dk_seg dksX4_one_4 23 rfl rfl
theorem dksX4_one_6 : cX4_one.data.toList.drop 139 = dktX4_one_6 := dk_seg dksX4_one_5 24 rfl rfl
theorem dksX4_one_7 : cX4_one.data.toList.drop 162 = dktX4_one_7 := dk_seg dksX4_one_6 23 rfl rfl
theorem dX4_one_0 : decode cX4_one 0 = .ok (.aload_n 0, 1) := dk_42 (dk_at dksX4_one_0 0 rfl rfl)
theorem dX4_one_1 : decode cX4_one 1 = .ok (.getfield 25, 3) := dk_180 0 25 (dk_at dksX4_one_0 1 rfl rfl)
theorem dX4_one_4 : decode cX4_one 4 = .ok (.sipush 300, 3) := dk_17 1 44 (dk_at dksX4_one_0 4 rfl rfl)
theorem dX4_one_7 : decode cX4_one 7 = .ok (.if_icmp .ne 19, 3) := dk_160 0 19 (dk_at dksX4_one_0 7 rfl rfl)
theorem dX4_one_10 : decode cX4_one 10 = .ok (.new 188, 3) := dk_187 0 188 (dk_at dksX4_one_0 10 rfl rfl)
theorem dX4_one_13 : decode cX4_one 13 = .ok (.dup, 1) := dk_89 (dk_at dksX4_one_0 13 rfl rfl)
theorem dX4_one_14 : decode cX4_one 14 = .ok (.aload_n 0, 1) := dk_42 (dk_at dksX4_one_0 14 rfl rfl)
theorem dX4_one_15 : decode cX4_one 15 = .ok (.iconst 0, 1) := dk_3 (dk_at dksX4_one_0 15 rfl rfl)
theorem dX4_one_16 : decode cX4_one 16 = .ok (.sipush 999, 3) := dk_17 3 231 (dk_at dksX4_one_0 16 rfl rfl)
theorem dX4_one_19 : decode cX4_one 19 = .ok (.invokevirtual 128, 3) := dk_182 0 128 (dk_at dksX4_one_0 19 rfl rfl)
theorem dX4_one_22 : decode cX4_one 22 = .ok (.invokespecial 190, 3) := dk_183 0 190 (dk_at dksX4_one_1 0 rfl rfl)
theorem dX4_one_25 : decode cX4_one 25 = .ok (.areturn, 1) := dk_176 (dk_at dksX4_one_1 3 rfl rfl)
theorem dX4_one_26 : decode cX4_one 26 = .ok (.aload_n 0, 1) := dk_42 (dk_at dksX4_one_1 4 rfl rfl)
theorem dX4_one_27 : decode cX4_one 27 = .ok (.getfield 25, 3) := dk_180 0 25 (dk_at dksX4_one_1 5 rfl rfl)
theorem dX4_one_30 : decode cX4_one 30 = .ok (.sipush 210, 3) := dk_17 0 210 (dk_at dksX4_one_1 8 rfl rfl)
theorem dX4_one_33 : decode cX4_one 33 = .ok (.if_icmp .lt 61, 3) := dk_161 0 61 (dk_at dksX4_one_1 11 rfl rfl)
theorem dX4_one_36 : decode cX4_one 36 = .ok (.aload_n 0, 1) := dk_42 (dk_at dksX4_one_1 14 rfl rfl)
theorem dX4_one_37 : decode cX4_one 37 = .ok (.getfield 25, 3) := dk_180 0 25 (dk_at dksX4_one_1 15 rfl rfl)
theorem dX4_one_40 : decode cX4_one 40 = .ok (.sipush 220, 3) := dk_17 0 220 (dk_at dksX4_one_1 18 rfl rfl)
theorem dX4_one_43 : decode cX4_one 43 = .ok (.if_icmp .gt 51, 3) := dk_163 0 51 (dk_at dksX4_one_1 21 rfl rfl)
theorem dX4_one_46 : decode cX4_one 46 = .ok (.aload_n 0, 1) := dk_42 (dk_at dksX4_one_2 0 rfl rfl)
theorem dX4_one_47 : decode cX4_one 47 = .ok (.getfield 25, 3) := dk_180 0 25 (dk_at dksX4_one_2 1 rfl rfl)
theorem dX4_one_50 : decode cX4_one 50 = .ok (.sipush 219, 3) := dk_17 0 219 (dk_at dksX4_one_2 4 rfl rfl)
theorem dX4_one_53 : decode cX4_one 53 = .ok (.if_icmp .lt 19, 3) := dk_161 0 19 (dk_at dksX4_one_2 7 rfl rfl)
theorem dX4_one_56 : decode cX4_one 56 = .ok (.aload_n 0, 1) := dk_42 (dk_at dksX4_one_2 10 rfl rfl)
theorem dX4_one_57 : decode cX4_one 57 = .ok (.getfield 83, 3) := dk_180 0 83 (dk_at dksX4_one_2 11 rfl rfl)
theorem dX4_one_60 : decode cX4_one 60 = .ok (.sipush 203, 3) := dk_17 0 203 (dk_at dksX4_one_2 14 rfl rfl)
theorem dX4_one_63 : decode cX4_one 63 = .ok (.if_icmp .eq 9, 3) := dk_159 0 9 (dk_at dksX4_one_2 17 rfl rfl)
theorem dX4_one_66 : decode cX4_one 66 = .ok (.aload_n 0, 1) := dk_42 (dk_at dksX4_one_2 20 rfl rfl)
theorem dX4_one_67 : decode cX4_one 67 = .ok (.iconst 5, 1) := dk_8 (dk_at dksX4_one_2 21 rfl rfl)
theorem dX4_one_68 : decode cX4_one 68 = .ok (.invokevirtual 70, 3) := dk_182 0 70 (dk_at dksX4_one_3 0 rfl rfl)
theorem dX4_one_71 : decode cX4_one 71 = .ok (.athrow, 1) := dk_191 (dk_at dksX4_one_3 3 rfl rfl)
theorem dX4_one_72 : decode cX4_one 72 = .ok (.new 192, 3) := dk_187 0 192 (dk_at dksX4_one_3 4 rfl rfl)
theorem dX4_one_75 : decode cX4_one 75 = .ok (.dup, 1) := dk_89 (dk_at dksX4_one_3 7 rfl rfl)
theorem dX4_one_76 : decode cX4_one 76 = .ok (.aload_n 0, 1) := dk_42 (dk_at dksX4_one_3 8 rfl rfl)
theorem dX4_one_77 : decode cX4_one 77 = .ok (.getfield 25, 3) := dk_180 0 25 (dk_at dksX4_one_3 9 rfl rfl)
theorem dX4_one_80 : decode cX4_one 80 = .ok (.sipush 210, 3) := dk_17 0 210 (dk_at dksX4_one_3 12 rfl rfl)
theorem dX4_one_83 : decode cX4_one 83 = .ok (.isub, 1) := dk_100 (dk_at dksX4_one_3 15 rfl rfl)
theorem dX4_one_84 : decode cX4_one 84 = .ok (.invokespecial 194, 3) := dk_183 0 194 (dk_at dksX4_one_3 16 rfl rfl)
theorem dX4_one_87 : decode cX4_one 87 = .ok (.astore_n 1, 1) := dk_76 (dk_at dksX4_one_3 19 rfl rfl)
theorem dX4_one_88 : decode cX4_one 88 = .ok (.aload_n 0, 1) := dk_42 (dk_at dksX4_one_3 20 rfl rfl)
theorem dX4_one_89 : decode cX4_one 89 = .ok (.invokevirtual 74, 3) := dk_182 0 74 (dk_at dksX4_one_3 21 rfl rfl)
theorem dX4_one_92 : decode cX4_one 92 = .ok (.aload_n 1, 1) := dk_43 (dk_at dksX4_one_4 0 rfl rfl)
theorem dX4_one_93 : decode cX4_one 93 = .ok (.areturn, 1) := dk_176 (dk_at dksX4_one_4 1 rfl rfl)
theorem dX4_one_94 : decode cX4_one 94 = .ok (.aload_n 0, 1) := dk_42 (dk_at dksX4_one_4 2 rfl rfl)
theorem dX4_one_95 : decode cX4_one 95 = .ok (.getfield 25, 3) := dk_180 0 25 (dk_at dksX4_one_4 3 rfl rfl)
theorem dX4_one_98 : decode cX4_one 98 = .ok (.bipush 40, 2) := dk_16 40 (dk_at dksX4_one_4 6 rfl rfl)
theorem dX4_one_100 : decode cX4_one 100 = .ok (.if_icmp .ne 21, 3) := dk_160 0 21 (dk_at dksX4_one_4 8 rfl rfl)
theorem dX4_one_103 : decode cX4_one 103 = .ok (.aload_n 0, 1) := dk_42 (dk_at dksX4_one_4 11 rfl rfl)
theorem dX4_one_104 : decode cX4_one 104 = .ok (.invokevirtual 158, 3) := dk_182 0 158 (dk_at dksX4_one_4 12 rfl rfl)
theorem dX4_one_107 : decode cX4_one 107 = .ok (.aload_n 0, 1) := dk_42 (dk_at dksX4_one_4 15 rfl rfl)
theorem dX4_one_108 : decode cX4_one 108 = .ok (.invokevirtual 124, 3) := dk_182 0 124 (dk_at dksX4_one_4 16 rfl rfl)
theorem dX4_one_111 : decode cX4_one 111 = .ok (.astore_n 1, 1) := dk_76 (dk_at dksX4_one_4 19 rfl rfl)
theorem dX4_one_112 : decode cX4_one 112 = .ok (.aload_n 0, 1) := dk_42 (dk_at dksX4_one_4 20 rfl rfl)
theorem dX4_one_113 : decode cX4_one 113 = .ok (.bipush 41, 2) := dk_16 41 (dk_at dksX4_one_4 21 rfl rfl)
theorem dX4_one_115 : decode cX4_one 115 = .ok (.invokevirtual 100, 3) := dk_182 0 100 (dk_at dksX4_one_5 0 rfl rfl)
theorem dX4_one_118 : decode cX4_one 118 = .ok (.goto 37, 3) := dk_167 0 37 (dk_at dksX4_one_5 3 rfl rfl)
theorem dX4_one_121 : decode cX4_one 121 = .ok (.aload_n 0, 1) := dk_42 (dk_at dksX4_one_5 6 rfl rfl)
theorem dX4_one_122 : decode cX4_one 122 = .ok (.getfield 25, 3) := dk_180 0 25 (dk_at dksX4_one_5 7 rfl rfl)
theorem dX4_one_125 : decode cX4_one 125 = .ok (.bipush 45, 2) := dk_16 45 (dk_at dksX4_one_5 10 rfl rfl)
theorem dX4_one_127 : decode cX4_one 127 = .ok (.if_icmp .ne 22, 3) := dk_160 0 22 (dk_at dksX4_one_5 12 rfl rfl)
theorem dX4_one_130 : decode cX4_one 130 = .ok (.aload_n 0, 1) := dk_42 (dk_at dksX4_one_5 15 rfl rfl)
theorem dX4_one_131 : decode cX4_one 131 = .ok (.invokevirtual 158, 3) := dk_182 0 158 (dk_at dksX4_one_5 16 rfl rfl)
theorem dX4_one_134 : decode cX4_one 134 = .ok (.new 195, 3) := dk_187 0 195 (dk_at dksX4_one_5 19 rfl rfl)
theorem dX4_one_137 : decode cX4_one 137 = .ok (.dup, 1) := dk_89 (dk_at dksX4_one_5 22 rfl rfl)
theorem dX4_one_138 : decode cX4_one 138 = .ok (.aload_n 0, 1) := dk_42 (dk_at dksX4_one_5 23 rfl rfl)
theorem dX4_one_139 : decode cX4_one 139 = .ok (.invokevirtual 185, 3) := dk_182 0 185 (dk_at dksX4_one_6 0 rfl rfl)
theorem dX4_one_142 : decode cX4_one 142 = .ok (.invokespecial 197, 3) := dk_183 0 197 (dk_at dksX4_one_6 3 rfl rfl)
theorem dX4_one_145 : decode cX4_one 145 = .ok (.astore_n 1, 1) := dk_76 (dk_at dksX4_one_6 6 rfl rfl)
theorem dX4_one_146 : decode cX4_one 146 = .ok (.goto 9, 3) := dk_167 0 9 (dk_at dksX4_one_6 7 rfl rfl)
theorem dX4_one_149 : decode cX4_one 149 = .ok (.aload_n 0, 1) := dk_42 (dk_at dksX4_one_6 10 rfl rfl)
theorem dX4_one_150 : decode cX4_one 150 = .ok (.iconst 1, 1) := dk_4 (dk_at dksX4_one_6 11 rfl rfl)
theorem dX4_one_151 : decode cX4_one 151 = .ok (.invokevirtual 70, 3) := dk_182 0 70 (dk_at dksX4_one_6 12 rfl rfl)
theorem dX4_one_154 : decode cX4_one 154 = .ok (.athrow, 1) := dk_191 (dk_at dksX4_one_6 15 rfl rfl)
theorem dX4_one_155 : decode cX4_one 155 = .ok (.aload_n 0, 1) := dk_42 (dk_at dksX4_one_6 16 rfl rfl)
theorem dX4_one_156 : decode cX4_one 156 = .ok (.dup, 1) := dk_89 (dk_at dksX4_one_6 17 rfl rfl)
theorem dX4_one_157 : decode cX4_one 157 = .ok (.getfield 77, 3) := dk_180 0 77 (dk_at dksX4_one_6 18 rfl rfl)
theorem dX4_one_160 : decode cX4_one 160 = .ok (.iconst 1, 1) := dk_4 (dk_at dksX4_one_6 21 rfl rfl)
theorem dX4_one_161 : decode cX4_one 161 = .ok (.isub, 1) := dk_100 (dk_at dksX4_one_6 22 rfl rfl)
theorem dX4_one_162 : decode cX4_one 162 = .ok (.putfield 77, 3) := dk_181 0 77 (dk_at dksX4_one_7 0 rfl rfl)
theorem dX4_one_165 : decode cX4_one 165 = .ok (.aload_n 1, 1) := dk_43 (dk_at dksX4_one_7 3 rfl rfl)
theorem dX4_one_166 : decode cX4_one 166 = .ok (.areturn, 1) := dk_176 (dk_at dksX4_one_7 4 rfl rfl)
abbrev cX4_number : ByteArray := prog_14_method_8_code
def yX4_number : MethodName := ⟨RX4, "number", "(II)I"⟩
def dkwX4_number_2 : List UInt8 := [172]
abbrev dktX4_number_2 : List UInt8 := dkwX4_number_2 ++ []
def dkwX4_number_1 : List UInt8 := [42, 180, 0, 43, 28, 164, 0, 9, 42, 5, 182, 0, 70, 191, 42, 180, 0, 43, 62, 42, 182, 0, 74, 29]
abbrev dktX4_number_1 : List UInt8 := dkwX4_number_1 ++ dktX4_number_2
def dkwX4_number_0 : List UInt8 := [42, 180, 0, 25, 17, 1, 44, 159, 0, 9, 42, 4, 182, 0, 70, 191, 42, 180, 0, 43, 27, 161, 0, 11]
abbrev dktX4_number_0 : List UInt8 := dkwX4_number_0 ++ dktX4_number_1
theorem dksX4_number_0 : cX4_number.data.toList.drop 0 = dktX4_number_0 := by decide +kernel
theorem dksX4_number_1 : cX4_number.data.toList.drop 24 = dktX4_number_1 := dk_seg dksX4_number_0 24 rfl rfl
theorem dksX4_number_2 : cX4_number.data.toList.drop 48 = dktX4_number_2 := dk_seg dksX4_number_1 24 rfl rfl
theorem dX4_number_0 : decode cX4_number 0 = .ok (.aload_n 0, 1) := dk_42 (dk_at dksX4_number_0 0 rfl rfl)
theorem dX4_number_1 : decode cX4_number 1 = .ok (.getfield 25, 3) := dk_180 0 25 (dk_at dksX4_number_0 1 rfl rfl)
theorem dX4_number_4 : decode cX4_number 4 = .ok (.sipush 300, 3) := dk_17 1 44 (dk_at dksX4_number_0 4 rfl rfl)
theorem dX4_number_7 : decode cX4_number 7 = .ok (.if_icmp .eq 9, 3) := dk_159 0 9 (dk_at dksX4_number_0 7 rfl rfl)
theorem dX4_number_10 : decode cX4_number 10 = .ok (.aload_n 0, 1) := dk_42 (dk_at dksX4_number_0 10 rfl rfl)
theorem dX4_number_11 : decode cX4_number 11 = .ok (.iconst 1, 1) := dk_4 (dk_at dksX4_number_0 11 rfl rfl)
theorem dX4_number_12 : decode cX4_number 12 = .ok (.invokevirtual 70, 3) := dk_182 0 70 (dk_at dksX4_number_0 12 rfl rfl)
theorem dX4_number_15 : decode cX4_number 15 = .ok (.athrow, 1) := dk_191 (dk_at dksX4_number_0 15 rfl rfl)
theorem dX4_number_16 : decode cX4_number 16 = .ok (.aload_n 0, 1) := dk_42 (dk_at dksX4_number_0 16 rfl rfl)
theorem dX4_number_17 : decode cX4_number 17 = .ok (.getfield 43, 3) := dk_180 0 43 (dk_at dksX4_number_0 17 rfl rfl)
theorem dX4_number_20 : decode cX4_number 20 = .ok (.iload_n 1, 1) := dk_27 (dk_at dksX4_number_0 20 rfl rfl)
theorem dX4_number_21 : decode cX4_number 21 = .ok (.if_icmp .lt 11, 3) := dk_161 0 11 (dk_at dksX4_number_0 21 rfl rfl)
theorem dX4_number_24 : decode cX4_number 24 = .ok (.aload_n 0, 1) := dk_42 (dk_at dksX4_number_1 0 rfl rfl)
theorem dX4_number_25 : decode cX4_number 25 = .ok (.getfield 43, 3) := dk_180 0 43 (dk_at dksX4_number_1 1 rfl rfl)
theorem dX4_number_28 : decode cX4_number 28 = .ok (.iload_n 2, 1) := dk_28 (dk_at dksX4_number_1 4 rfl rfl)
theorem dX4_number_29 : decode cX4_number 29 = .ok (.if_icmp .le 9, 3) := dk_164 0 9 (dk_at dksX4_number_1 5 rfl rfl)
theorem dX4_number_32 : decode cX4_number 32 = .ok (.aload_n 0, 1) := dk_42 (dk_at dksX4_number_1 8 rfl rfl)
theorem dX4_number_33 : decode cX4_number 33 = .ok (.iconst 2, 1) := dk_5 (dk_at dksX4_number_1 9 rfl rfl)
theorem dX4_number_34 : decode cX4_number 34 = .ok (.invokevirtual 70, 3) := dk_182 0 70 (dk_at dksX4_number_1 10 rfl rfl)
theorem dX4_number_37 : decode cX4_number 37 = .ok (.athrow, 1) := dk_191 (dk_at dksX4_number_1 13 rfl rfl)
theorem dX4_number_38 : decode cX4_number 38 = .ok (.aload_n 0, 1) := dk_42 (dk_at dksX4_number_1 14 rfl rfl)
theorem dX4_number_39 : decode cX4_number 39 = .ok (.getfield 43, 3) := dk_180 0 43 (dk_at dksX4_number_1 15 rfl rfl)
theorem dX4_number_42 : decode cX4_number 42 = .ok (.istore_n 3, 1) := dk_62 (dk_at dksX4_number_1 18 rfl rfl)
theorem dX4_number_43 : decode cX4_number 43 = .ok (.aload_n 0, 1) := dk_42 (dk_at dksX4_number_1 19 rfl rfl)
theorem dX4_number_44 : decode cX4_number 44 = .ok (.invokevirtual 74, 3) := dk_182 0 74 (dk_at dksX4_number_1 20 rfl rfl)
theorem dX4_number_47 : decode cX4_number 47 = .ok (.iload_n 3, 1) := dk_29 (dk_at dksX4_number_1 23 rfl rfl)
theorem dX4_number_48 : decode cX4_number 48 = .ok (.ireturn, 1) := dk_172 (dk_at dksX4_number_2 0 rfl rfl)
abbrev cX4_want : ByteArray := prog_14_method_7_code
def yX4_want : MethodName := ⟨RX4, "want", "(I)V"⟩
def dkwX4_want_0 : List UInt8 := [42, 180, 0, 25, 27, 159, 0, 9, 42, 4, 182, 0, 70, 191, 42, 182, 0, 74, 177]
abbrev dktX4_want_0 : List UInt8 := dkwX4_want_0 ++ []
theorem dksX4_want_0 : cX4_want.data.toList.drop 0 = dktX4_want_0 := by decide +kernel
theorem dX4_want_0 : decode cX4_want 0 = .ok (.aload_n 0, 1) := dk_42 (dk_at dksX4_want_0 0 rfl rfl)
theorem dX4_want_1 : decode cX4_want 1 = .ok (.getfield 25, 3) := dk_180 0 25 (dk_at dksX4_want_0 1 rfl rfl)
theorem dX4_want_4 : decode cX4_want 4 = .ok (.iload_n 1, 1) := dk_27 (dk_at dksX4_want_0 4 rfl rfl)
theorem dX4_want_5 : decode cX4_want 5 = .ok (.if_icmp .eq 9, 3) := dk_159 0 9 (dk_at dksX4_want_0 5 rfl rfl)
theorem dX4_want_8 : decode cX4_want 8 = .ok (.aload_n 0, 1) := dk_42 (dk_at dksX4_want_0 8 rfl rfl)
theorem dX4_want_9 : decode cX4_want 9 = .ok (.iconst 1, 1) := dk_4 (dk_at dksX4_want_0 9 rfl rfl)
theorem dX4_want_10 : decode cX4_want 10 = .ok (.invokevirtual 70, 3) := dk_182 0 70 (dk_at dksX4_want_0 10 rfl rfl)
theorem dX4_want_13 : decode cX4_want 13 = .ok (.athrow, 1) := dk_191 (dk_at dksX4_want_0 13 rfl rfl)
theorem dX4_want_14 : decode cX4_want 14 = .ok (.aload_n 0, 1) := dk_42 (dk_at dksX4_want_0 14 rfl rfl)
theorem dX4_want_15 : decode cX4_want 15 = .ok (.invokevirtual 74, 3) := dk_182 0 74 (dk_at dksX4_want_0 15 rfl rfl)
theorem dX4_want_18 : decode cX4_want 18 = .ok (.return_, 1) := dk_177 (dk_at dksX4_want_0 18 rfl rfl)
theorem q131 : (Jvm.Cond.initialized "ThroughPack$Tokens") ∈ lw_all := lw_g (lw_at lw_m1 7 rfl) rfl
theorem q392 : (Jvm.Cond.instantiable "ThroughPack$Tokens" (8 : Nat)) ∈ lw_all := lw_g (lw_at lw_m2 28 rfl) rfl
theorem q394 : (Jvm.Cond.instanceMethod ({ cls := "ThroughPack$Tokens", name := "<init>", desc := "([BI)V" } : Jvm.MethodName)) ∈ lw_all := lw_g (lw_at lw_m2 30 rfl) rfl
theorem q395 : (Jvm.Cond.code ({ cls := "ThroughPack$Tokens", name := "<init>", desc := "([BI)V" } : Jvm.MethodName) prog_14_method_1_code (3 : Nat) (Option.none : Option Jvm.ClassFile.FieldType)) ∈ lw_all := lw_g (lw_at lw_m2 31 rfl) rfl
theorem q396 : (Jvm.Cond.methodLink "ThroughPack$Tokens" (3 : Nat) ({ cls := "java/lang/Object", name := "<init>", desc := "()V" } : Jvm.MethodName)) ∈ lw_all := lw_g (lw_at lw_m2 32 rfl) rfl
theorem q397 : (Jvm.Cond.fieldLink "ThroughPack$Tokens" (9 : Nat) "ThroughPack$Tokens" "text" "[B") ∈ lw_all := lw_g (lw_at lw_m2 33 rfl) rfl
theorem q398 : (Jvm.Cond.fieldLink "ThroughPack$Tokens" (15 : Nat) "ThroughPack$Tokens" "size" "I") ∈ lw_all := lw_g (lw_at lw_m2 34 rfl) rfl
theorem q399 : (Jvm.Cond.fieldLink "ThroughPack$Tokens" (19 : Nat) "ThroughPack$Tokens" "at" "I") ∈ lw_all := lw_g (lw_at lw_m2 35 rfl) rfl
theorem q400 : (Jvm.Cond.fieldLink "ThroughPack$Tokens" (22 : Nat) "ThroughPack$Tokens" "token" "I") ∈ lw_all := lw_g (lw_at lw_m2 36 rfl) rfl
theorem q401 : (Jvm.Cond.fieldLink "ThroughPack$Tokens" (25 : Nat) "ThroughPack$Tokens" "sort" "I") ∈ lw_all := lw_g (lw_at lw_m2 37 rfl) rfl
theorem q402 : (Jvm.Cond.fieldLink "ThroughPack$Tokens" (43 : Nat) "ThroughPack$Tokens" "number" "I") ∈ lw_all := lw_g (lw_at lw_m2 38 rfl) rfl
theorem q403 : (Jvm.Cond.fieldLink "ThroughPack$Tokens" (77 : Nat) "ThroughPack$Tokens" "open" "I") ∈ lw_all := lw_g (lw_at lw_m2 39 rfl) rfl
theorem q404 : (Jvm.Cond.fieldLink "ThroughPack$Tokens" (83 : Nat) "ThroughPack$Tokens" "kind" "I") ∈ lw_all := lw_g (lw_at lw_m2 40 rfl) rfl
theorem q405 : (Jvm.Cond.laysFinal "ThroughPack$Tokens" "ThroughPack$Tokens" "text" "[B") ∈ lw_all := lw_g (lw_at lw_m2 41 rfl) rfl
theorem q406 : (Jvm.Cond.soleField "ThroughPack$Tokens" "text") ∈ lw_all := lw_g (lw_at lw_m2 42 rfl) rfl
theorem q407 : (Jvm.Cond.laysFinal "ThroughPack$Tokens" "ThroughPack$Tokens" "size" "I") ∈ lw_all := lw_g (lw_at lw_m2 43 rfl) rfl
theorem q408 : (Jvm.Cond.soleField "ThroughPack$Tokens" "size") ∈ lw_all := lw_g (lw_at lw_m2 44 rfl) rfl
theorem q409 : (Jvm.Cond.lays "ThroughPack$Tokens" "ThroughPack$Tokens" "at" "I") ∈ lw_all := lw_g (lw_at lw_m2 45 rfl) rfl
theorem q410 : (Jvm.Cond.soleField "ThroughPack$Tokens" "at") ∈ lw_all := lw_g (lw_at lw_m2 46 rfl) rfl
theorem q411 : (Jvm.Cond.lays "ThroughPack$Tokens" "ThroughPack$Tokens" "token" "I") ∈ lw_all := lw_g (lw_at lw_m2 47 rfl) rfl
theorem q412 : (Jvm.Cond.soleField "ThroughPack$Tokens" "token") ∈ lw_all := lw_g (lw_at lw_m2 48 rfl) rfl
theorem q413 : (Jvm.Cond.lays "ThroughPack$Tokens" "ThroughPack$Tokens" "sort" "I") ∈ lw_all := lw_g (lw_at lw_m2 49 rfl) rfl
theorem q414 : (Jvm.Cond.soleField "ThroughPack$Tokens" "sort") ∈ lw_all := lw_g (lw_at lw_m2 50 rfl) rfl
theorem q415 : (Jvm.Cond.lays "ThroughPack$Tokens" "ThroughPack$Tokens" "number" "I") ∈ lw_all := lw_g (lw_at lw_m2 51 rfl) rfl
theorem q416 : (Jvm.Cond.soleField "ThroughPack$Tokens" "number") ∈ lw_all := lw_g (lw_at lw_m2 52 rfl) rfl
theorem q417 : (Jvm.Cond.lays "ThroughPack$Tokens" "ThroughPack$Tokens" "open" "I") ∈ lw_all := lw_g (lw_at lw_m2 53 rfl) rfl
theorem q418 : (Jvm.Cond.soleField "ThroughPack$Tokens" "open") ∈ lw_all := lw_g (lw_at lw_m2 54 rfl) rfl
theorem q419 : (Jvm.Cond.lays "ThroughPack$Tokens" "ThroughPack$Tokens" "kind" "I") ∈ lw_all := lw_g (lw_at lw_m2 55 rfl) rfl
theorem q420 : (Jvm.Cond.soleField "ThroughPack$Tokens" "kind") ∈ lw_all := lw_g (lw_at lw_m2 56 rfl) rfl
theorem q421 : (Jvm.Cond.superclass "ThroughPack$Tokens" "java/lang/Object") ∈ lw_all := lw_g (lw_at lw_m2 57 rfl) rfl
theorem q423 : (Jvm.Cond.instanceMethod ({ cls := "ThroughPack$Tokens", name := "read", desc := "()LThroughPack$Text;" } : Jvm.MethodName)) ∈ lw_all := lw_g (lw_at lw_m2 59 rfl) rfl
theorem q424 : (Jvm.Cond.selects "ThroughPack$Tokens" ({ cls := "ThroughPack$Tokens", name := "read", desc := "()LThroughPack$Text;" } : Jvm.MethodName) ({ cls := "ThroughPack$Tokens", name := "read", desc := "()LThroughPack$Text;" } : Jvm.MethodName)) ∈ lw_all := lw_g (lw_at lw_m2 60 rfl) rfl
theorem q425 : (Jvm.Cond.code ({ cls := "ThroughPack$Tokens", name := "read", desc := "()LThroughPack$Text;" } : Jvm.MethodName) prog_14_method_10_code (2 : Nat) (Option.some (Jvm.ClassFile.FieldType.object "ThroughPack$Text"))) ∈ lw_all := lw_g (lw_at lw_m2 61 rfl) rfl
theorem q426 : (Jvm.Cond.classLink "ThroughPack$Tokens" (80 : Nat) "ThroughPack$Text") ∈ lw_all := lw_g (lw_at lw_m2 62 rfl) rfl
theorem q428 : (Jvm.Cond.methodLinkNest "ThroughPack$Tokens" (82 : Nat) ({ cls := "ThroughPack$Text", name := "<init>", desc := "()V" } : Jvm.MethodName) "ThroughPack") ∈ lw_tbl := lw_at lw_m2 64 rfl
theorem q459 : (Jvm.Cond.fieldLinkNest "ThroughPack$Tokens" (104 : Nat) "ThroughPack$Text" "may" "Ljava/util/ArrayList;" "ThroughPack") ∈ lw_tbl := lw_at lw_m2 95 rfl
theorem q462 : (Jvm.Cond.fieldLinkNest "ThroughPack$Tokens" (118 : Nat) "ThroughPack$Text" "nips" "Ljava/util/ArrayList;" "ThroughPack") ∈ lw_tbl := lw_at lw_m2 98 rfl
theorem q465 : (Jvm.Cond.fieldLinkNest "ThroughPack$Tokens" (121 : Nat) "ThroughPack$Text" "walk" "Ljava/util/ArrayList;" "ThroughPack") ∈ lw_tbl := lw_at lw_m2 101 rfl
theorem q468 : (Jvm.Cond.fieldLinkNest "ThroughPack$Tokens" (130 : Nat) "ThroughPack$Text" "go" "Ljava/util/ArrayList;" "ThroughPack") ∈ lw_tbl := lw_at lw_m2 104 rfl
theorem q470 : (Jvm.Cond.fieldLinkNest "ThroughPack$Tokens" (86 : Nat) "ThroughPack$Text" "cost" "LThroughPack$Sum;" "ThroughPack") ∈ lw_tbl := lw_at lw_m2 106 rfl
theorem q472 : (Jvm.Cond.fieldLinkNest "ThroughPack$Tokens" (90 : Nat) "ThroughPack$Text" "ice" "LThroughPack$Sum;" "ThroughPack") ∈ lw_tbl := lw_at lw_m2 108 rfl
theorem q474 : (Jvm.Cond.fieldLinkNest "ThroughPack$Tokens" (93 : Nat) "ThroughPack$Text" "clauses" "I" "ThroughPack") ∈ lw_tbl := lw_at lw_m2 110 rfl
theorem q490 : (Jvm.Cond.methodLink "ThroughPack$Tokens" (74 : Nat) ({ cls := "ThroughPack$Tokens", name := "next", desc := "()V" } : Jvm.MethodName)) ∈ lw_all := lw_g (lw_at lw_m2 126 rfl) rfl
theorem q491 : (Jvm.Cond.privateMethod ({ cls := "ThroughPack$Tokens", name := "next", desc := "()V" } : Jvm.MethodName)) ∈ lw_tbl := lw_at lw_m2 127 rfl
theorem q492 : (Jvm.Cond.instanceMethod ({ cls := "ThroughPack$Tokens", name := "next", desc := "()V" } : Jvm.MethodName)) ∈ lw_all := lw_g (lw_at lw_m2 128 rfl) rfl
theorem q493 : (Jvm.Cond.code ({ cls := "ThroughPack$Tokens", name := "next", desc := "()V" } : Jvm.MethodName) prog_14_method_4_code (3 : Nat) (Option.none : Option Jvm.ClassFile.FieldType)) ∈ lw_all := lw_g (lw_at lw_m2 129 rfl) rfl
theorem q494 : (Jvm.Cond.methodLink "ThroughPack$Tokens" (28 : Nat) ({ cls := "ThroughPack$Tokens", name := "isLetter", desc := "(I)Z" } : Jvm.MethodName)) ∈ lw_all := lw_g (lw_at lw_m2 130 rfl) rfl
theorem q495 : (Jvm.Cond.static ({ cls := "ThroughPack$Tokens", name := "isLetter", desc := "(I)Z" } : Jvm.MethodName)) ∈ lw_all := lw_g (lw_at lw_m2 131 rfl) rfl
theorem q496 : (Jvm.Cond.code ({ cls := "ThroughPack$Tokens", name := "isLetter", desc := "(I)Z" } : Jvm.MethodName) prog_14_method_2_code (1 : Nat) (Option.some Jvm.ClassFile.FieldType.boolean)) ∈ lw_all := lw_g (lw_at lw_m2 132 rfl) rfl
theorem q497 : (Jvm.Cond.fieldLink "ThroughPack$Tokens" (32 : Nat) "ThroughPack$Tokens" "WORDS" "[Ljava/lang/String;") ∈ lw_all := lw_g (lw_at lw_m2 133 rfl) rfl
theorem q498 : (Jvm.Cond.laysStatic "ThroughPack$Tokens" "WORDS" "[Ljava/lang/String;") ∈ lw_tbl := lw_at lw_m2 134 rfl
theorem q499 : (Jvm.Cond.methodLink "ThroughPack$Tokens" (36 : Nat) ({ cls := "ThroughPack$Tokens", name := "isWord", desc := "(Ljava/lang/String;)Z" } : Jvm.MethodName)) ∈ lw_all := lw_g (lw_at lw_m2 135 rfl) rfl
theorem q500 : (Jvm.Cond.privateMethod ({ cls := "ThroughPack$Tokens", name := "isWord", desc := "(Ljava/lang/String;)Z" } : Jvm.MethodName)) ∈ lw_tbl := lw_at lw_m2 136 rfl
theorem q501 : (Jvm.Cond.instanceMethod ({ cls := "ThroughPack$Tokens", name := "isWord", desc := "(Ljava/lang/String;)Z" } : Jvm.MethodName)) ∈ lw_all := lw_g (lw_at lw_m2 137 rfl) rfl
theorem q502 : (Jvm.Cond.code ({ cls := "ThroughPack$Tokens", name := "isWord", desc := "(Ljava/lang/String;)Z" } : Jvm.MethodName) prog_14_method_5_code (3 : Nat) (Option.some Jvm.ClassFile.FieldType.boolean)) ∈ lw_all := lw_g (lw_at lw_m2 138 rfl) rfl
theorem q503 : (Jvm.Cond.methodLink "ThroughPack$Tokens" (55 : Nat) ({ cls := "java/lang/String", name := "length", desc := "()I" } : Jvm.MethodName)) ∈ lw_all := lw_g (lw_at lw_m2 139 rfl) rfl
theorem q513 : (Jvm.Cond.methodLink "ThroughPack$Tokens" (61 : Nat) ({ cls := "java/lang/String", name := "charAt", desc := "(I)C" } : Jvm.MethodName)) ∈ lw_all := lw_g (lw_at lw_m2 149 rfl) rfl
theorem q551 : (Jvm.Cond.methodLink "ThroughPack$Tokens" (40 : Nat) ({ cls := "ThroughPack$Tokens", name := "isDigit", desc := "(I)Z" } : Jvm.MethodName)) ∈ lw_all := lw_g (lw_at lw_m2 187 rfl) rfl
theorem q552 : (Jvm.Cond.static ({ cls := "ThroughPack$Tokens", name := "isDigit", desc := "(I)Z" } : Jvm.MethodName)) ∈ lw_all := lw_g (lw_at lw_m2 188 rfl) rfl
theorem q553 : (Jvm.Cond.code ({ cls := "ThroughPack$Tokens", name := "isDigit", desc := "(I)Z" } : Jvm.MethodName) prog_14_method_3_code (1 : Nat) (Option.some Jvm.ClassFile.FieldType.boolean)) ∈ lw_all := lw_g (lw_at lw_m2 189 rfl) rfl
theorem q554 : (Jvm.Cond.constant "ThroughPack$Tokens" (46 : Nat) (99999 : Int32)) ∈ lw_all := lw_g (lw_at lw_m2 190 rfl) rfl
theorem q555 : (Jvm.Cond.methodLink "ThroughPack$Tokens" (47 : Nat) ({ cls := "java/lang/Math", name := "min", desc := "(II)I" } : Jvm.MethodName)) ∈ lw_all := lw_g (lw_at lw_m2 191 rfl) rfl
theorem q556 : (Jvm.Cond.stringRef "ThroughPack$Tokens" (53 : Nat) "<>=#+-*/();") ∈ lw_tbl := lw_at lw_m2 192 rfl
theorem q557 : (Jvm.Cond.methodLink "ThroughPack$Tokens" (70 : Nat) ({ cls := "ThroughPack$Tokens", name := "wrong", desc := "(I)LThroughPack$Wrong;" } : Jvm.MethodName)) ∈ lw_all := lw_g (lw_at lw_m2 193 rfl) rfl
theorem q558 : (Jvm.Cond.privateMethod ({ cls := "ThroughPack$Tokens", name := "wrong", desc := "(I)LThroughPack$Wrong;" } : Jvm.MethodName)) ∈ lw_tbl := lw_at lw_m2 194 rfl
theorem q559 : (Jvm.Cond.instanceMethod ({ cls := "ThroughPack$Tokens", name := "wrong", desc := "(I)LThroughPack$Wrong;" } : Jvm.MethodName)) ∈ lw_all := lw_g (lw_at lw_m2 195 rfl) rfl
theorem q560 : (Jvm.Cond.code ({ cls := "ThroughPack$Tokens", name := "wrong", desc := "(I)LThroughPack$Wrong;" } : Jvm.MethodName) prog_14_method_6_code (2 : Nat) (Option.some (Jvm.ClassFile.FieldType.object "ThroughPack$Wrong"))) ∈ lw_all := lw_g (lw_at lw_m2 196 rfl) rfl
theorem q561 : (Jvm.Cond.classLink "ThroughPack$Tokens" (65 : Nat) "ThroughPack$Wrong") ∈ lw_all := lw_g (lw_at lw_m2 197 rfl) rfl
theorem q598 : (Jvm.Cond.methodLink "ThroughPack$Tokens" (67 : Nat) ({ cls := "ThroughPack$Wrong", name := "<init>", desc := "(II)V" } : Jvm.MethodName)) ∈ lw_all := lw_g (lw_at lw_m2 234 rfl) rfl
theorem q625 : (Jvm.Cond.methodLink "ThroughPack$Tokens" (96 : Nat) ({ cls := "ThroughPack$Tokens", name := "clause", desc := "(LThroughPack$Text;)V" } : Jvm.MethodName)) ∈ lw_all := lw_g (lw_at lw_m3 21 rfl) rfl
theorem q626 : (Jvm.Cond.privateMethod ({ cls := "ThroughPack$Tokens", name := "clause", desc := "(LThroughPack$Text;)V" } : Jvm.MethodName)) ∈ lw_tbl := lw_at lw_m3 22 rfl
theorem q627 : (Jvm.Cond.instanceMethod ({ cls := "ThroughPack$Tokens", name := "clause", desc := "(LThroughPack$Text;)V" } : Jvm.MethodName)) ∈ lw_all := lw_g (lw_at lw_m3 23 rfl) rfl
theorem q628 : (Jvm.Cond.code ({ cls := "ThroughPack$Tokens", name := "clause", desc := "(LThroughPack$Text;)V" } : Jvm.MethodName) prog_14_method_11_code (3 : Nat) (Option.none : Option Jvm.ClassFile.FieldType)) ∈ lw_all := lw_g (lw_at lw_m3 24 rfl) rfl
theorem q629 : (Jvm.Cond.methodLink "ThroughPack$Tokens" (108 : Nat) ({ cls := "ThroughPack$Tokens", name := "either", desc := "()LThroughPack$Asked;" } : Jvm.MethodName)) ∈ lw_all := lw_g (lw_at lw_m3 25 rfl) rfl
theorem q630 : (Jvm.Cond.privateMethod ({ cls := "ThroughPack$Tokens", name := "either", desc := "()LThroughPack$Asked;" } : Jvm.MethodName)) ∈ lw_tbl := lw_at lw_m3 26 rfl
theorem q631 : (Jvm.Cond.instanceMethod ({ cls := "ThroughPack$Tokens", name := "either", desc := "()LThroughPack$Asked;" } : Jvm.MethodName)) ∈ lw_all := lw_g (lw_at lw_m3 27 rfl) rfl
theorem q632 : (Jvm.Cond.code ({ cls := "ThroughPack$Tokens", name := "either", desc := "()LThroughPack$Asked;" } : Jvm.MethodName) prog_14_method_12_code (2 : Nat) (Option.some (Jvm.ClassFile.FieldType.object "ThroughPack$Asked"))) ∈ lw_all := lw_g (lw_at lw_m3 28 rfl) rfl
theorem q633 : (Jvm.Cond.classLink "ThroughPack$Tokens" (113 : Nat) "java/util/ArrayList") ∈ lw_all := lw_g (lw_at lw_m3 29 rfl) rfl
theorem q634 : (Jvm.Cond.methodLink "ThroughPack$Tokens" (138 : Nat) ({ cls := "java/util/ArrayList", name := "<init>", desc := "()V" } : Jvm.MethodName)) ∈ lw_all := lw_g (lw_at lw_m3 30 rfl) rfl
theorem q635 : (Jvm.Cond.methodLink "ThroughPack$Tokens" (139 : Nat) ({ cls := "ThroughPack$Tokens", name := "both", desc := "()LThroughPack$Asked;" } : Jvm.MethodName)) ∈ lw_all := lw_g (lw_at lw_m3 31 rfl) rfl
theorem q636 : (Jvm.Cond.privateMethod ({ cls := "ThroughPack$Tokens", name := "both", desc := "()LThroughPack$Asked;" } : Jvm.MethodName)) ∈ lw_tbl := lw_at lw_m3 32 rfl
theorem q637 : (Jvm.Cond.instanceMethod ({ cls := "ThroughPack$Tokens", name := "both", desc := "()LThroughPack$Asked;" } : Jvm.MethodName)) ∈ lw_all := lw_g (lw_at lw_m3 33 rfl) rfl
theorem q638 : (Jvm.Cond.code ({ cls := "ThroughPack$Tokens", name := "both", desc := "()LThroughPack$Asked;" } : Jvm.MethodName) prog_14_method_13_code (2 : Nat) (Option.some (Jvm.ClassFile.FieldType.object "ThroughPack$Asked"))) ∈ lw_all := lw_g (lw_at lw_m3 34 rfl) rfl
theorem q639 : (Jvm.Cond.methodLink "ThroughPack$Tokens" (155 : Nat) ({ cls := "ThroughPack$Tokens", name := "ask", desc := "()LThroughPack$Asked;" } : Jvm.MethodName)) ∈ lw_all := lw_g (lw_at lw_m3 35 rfl) rfl
theorem q640 : (Jvm.Cond.privateMethod ({ cls := "ThroughPack$Tokens", name := "ask", desc := "()LThroughPack$Asked;" } : Jvm.MethodName)) ∈ lw_tbl := lw_at lw_m3 36 rfl
theorem q641 : (Jvm.Cond.instanceMethod ({ cls := "ThroughPack$Tokens", name := "ask", desc := "()LThroughPack$Asked;" } : Jvm.MethodName)) ∈ lw_all := lw_g (lw_at lw_m3 37 rfl) rfl
theorem q642 : (Jvm.Cond.code ({ cls := "ThroughPack$Tokens", name := "ask", desc := "()LThroughPack$Asked;" } : Jvm.MethodName) prog_14_method_14_code (3 : Nat) (Option.some (Jvm.ClassFile.FieldType.object "ThroughPack$Asked"))) ∈ lw_all := lw_g (lw_at lw_m3 38 rfl) rfl
theorem q643 : (Jvm.Cond.methodLink "ThroughPack$Tokens" (158 : Nat) ({ cls := "ThroughPack$Tokens", name := "opens", desc := "()V" } : Jvm.MethodName)) ∈ lw_all := lw_g (lw_at lw_m3 39 rfl) rfl
theorem q644 : (Jvm.Cond.privateMethod ({ cls := "ThroughPack$Tokens", name := "opens", desc := "()V" } : Jvm.MethodName)) ∈ lw_tbl := lw_at lw_m3 40 rfl
theorem q645 : (Jvm.Cond.instanceMethod ({ cls := "ThroughPack$Tokens", name := "opens", desc := "()V" } : Jvm.MethodName)) ∈ lw_all := lw_g (lw_at lw_m3 41 rfl) rfl
theorem q646 : (Jvm.Cond.code ({ cls := "ThroughPack$Tokens", name := "opens", desc := "()V" } : Jvm.MethodName) prog_14_method_9_code (1 : Nat) (Option.none : Option Jvm.ClassFile.FieldType)) ∈ lw_all := lw_g (lw_at lw_m3 42 rfl) rfl
theorem q647 : (Jvm.Cond.classLink "ThroughPack$Tokens" (161 : Nat) "ThroughPack$Not") ∈ lw_all := lw_g (lw_at lw_m3 43 rfl) rfl
theorem q649 : (Jvm.Cond.methodLinkNest "ThroughPack$Tokens" (163 : Nat) ({ cls := "ThroughPack$Not", name := "<init>", desc := "(LThroughPack$Asked;)V" } : Jvm.MethodName) "ThroughPack") ∈ lw_tbl := lw_at lw_m3 45 rfl
theorem q660 : (Jvm.Cond.methodLink "ThroughPack$Tokens" (124 : Nat) ({ cls := "ThroughPack$Tokens", name := "sum", desc := "()LThroughPack$Sum;" } : Jvm.MethodName)) ∈ lw_all := lw_g (lw_at lw_m3 56 rfl) rfl
theorem q661 : (Jvm.Cond.privateMethod ({ cls := "ThroughPack$Tokens", name := "sum", desc := "()LThroughPack$Sum;" } : Jvm.MethodName)) ∈ lw_tbl := lw_at lw_m3 57 rfl
theorem q662 : (Jvm.Cond.instanceMethod ({ cls := "ThroughPack$Tokens", name := "sum", desc := "()LThroughPack$Sum;" } : Jvm.MethodName)) ∈ lw_all := lw_g (lw_at lw_m3 58 rfl) rfl
theorem q663 : (Jvm.Cond.code ({ cls := "ThroughPack$Tokens", name := "sum", desc := "()LThroughPack$Sum;" } : Jvm.MethodName) prog_14_method_15_code (3 : Nat) (Option.some (Jvm.ClassFile.FieldType.object "ThroughPack$Sum"))) ∈ lw_all := lw_g (lw_at lw_m3 59 rfl) rfl
theorem q664 : (Jvm.Cond.classLink "ThroughPack$Tokens" (171 : Nat) "ThroughPack$Chain") ∈ lw_all := lw_g (lw_at lw_m3 60 rfl) rfl
theorem q666 : (Jvm.Cond.methodLink "ThroughPack$Tokens" (173 : Nat) ({ cls := "ThroughPack$Tokens", name := "product", desc := "()LThroughPack$Sum;" } : Jvm.MethodName)) ∈ lw_all := lw_g (lw_at lw_m3 62 rfl) rfl
theorem q667 : (Jvm.Cond.privateMethod ({ cls := "ThroughPack$Tokens", name := "product", desc := "()LThroughPack$Sum;" } : Jvm.MethodName)) ∈ lw_tbl := lw_at lw_m3 63 rfl
theorem q668 : (Jvm.Cond.instanceMethod ({ cls := "ThroughPack$Tokens", name := "product", desc := "()LThroughPack$Sum;" } : Jvm.MethodName)) ∈ lw_all := lw_g (lw_at lw_m3 64 rfl) rfl
theorem q669 : (Jvm.Cond.code ({ cls := "ThroughPack$Tokens", name := "product", desc := "()LThroughPack$Sum;" } : Jvm.MethodName) prog_14_method_16_code (3 : Nat) (Option.some (Jvm.ClassFile.FieldType.object "ThroughPack$Sum"))) ∈ lw_all := lw_g (lw_at lw_m3 65 rfl) rfl
theorem q670 : (Jvm.Cond.methodLink "ThroughPack$Tokens" (185 : Nat) ({ cls := "ThroughPack$Tokens", name := "one", desc := "()LThroughPack$Sum;" } : Jvm.MethodName)) ∈ lw_all := lw_g (lw_at lw_m3 66 rfl) rfl
theorem q671 : (Jvm.Cond.privateMethod ({ cls := "ThroughPack$Tokens", name := "one", desc := "()LThroughPack$Sum;" } : Jvm.MethodName)) ∈ lw_tbl := lw_at lw_m3 67 rfl
theorem q672 : (Jvm.Cond.instanceMethod ({ cls := "ThroughPack$Tokens", name := "one", desc := "()LThroughPack$Sum;" } : Jvm.MethodName)) ∈ lw_all := lw_g (lw_at lw_m3 68 rfl) rfl
theorem q673 : (Jvm.Cond.code ({ cls := "ThroughPack$Tokens", name := "one", desc := "()LThroughPack$Sum;" } : Jvm.MethodName) prog_14_method_17_code (2 : Nat) (Option.some (Jvm.ClassFile.FieldType.object "ThroughPack$Sum"))) ∈ lw_all := lw_g (lw_at lw_m3 69 rfl) rfl
theorem q674 : (Jvm.Cond.classLink "ThroughPack$Tokens" (188 : Nat) "ThroughPack$Plain") ∈ lw_all := lw_g (lw_at lw_m3 70 rfl) rfl
theorem q676 : (Jvm.Cond.methodLink "ThroughPack$Tokens" (128 : Nat) ({ cls := "ThroughPack$Tokens", name := "number", desc := "(II)I" } : Jvm.MethodName)) ∈ lw_all := lw_g (lw_at lw_m3 72 rfl) rfl
theorem q677 : (Jvm.Cond.privateMethod ({ cls := "ThroughPack$Tokens", name := "number", desc := "(II)I" } : Jvm.MethodName)) ∈ lw_tbl := lw_at lw_m3 73 rfl
theorem q678 : (Jvm.Cond.instanceMethod ({ cls := "ThroughPack$Tokens", name := "number", desc := "(II)I" } : Jvm.MethodName)) ∈ lw_all := lw_g (lw_at lw_m3 74 rfl) rfl
theorem q679 : (Jvm.Cond.code ({ cls := "ThroughPack$Tokens", name := "number", desc := "(II)I" } : Jvm.MethodName) prog_14_method_8_code (4 : Nat) (Option.some Jvm.ClassFile.FieldType.int)) ∈ lw_all := lw_g (lw_at lw_m3 75 rfl) rfl
theorem q680 : (Jvm.Cond.methodLinkNest "ThroughPack$Tokens" (190 : Nat) ({ cls := "ThroughPack$Plain", name := "<init>", desc := "(I)V" } : Jvm.MethodName) "ThroughPack") ∈ lw_tbl := lw_at lw_m3 76 rfl
theorem q688 : (Jvm.Cond.classLink "ThroughPack$Tokens" (192 : Nat) "ThroughPack$Name") ∈ lw_all := lw_g (lw_at lw_m3 84 rfl) rfl
theorem q690 : (Jvm.Cond.methodLinkNest "ThroughPack$Tokens" (194 : Nat) ({ cls := "ThroughPack$Name", name := "<init>", desc := "(I)V" } : Jvm.MethodName) "ThroughPack") ∈ lw_tbl := lw_at lw_m3 86 rfl
theorem q698 : (Jvm.Cond.methodLink "ThroughPack$Tokens" (100 : Nat) ({ cls := "ThroughPack$Tokens", name := "want", desc := "(I)V" } : Jvm.MethodName)) ∈ lw_all := lw_g (lw_at lw_m3 94 rfl) rfl
theorem q699 : (Jvm.Cond.privateMethod ({ cls := "ThroughPack$Tokens", name := "want", desc := "(I)V" } : Jvm.MethodName)) ∈ lw_tbl := lw_at lw_m3 95 rfl
theorem q700 : (Jvm.Cond.instanceMethod ({ cls := "ThroughPack$Tokens", name := "want", desc := "(I)V" } : Jvm.MethodName)) ∈ lw_all := lw_g (lw_at lw_m3 96 rfl) rfl
theorem q701 : (Jvm.Cond.code ({ cls := "ThroughPack$Tokens", name := "want", desc := "(I)V" } : Jvm.MethodName) prog_14_method_7_code (2 : Nat) (Option.none : Option Jvm.ClassFile.FieldType)) ∈ lw_all := lw_g (lw_at lw_m3 97 rfl) rfl
theorem q702 : (Jvm.Cond.classLink "ThroughPack$Tokens" (195 : Nat) "ThroughPack$Minus") ∈ lw_all := lw_g (lw_at lw_m3 98 rfl) rfl
theorem q704 : (Jvm.Cond.methodLinkNest "ThroughPack$Tokens" (197 : Nat) ({ cls := "ThroughPack$Minus", name := "<init>", desc := "(LThroughPack$Sum;)V" } : Jvm.MethodName) "ThroughPack") ∈ lw_tbl := lw_at lw_m3 100 rfl
theorem q712 : (Jvm.Cond.methodLink "ThroughPack$Tokens" (176 : Nat) ({ cls := "ThroughPack$Chain", name := "<init>", desc := "(LThroughPack$Sum;)V" } : Jvm.MethodName)) ∈ lw_all := lw_g (lw_at lw_m3 108 rfl) rfl
theorem q728 : (Jvm.Cond.methodLink "ThroughPack$Tokens" (179 : Nat) ({ cls := "ThroughPack$Chain", name := "add", desc := "(ILThroughPack$Sum;)V" } : Jvm.MethodName)) ∈ lw_all := lw_g (lw_at lw_m3 124 rfl) rfl
theorem q793 : (Jvm.Cond.selects "ThroughPack$Tokens" ({ cls := "java/lang/Object", name := "getClass", desc := "()Ljava/lang/Class;" } : Jvm.MethodName) ({ cls := "java/lang/Object", name := "getClass", desc := "()Ljava/lang/Class;" } : Jvm.MethodName)) ∈ lw_all := lw_g (lw_at lw_m3 189 rfl) rfl
theorem q809 : (Jvm.Cond.methodLink "ThroughPack$Tokens" (182 : Nat) ({ cls := "ThroughPack$Chain", name := "itself", desc := "()LThroughPack$Sum;" } : Jvm.MethodName)) ∈ lw_all := lw_g (lw_at lw_m3 205 rfl) rfl
theorem q817 : (Jvm.Cond.classLink "ThroughPack$Tokens" (166 : Nat) "ThroughPack$Compared") ∈ lw_all := lw_g (lw_at lw_m3 213 rfl) rfl
theorem q819 : (Jvm.Cond.methodLinkNest "ThroughPack$Tokens" (168 : Nat) ({ cls := "ThroughPack$Compared", name := "<init>", desc := "(ILThroughPack$Sum;LThroughPack$Sum;)V" } : Jvm.MethodName) "ThroughPack") ∈ lw_tbl := lw_at lw_m3 215 rfl
theorem q833 : (Jvm.Cond.methodLink "ThroughPack$Tokens" (112 : Nat) ({ cls := "java/util/ArrayList", name := "add", desc := "(Ljava/lang/Object;)Z" } : Jvm.MethodName)) ∈ lw_all := lw_g (lw_at lw_m3 229 rfl) rfl
theorem q834 : (Jvm.Cond.methodLink "ThroughPack$Tokens" (142 : Nat) ({ cls := "java/util/ArrayList", name := "size", desc := "()I" } : Jvm.MethodName)) ∈ lw_all := lw_g (lw_at lw_m3 230 rfl) rfl
theorem q838 : (Jvm.Cond.methodLink "ThroughPack$Tokens" (144 : Nat) ({ cls := "java/util/ArrayList", name := "get", desc := "(I)Ljava/lang/Object;" } : Jvm.MethodName)) ∈ lw_all := lw_g (lw_at lw_m3 234 rfl) rfl
theorem q850 : (Jvm.Cond.classLink "ThroughPack$Tokens" (148 : Nat) "ThroughPack$Asked") ∈ lw_all := lw_g (lw_at lw_m4 6 rfl) rfl
theorem q851 : (Jvm.Cond.classLink "ThroughPack$Tokens" (150 : Nat) "ThroughPack$All") ∈ lw_all := lw_g (lw_at lw_m4 7 rfl) rfl
theorem q853 : (Jvm.Cond.methodLinkNest "ThroughPack$Tokens" (152 : Nat) ({ cls := "ThroughPack$All", name := "<init>", desc := "(ZLjava/util/ArrayList;)V" } : Jvm.MethodName) "ThroughPack") ∈ lw_tbl := lw_at lw_m4 9 rfl
theorem q864 : (Jvm.Cond.classLink "ThroughPack$Tokens" (133 : Nat) "ThroughPack$Go") ∈ lw_all := lw_g (lw_at lw_m4 20 rfl) rfl
theorem q866 : (Jvm.Cond.methodLinkNest "ThroughPack$Tokens" (135 : Nat) ({ cls := "ThroughPack$Go", name := "<init>", desc := "(ILThroughPack$Asked;)V" } : Jvm.MethodName) "ThroughPack") ∈ lw_tbl := lw_at lw_m4 22 rfl
theorem q1905 : (Jvm.Cond.castable "ThroughPack$Tokens" "java/lang/Object") ∈ lw_tbl := lw_at lw_m8 101 rfl
theorem q1932 : (Jvm.Cond.stringRef "ThroughPack$Tokens" (198 : Nat) "may") ∈ lw_tbl := lw_at lw_m8 128 rfl
theorem q1933 : (Jvm.Cond.stringRef "ThroughPack$Tokens" (199 : Nat) "nips") ∈ lw_tbl := lw_at lw_m8 129 rfl
theorem q1934 : (Jvm.Cond.stringRef "ThroughPack$Tokens" (200 : Nat) "walk") ∈ lw_tbl := lw_at lw_m8 130 rfl
theorem q1935 : (Jvm.Cond.stringRef "ThroughPack$Tokens" (201 : Nat) "go") ∈ lw_tbl := lw_at lw_m8 131 rfl
theorem q1936 : (Jvm.Cond.stringRef "ThroughPack$Tokens" (202 : Nat) "cost") ∈ lw_tbl := lw_at lw_m8 132 rfl
theorem q1937 : (Jvm.Cond.stringRef "ThroughPack$Tokens" (203 : Nat) "ice") ∈ lw_tbl := lw_at lw_m8 133 rfl
theorem q1938 : (Jvm.Cond.stringRef "ThroughPack$Tokens" (204 : Nat) "when") ∈ lw_tbl := lw_at lw_m8 134 rfl
theorem q1939 : (Jvm.Cond.stringRef "ThroughPack$Tokens" (206 : Nat) "or") ∈ lw_tbl := lw_at lw_m8 135 rfl
theorem q1940 : (Jvm.Cond.stringRef "ThroughPack$Tokens" (208 : Nat) "and") ∈ lw_tbl := lw_at lw_m8 136 rfl
theorem q1941 : (Jvm.Cond.stringRef "ThroughPack$Tokens" (210 : Nat) "not") ∈ lw_tbl := lw_at lw_m8 137 rfl
theorem q1942 : (Jvm.Cond.stringRef "ThroughPack$Tokens" (212 : Nat) "thick") ∈ lw_tbl := lw_at lw_m8 138 rfl
theorem q1943 : (Jvm.Cond.stringRef "ThroughPack$Tokens" (214 : Nat) "north") ∈ lw_tbl := lw_at lw_m8 139 rfl
theorem q1944 : (Jvm.Cond.stringRef "ThroughPack$Tokens" (216 : Nat) "east") ∈ lw_tbl := lw_at lw_m8 140 rfl
theorem q1945 : (Jvm.Cond.stringRef "ThroughPack$Tokens" (218 : Nat) "south") ∈ lw_tbl := lw_at lw_m8 141 rfl
theorem q1946 : (Jvm.Cond.stringRef "ThroughPack$Tokens" (220 : Nat) "west") ∈ lw_tbl := lw_at lw_m8 142 rfl
theorem q1947 : (Jvm.Cond.stringRef "ThroughPack$Tokens" (222 : Nat) "x") ∈ lw_tbl := lw_at lw_m8 143 rfl
theorem q1948 : (Jvm.Cond.stringRef "ThroughPack$Tokens" (224 : Nat) "y") ∈ lw_tbl := lw_at lw_m8 144 rfl
theorem q1949 : (Jvm.Cond.stringRef "ThroughPack$Tokens" (226 : Nat) "wind") ∈ lw_tbl := lw_at lw_m8 145 rfl
theorem q1950 : (Jvm.Cond.stringRef "ThroughPack$Tokens" (228 : Nat) "watch") ∈ lw_tbl := lw_at lw_m8 146 rfl
theorem q1951 : (Jvm.Cond.stringRef "ThroughPack$Tokens" (230 : Nat) "coal") ∈ lw_tbl := lw_at lw_m8 147 rfl
theorem q1952 : (Jvm.Cond.stringRef "ThroughPack$Tokens" (232 : Nat) "banked") ∈ lw_tbl := lw_at lw_m8 148 rfl
theorem in_X4 : ∀ w ∈ wsX40, w ∈ lw_all := lw_in wsX40 [405, 407, 409, 411, 413, 415, 417, 419] (by decide +kernel) (by decide +kernel)
/-! ThroughPack$Text -/
set_option maxRecDepth 100000
def RX5 : String := "ThroughPack$Text"
def TX5 : u_T := fun k => match k with
  | 0 => ("ThroughPack$Text", "may", "Ljava/util/ArrayList;", true)
  | 1 => ("ThroughPack$Text", "nips", "Ljava/util/ArrayList;", true)
  | 2 => ("ThroughPack$Text", "walk", "Ljava/util/ArrayList;", true)
  | 3 => ("ThroughPack$Text", "go", "Ljava/util/ArrayList;", true)
  | 4 => ("ThroughPack$Text", "cost", "LThroughPack$Sum;", false)
  | 5 => ("ThroughPack$Text", "ice", "LThroughPack$Sum;", false)
  | _ => ("ThroughPack$Text", "clauses", "I", false)
def tyX5 : Nat → FieldType := fun k => match k with
  | 0 => .object "java/util/ArrayList"
  | 1 => .object "java/util/ArrayList"
  | 2 => .object "java/util/ArrayList"
  | 3 => .object "java/util/ArrayList"
  | 4 => .object "ThroughPack$Sum"
  | 5 => .object "ThroughPack$Sum"
  | _ => .int
abbrev wsX50 : List Cond := u_ws RX5 TX5 7
theorem nmX5 : ∀ a, a < 7 → ∀ b, b < 7 → a ≠ b → (TX5 a).2.1 ≠ (TX5 b).2.1 := by decide +kernel
theorem tyX5_ok : ∀ k, k < 7 → parseFieldDescriptor (TX5 k).2.2.1 = some (tyX5 k) := by decide +kernel
abbrev cX5_init : ByteArray := prog_13_method_1_code
def yX5_init : MethodName := ⟨RX5, "<init>", "()V"⟩
def dkwX5_init_2 : List UInt8 := [181, 0, 22, 177]
abbrev dktX5_init_2 : List UInt8 := dkwX5_init_2 ++ []
def dkwX5_init_1 : List UInt8 := [181, 0, 16, 42, 187, 0, 7, 89, 183, 0, 9, 181, 0, 19, 42, 187, 0, 7, 89, 183, 0, 9]
abbrev dktX5_init_1 : List UInt8 := dkwX5_init_1 ++ dktX5_init_2
def dkwX5_init_0 : List UInt8 := [42, 183, 0, 1, 42, 187, 0, 7, 89, 183, 0, 9, 181, 0, 10, 42, 187, 0, 7, 89, 183, 0, 9]
abbrev dktX5_init_0 : List UInt8 := dkwX5_init_0 ++ dktX5_init_1
theorem dksX5_init_0 : cX5_init.data.toList.drop 0 = dktX5_init_0 := by decide +kernel
theorem dksX5_init_1 : cX5_init.data.toList.drop 23 = dktX5_init_1 := dk_seg dksX5_init_0 23 rfl rfl
theorem dksX5_init_2 : cX5_init.data.toList.drop 45 = dktX5_init_2 := dk_seg dksX5_init_1 22 rfl rfl
theorem dX5_init_0 : decode cX5_init 0 = .ok (.aload_n 0, 1) := dk_42 (dk_at dksX5_init_0 0 rfl rfl)
theorem dX5_init_1 : decode cX5_init 1 = .ok (.invokespecial 1, 3) := dk_183 0 1 (dk_at dksX5_init_0 1 rfl rfl)
theorem dX5_init_4 : decode cX5_init 4 = .ok (.aload_n 0, 1) := dk_42 (dk_at dksX5_init_0 4 rfl rfl)
theorem dX5_init_5 : decode cX5_init 5 = .ok (.new 7, 3) := dk_187 0 7 (dk_at dksX5_init_0 5 rfl rfl)
theorem dX5_init_8 : decode cX5_init 8 = .ok (.dup, 1) := dk_89 (dk_at dksX5_init_0 8 rfl rfl)
theorem dX5_init_9 : decode cX5_init 9 = .ok (.invokespecial 9, 3) := dk_183 0 9 (dk_at dksX5_init_0 9 rfl rfl)
theorem dX5_init_12 : decode cX5_init 12 = .ok (.putfield 10, 3) := dk_181 0 10 (dk_at dksX5_init_0 12 rfl rfl)
theorem dX5_init_15 : decode cX5_init 15 = .ok (.aload_n 0, 1) := dk_42 (dk_at dksX5_init_0 15 rfl rfl)
theorem dX5_init_16 : decode cX5_init 16 = .ok (.new 7, 3) := dk_187 0 7 (dk_at dksX5_init_0 16 rfl rfl)
theorem dX5_init_19 : decode cX5_init 19 = .ok (.dup, 1) := dk_89 (dk_at dksX5_init_0 19 rfl rfl)
theorem dX5_init_20 : decode cX5_init 20 = .ok (.invokespecial 9, 3) := dk_183 0 9 (dk_at dksX5_init_0 20 rfl rfl)
theorem dX5_init_23 : decode cX5_init 23 = .ok (.putfield 16, 3) := dk_181 0 16 (dk_at dksX5_init_1 0 rfl rfl)
theorem dX5_init_26 : decode cX5_init 26 = .ok (.aload_n 0, 1) := dk_42 (dk_at dksX5_init_1 3 rfl rfl)
theorem dX5_init_27 : decode cX5_init 27 = .ok (.new 7, 3) := dk_187 0 7 (dk_at dksX5_init_1 4 rfl rfl)
theorem dX5_init_30 : decode cX5_init 30 = .ok (.dup, 1) := dk_89 (dk_at dksX5_init_1 7 rfl rfl)
theorem dX5_init_31 : decode cX5_init 31 = .ok (.invokespecial 9, 3) := dk_183 0 9 (dk_at dksX5_init_1 8 rfl rfl)
theorem dX5_init_34 : decode cX5_init 34 = .ok (.putfield 19, 3) := dk_181 0 19 (dk_at dksX5_init_1 11 rfl rfl)
theorem dX5_init_37 : decode cX5_init 37 = .ok (.aload_n 0, 1) := dk_42 (dk_at dksX5_init_1 14 rfl rfl)
theorem dX5_init_38 : decode cX5_init 38 = .ok (.new 7, 3) := dk_187 0 7 (dk_at dksX5_init_1 15 rfl rfl)
theorem dX5_init_41 : decode cX5_init 41 = .ok (.dup, 1) := dk_89 (dk_at dksX5_init_1 18 rfl rfl)
theorem dX5_init_42 : decode cX5_init 42 = .ok (.invokespecial 9, 3) := dk_183 0 9 (dk_at dksX5_init_1 19 rfl rfl)
theorem dX5_init_45 : decode cX5_init 45 = .ok (.putfield 22, 3) := dk_181 0 22 (dk_at dksX5_init_2 0 rfl rfl)
theorem dX5_init_48 : decode cX5_init 48 = .ok (.return_, 1) := dk_177 (dk_at dksX5_init_2 3 rfl rfl)
abbrev cX5_some : ByteArray := prog_13_method_2_code
def yX5_some : MethodName := ⟨RX5, "some", "(Ljava/util/ArrayList;[I)Z"⟩
def dkwX5_some_1 : List UInt8 := [153, 0, 5, 4, 172, 132, 2, 1, 167, 255, 226, 3, 172]
abbrev dktX5_some_1 : List UInt8 := dkwX5_some_1 ++ []
def dkwX5_some_0 : List UInt8 := [3, 61, 28, 42, 182, 0, 25, 162, 0, 28, 42, 28, 182, 0, 29, 192, 0, 33, 43, 185, 0, 35, 2, 0]
abbrev dktX5_some_0 : List UInt8 := dkwX5_some_0 ++ dktX5_some_1
theorem dksX5_some_0 : cX5_some.data.toList.drop 0 = dktX5_some_0 := by decide +kernel
theorem dksX5_some_1 : cX5_some.data.toList.drop 24 = dktX5_some_1 := dk_seg dksX5_some_0 24 rfl rfl
theorem dX5_some_0 : decode cX5_some 0 = .ok (.iconst 0, 1) := dk_3 (dk_at dksX5_some_0 0 rfl rfl)
theorem dX5_some_1 : decode cX5_some 1 = .ok (.istore_n 2, 1) := dk_61 (dk_at dksX5_some_0 1 rfl rfl)
theorem dX5_some_2 : decode cX5_some 2 = .ok (.iload_n 2, 1) := dk_28 (dk_at dksX5_some_0 2 rfl rfl)
theorem dX5_some_3 : decode cX5_some 3 = .ok (.aload_n 0, 1) := dk_42 (dk_at dksX5_some_0 3 rfl rfl)
theorem dX5_some_4 : decode cX5_some 4 = .ok (.invokevirtual 25, 3) := dk_182 0 25 (dk_at dksX5_some_0 4 rfl rfl)
theorem dX5_some_7 : decode cX5_some 7 = .ok (.if_icmp .ge 28, 3) := dk_162 0 28 (dk_at dksX5_some_0 7 rfl rfl)
theorem dX5_some_10 : decode cX5_some 10 = .ok (.aload_n 0, 1) := dk_42 (dk_at dksX5_some_0 10 rfl rfl)
theorem dX5_some_11 : decode cX5_some 11 = .ok (.iload_n 2, 1) := dk_28 (dk_at dksX5_some_0 11 rfl rfl)
theorem dX5_some_12 : decode cX5_some 12 = .ok (.invokevirtual 29, 3) := dk_182 0 29 (dk_at dksX5_some_0 12 rfl rfl)
theorem dX5_some_15 : decode cX5_some 15 = .ok (.checkcast 33, 3) := dk_192 0 33 (dk_at dksX5_some_0 15 rfl rfl)
theorem dX5_some_18 : decode cX5_some 18 = .ok (.aload_n 1, 1) := dk_43 (dk_at dksX5_some_0 18 rfl rfl)
theorem dX5_some_19 : decode cX5_some 19 = .ok (.invokeinterface 35 2, 5) := by decide +kernel
theorem dX5_some_24 : decode cX5_some 24 = .ok (.ifCond .eq 5, 3) := dk_153 0 5 (dk_at dksX5_some_1 0 rfl rfl)
theorem dX5_some_27 : decode cX5_some 27 = .ok (.iconst 1, 1) := dk_4 (dk_at dksX5_some_1 3 rfl rfl)
theorem dX5_some_28 : decode cX5_some 28 = .ok (.ireturn, 1) := dk_172 (dk_at dksX5_some_1 4 rfl rfl)
theorem dX5_some_29 : decode cX5_some 29 = .ok (.iinc 2 1, 3) := dk_132 2 1 (dk_at dksX5_some_1 5 rfl rfl)
theorem dX5_some_32 : decode cX5_some 32 = .ok (.goto (-30), 3) := dk_167 255 226 (dk_at dksX5_some_1 8 rfl rfl)
theorem dX5_some_35 : decode cX5_some 35 = .ok (.iconst 0, 1) := dk_3 (dk_at dksX5_some_1 11 rfl rfl)
theorem dX5_some_36 : decode cX5_some 36 = .ok (.ireturn, 1) := dk_172 (dk_at dksX5_some_1 12 rfl rfl)
theorem q132 : (Jvm.Cond.initialized "ThroughPack$Text") ∈ lw_all := lw_g (lw_at lw_m1 8 rfl) rfl
theorem q427 : (Jvm.Cond.instantiable "ThroughPack$Text" (7 : Nat)) ∈ lw_all := lw_g (lw_at lw_m2 63 rfl) rfl
theorem q429 : (Jvm.Cond.instanceMethod ({ cls := "ThroughPack$Text", name := "<init>", desc := "()V" } : Jvm.MethodName)) ∈ lw_all := lw_g (lw_at lw_m2 65 rfl) rfl
theorem q430 : (Jvm.Cond.code ({ cls := "ThroughPack$Text", name := "<init>", desc := "()V" } : Jvm.MethodName) prog_13_method_1_code (1 : Nat) (Option.none : Option Jvm.ClassFile.FieldType)) ∈ lw_all := lw_g (lw_at lw_m2 66 rfl) rfl
theorem q431 : (Jvm.Cond.methodLink "ThroughPack$Text" (1 : Nat) ({ cls := "java/lang/Object", name := "<init>", desc := "()V" } : Jvm.MethodName)) ∈ lw_all := lw_g (lw_at lw_m2 67 rfl) rfl
theorem q432 : (Jvm.Cond.classLink "ThroughPack$Text" (7 : Nat) "java/util/ArrayList") ∈ lw_all := lw_g (lw_at lw_m2 68 rfl) rfl
theorem q434 : (Jvm.Cond.methodLink "ThroughPack$Text" (9 : Nat) ({ cls := "java/util/ArrayList", name := "<init>", desc := "()V" } : Jvm.MethodName)) ∈ lw_all := lw_g (lw_at lw_m2 70 rfl) rfl
theorem q458 : (Jvm.Cond.fieldLink "ThroughPack$Text" (10 : Nat) "ThroughPack$Text" "may" "Ljava/util/ArrayList;") ∈ lw_all := lw_g (lw_at lw_m2 94 rfl) rfl
theorem q461 : (Jvm.Cond.fieldLink "ThroughPack$Text" (16 : Nat) "ThroughPack$Text" "nips" "Ljava/util/ArrayList;") ∈ lw_all := lw_g (lw_at lw_m2 97 rfl) rfl
theorem q464 : (Jvm.Cond.fieldLink "ThroughPack$Text" (19 : Nat) "ThroughPack$Text" "walk" "Ljava/util/ArrayList;") ∈ lw_all := lw_g (lw_at lw_m2 100 rfl) rfl
theorem q467 : (Jvm.Cond.fieldLink "ThroughPack$Text" (22 : Nat) "ThroughPack$Text" "go" "Ljava/util/ArrayList;") ∈ lw_all := lw_g (lw_at lw_m2 103 rfl) rfl
theorem q475 : (Jvm.Cond.laysFinal "ThroughPack$Text" "ThroughPack$Text" "may" "Ljava/util/ArrayList;") ∈ lw_all := lw_g (lw_at lw_m2 111 rfl) rfl
theorem q476 : (Jvm.Cond.soleField "ThroughPack$Text" "may") ∈ lw_all := lw_g (lw_at lw_m2 112 rfl) rfl
theorem q477 : (Jvm.Cond.laysFinal "ThroughPack$Text" "ThroughPack$Text" "nips" "Ljava/util/ArrayList;") ∈ lw_all := lw_g (lw_at lw_m2 113 rfl) rfl
theorem q478 : (Jvm.Cond.soleField "ThroughPack$Text" "nips") ∈ lw_all := lw_g (lw_at lw_m2 114 rfl) rfl
theorem q479 : (Jvm.Cond.laysFinal "ThroughPack$Text" "ThroughPack$Text" "walk" "Ljava/util/ArrayList;") ∈ lw_all := lw_g (lw_at lw_m2 115 rfl) rfl
theorem q480 : (Jvm.Cond.soleField "ThroughPack$Text" "walk") ∈ lw_all := lw_g (lw_at lw_m2 116 rfl) rfl
theorem q481 : (Jvm.Cond.laysFinal "ThroughPack$Text" "ThroughPack$Text" "go" "Ljava/util/ArrayList;") ∈ lw_all := lw_g (lw_at lw_m2 117 rfl) rfl
theorem q482 : (Jvm.Cond.soleField "ThroughPack$Text" "go") ∈ lw_all := lw_g (lw_at lw_m2 118 rfl) rfl
theorem q483 : (Jvm.Cond.lays "ThroughPack$Text" "ThroughPack$Text" "cost" "LThroughPack$Sum;") ∈ lw_all := lw_g (lw_at lw_m2 119 rfl) rfl
theorem q484 : (Jvm.Cond.soleField "ThroughPack$Text" "cost") ∈ lw_all := lw_g (lw_at lw_m2 120 rfl) rfl
theorem q485 : (Jvm.Cond.lays "ThroughPack$Text" "ThroughPack$Text" "ice" "LThroughPack$Sum;") ∈ lw_all := lw_g (lw_at lw_m2 121 rfl) rfl
theorem q486 : (Jvm.Cond.soleField "ThroughPack$Text" "ice") ∈ lw_all := lw_g (lw_at lw_m2 122 rfl) rfl
theorem q487 : (Jvm.Cond.lays "ThroughPack$Text" "ThroughPack$Text" "clauses" "I") ∈ lw_all := lw_g (lw_at lw_m2 123 rfl) rfl
theorem q488 : (Jvm.Cond.soleField "ThroughPack$Text" "clauses") ∈ lw_all := lw_g (lw_at lw_m2 124 rfl) rfl
theorem q489 : (Jvm.Cond.superclass "ThroughPack$Text" "java/lang/Object") ∈ lw_all := lw_g (lw_at lw_m2 125 rfl) rfl
theorem q792 : (Jvm.Cond.selects "ThroughPack$Text" ({ cls := "java/lang/Object", name := "getClass", desc := "()Ljava/lang/Class;" } : Jvm.MethodName) ({ cls := "java/lang/Object", name := "getClass", desc := "()Ljava/lang/Class;" } : Jvm.MethodName)) ∈ lw_all := lw_g (lw_at lw_m3 188 rfl) rfl
theorem q924 : (Jvm.Cond.static ({ cls := "ThroughPack$Text", name := "some", desc := "(Ljava/util/ArrayList;[I)Z" } : Jvm.MethodName)) ∈ lw_all := lw_g (lw_at lw_m4 80 rfl) rfl
theorem q925 : (Jvm.Cond.code ({ cls := "ThroughPack$Text", name := "some", desc := "(Ljava/util/ArrayList;[I)Z" } : Jvm.MethodName) prog_13_method_2_code (3 : Nat) (Option.some Jvm.ClassFile.FieldType.boolean)) ∈ lw_all := lw_g (lw_at lw_m4 81 rfl) rfl
theorem q926 : (Jvm.Cond.methodLink "ThroughPack$Text" (25 : Nat) ({ cls := "java/util/ArrayList", name := "size", desc := "()I" } : Jvm.MethodName)) ∈ lw_all := lw_g (lw_at lw_m4 82 rfl) rfl
theorem q927 : (Jvm.Cond.methodLink "ThroughPack$Text" (29 : Nat) ({ cls := "java/util/ArrayList", name := "get", desc := "(I)Ljava/lang/Object;" } : Jvm.MethodName)) ∈ lw_all := lw_g (lw_at lw_m4 83 rfl) rfl
theorem q928 : (Jvm.Cond.classLink "ThroughPack$Text" (33 : Nat) "ThroughPack$Asked") ∈ lw_all := lw_g (lw_at lw_m4 84 rfl) rfl
theorem q929 : (Jvm.Cond.interfaceEntry "ThroughPack$Text" (35 : Nat)) ∈ lw_tbl := lw_at lw_m4 85 rfl
theorem q930 : (Jvm.Cond.methodLink "ThroughPack$Text" (35 : Nat) ({ cls := "ThroughPack$Asked", name := "is", desc := "([I)Z" } : Jvm.MethodName)) ∈ lw_all := lw_g (lw_at lw_m4 86 rfl) rfl
theorem q1900 : (Jvm.Cond.castable "ThroughPack$Text" "java/lang/Object") ∈ lw_tbl := lw_at lw_m8 96 rfl
theorem in_X5 : ∀ w ∈ wsX50, w ∈ lw_all := lw_in wsX50 [475, 477, 479, 481, 483, 485, 487] (by decide +kernel) (by decide +kernel)
/-! ThroughPack$Wrong -/
set_option maxRecDepth 100000
def RX6 : String := "ThroughPack$Wrong"
def TX6 : u_T := fun k => match k with
  | 0 => ("java/lang/Throwable", "cause", "Ljava/lang/Throwable;", false)
  | 1 => ("java/lang/Throwable", "stackTrace", "[Ljava/lang/StackTraceElement;", false)
  | 2 => ("java/lang/Throwable", "suppressedExceptions", "Ljava/util/List;", false)
  | 3 => ("java/lang/Throwable", "detailMessage", "Ljava/lang/String;", false)
  | 4 => ("java/lang/Throwable", "backtrace", "Ljava/lang/Object;", false)
  | 5 => ("java/lang/Throwable", "depth", "I", false)
  | 6 => ("ThroughPack$Wrong", "fault", "I", true)
  | _ => ("ThroughPack$Wrong", "place", "I", true)
def tyX6 : Nat → FieldType := fun k => match k with
  | 0 => .object "java/lang/Throwable"
  | 1 => .array (.object "java/lang/StackTraceElement")
  | 2 => .object "java/util/List"
  | 3 => .object "java/lang/String"
  | 4 => .object "java/lang/Object"
  | 5 => .int
  | 6 => .int
  | _ => .int
abbrev wsX60 : List Cond := u_ws RX6 TX6 8
theorem nmX6 : ∀ a, a < 8 → ∀ b, b < 8 → a ≠ b → (TX6 a).2.1 ≠ (TX6 b).2.1 := by decide +kernel
theorem tyX6_ok : ∀ k, k < 8 → parseFieldDescriptor (TX6 k).2.2.1 = some (tyX6 k) := by decide +kernel
abbrev cX6_init : ByteArray := prog_15_method_1_code
def yX6_init : MethodName := ⟨RX6, "<init>", "(II)V"⟩
def dkwX6_init_0 : List UInt8 := [42, 183, 0, 1, 42, 27, 181, 0, 7, 42, 28, 181, 0, 13, 177]
abbrev dktX6_init_0 : List UInt8 := dkwX6_init_0 ++ []
theorem dksX6_init_0 : cX6_init.data.toList.drop 0 = dktX6_init_0 := by decide +kernel
theorem dX6_init_0 : decode cX6_init 0 = .ok (.aload_n 0, 1) := dk_42 (dk_at dksX6_init_0 0 rfl rfl)
theorem dX6_init_1 : decode cX6_init 1 = .ok (.invokespecial 1, 3) := dk_183 0 1 (dk_at dksX6_init_0 1 rfl rfl)
theorem dX6_init_4 : decode cX6_init 4 = .ok (.aload_n 0, 1) := dk_42 (dk_at dksX6_init_0 4 rfl rfl)
theorem dX6_init_5 : decode cX6_init 5 = .ok (.iload_n 1, 1) := dk_27 (dk_at dksX6_init_0 5 rfl rfl)
theorem dX6_init_6 : decode cX6_init 6 = .ok (.putfield 7, 3) := dk_181 0 7 (dk_at dksX6_init_0 6 rfl rfl)
theorem dX6_init_9 : decode cX6_init 9 = .ok (.aload_n 0, 1) := dk_42 (dk_at dksX6_init_0 9 rfl rfl)
theorem dX6_init_10 : decode cX6_init 10 = .ok (.iload_n 2, 1) := dk_28 (dk_at dksX6_init_0 10 rfl rfl)
theorem dX6_init_11 : decode cX6_init 11 = .ok (.putfield 13, 3) := dk_181 0 13 (dk_at dksX6_init_0 11 rfl rfl)
theorem dX6_init_14 : decode cX6_init 14 = .ok (.return_, 1) := dk_177 (dk_at dksX6_init_0 14 rfl rfl)
theorem q142 : (Jvm.Cond.initialized "ThroughPack$Wrong") ∈ lw_all := lw_g (lw_at lw_m1 18 rfl) rfl
theorem q562 : (Jvm.Cond.instantiable "ThroughPack$Wrong" (8 : Nat)) ∈ lw_all := lw_g (lw_at lw_m2 198 rfl) rfl
theorem q563 : (Jvm.Cond.castable "ThroughPack$Wrong" "ThroughPack$Wrong") ∈ lw_tbl := lw_at lw_m2 199 rfl
theorem q568 : (Jvm.Cond.selects "ThroughPack$Wrong" ({ cls := "java/lang/Throwable", name := "fillInStackTrace", desc := "(I)Ljava/lang/Throwable;" } : Jvm.MethodName) ({ cls := "java/lang/Throwable", name := "fillInStackTrace", desc := "(I)Ljava/lang/Throwable;" } : Jvm.MethodName)) ∈ lw_all := lw_g (lw_at lw_m2 204 rfl) rfl
theorem q569 : (Jvm.Cond.selects "ThroughPack$Wrong" ({ cls := "java/lang/Throwable", name := "fillInStackTrace", desc := "()Ljava/lang/Throwable;" } : Jvm.MethodName) ({ cls := "java/lang/Throwable", name := "fillInStackTrace", desc := "()Ljava/lang/Throwable;" } : Jvm.MethodName)) ∈ lw_all := lw_g (lw_at lw_m2 205 rfl) rfl
theorem q570 : (Jvm.Cond.lays "ThroughPack$Wrong" "java/lang/Throwable" "cause" "Ljava/lang/Throwable;") ∈ lw_all := lw_g (lw_at lw_m2 206 rfl) rfl
theorem q572 : (Jvm.Cond.lays "ThroughPack$Wrong" "java/lang/Throwable" "stackTrace" "[Ljava/lang/StackTraceElement;") ∈ lw_all := lw_g (lw_at lw_m2 208 rfl) rfl
theorem q574 : (Jvm.Cond.lays "ThroughPack$Wrong" "java/lang/Throwable" "suppressedExceptions" "Ljava/util/List;") ∈ lw_all := lw_g (lw_at lw_m2 210 rfl) rfl
theorem q576 : (Jvm.Cond.lays "ThroughPack$Wrong" "java/lang/Throwable" "detailMessage" "Ljava/lang/String;") ∈ lw_all := lw_g (lw_at lw_m2 212 rfl) rfl
theorem q578 : (Jvm.Cond.lays "ThroughPack$Wrong" "java/lang/Throwable" "backtrace" "Ljava/lang/Object;") ∈ lw_all := lw_g (lw_at lw_m2 214 rfl) rfl
theorem q599 : (Jvm.Cond.instanceMethod ({ cls := "ThroughPack$Wrong", name := "<init>", desc := "(II)V" } : Jvm.MethodName)) ∈ lw_all := lw_g (lw_at lw_m2 235 rfl) rfl
theorem q600 : (Jvm.Cond.code ({ cls := "ThroughPack$Wrong", name := "<init>", desc := "(II)V" } : Jvm.MethodName) prog_15_method_1_code (3 : Nat) (Option.none : Option Jvm.ClassFile.FieldType)) ∈ lw_all := lw_g (lw_at lw_m2 236 rfl) rfl
theorem q601 : (Jvm.Cond.methodLink "ThroughPack$Wrong" (1 : Nat) ({ cls := "java/lang/Exception", name := "<init>", desc := "()V" } : Jvm.MethodName)) ∈ lw_all := lw_g (lw_at lw_m2 237 rfl) rfl
theorem q605 : (Jvm.Cond.fieldLink "ThroughPack$Wrong" (7 : Nat) "ThroughPack$Wrong" "fault" "I") ∈ lw_all := lw_g (lw_at lw_m3 1 rfl) rfl
theorem q607 : (Jvm.Cond.fieldLink "ThroughPack$Wrong" (13 : Nat) "ThroughPack$Wrong" "place" "I") ∈ lw_all := lw_g (lw_at lw_m3 3 rfl) rfl
theorem q613 : (Jvm.Cond.laysFinal "ThroughPack$Wrong" "ThroughPack$Wrong" "fault" "I") ∈ lw_all := lw_g (lw_at lw_m3 9 rfl) rfl
theorem q614 : (Jvm.Cond.soleField "ThroughPack$Wrong" "fault") ∈ lw_all := lw_g (lw_at lw_m3 10 rfl) rfl
theorem q615 : (Jvm.Cond.laysFinal "ThroughPack$Wrong" "ThroughPack$Wrong" "place" "I") ∈ lw_all := lw_g (lw_at lw_m3 11 rfl) rfl
theorem q616 : (Jvm.Cond.soleField "ThroughPack$Wrong" "place") ∈ lw_all := lw_g (lw_at lw_m3 12 rfl) rfl
theorem q621 : (Jvm.Cond.lays "ThroughPack$Wrong" "java/lang/Throwable" "depth" "I") ∈ lw_all := lw_g (lw_at lw_m3 17 rfl) rfl
theorem q624 : (Jvm.Cond.superclass "ThroughPack$Wrong" "java/lang/Exception") ∈ lw_all := lw_g (lw_at lw_m3 20 rfl) rfl
theorem q794 : (Jvm.Cond.selects "ThroughPack$Wrong" ({ cls := "java/lang/Object", name := "getClass", desc := "()Ljava/lang/Class;" } : Jvm.MethodName) ({ cls := "java/lang/Object", name := "getClass", desc := "()Ljava/lang/Class;" } : Jvm.MethodName)) ∈ lw_all := lw_g (lw_at lw_m3 190 rfl) rfl
theorem q1907 : (Jvm.Cond.castable "ThroughPack$Wrong" "java/lang/Object") ∈ lw_tbl := lw_at lw_m8 103 rfl
theorem in_X6 : ∀ w ∈ wsX60, w ∈ lw_all := lw_in wsX60 [570, 572, 574, 576, 578, 621, 613, 615] (by decide +kernel) (by decide +kernel)
/-! ThroughPack$Not -/
set_option maxRecDepth 100000
def RX7 : String := "ThroughPack$Not"
def TX7 : u_T := fun k => match k with
  | _ => ("ThroughPack$Not", "x", "LThroughPack$Asked;", true)
def tyX7 : Nat → FieldType := fun k => match k with
  | _ => .object "ThroughPack$Asked"
abbrev wsX70 : List Cond := u_ws RX7 TX7 1
theorem nmX7 : ∀ a, a < 1 → ∀ b, b < 1 → a ≠ b → (TX7 a).2.1 ≠ (TX7 b).2.1 := by decide +kernel
theorem tyX7_ok : ∀ k, k < 1 → parseFieldDescriptor (TX7 k).2.2.1 = some (tyX7 k) := by decide +kernel
abbrev cX7_init : ByteArray := prog_9_method_1_code
def yX7_init : MethodName := ⟨RX7, "<init>", "(LThroughPack$Asked;)V"⟩
def dkwX7_init_0 : List UInt8 := [42, 183, 0, 1, 42, 43, 181, 0, 7, 177]
abbrev dktX7_init_0 : List UInt8 := dkwX7_init_0 ++ []
theorem dksX7_init_0 : cX7_init.data.toList.drop 0 = dktX7_init_0 := by decide +kernel
theorem dX7_init_0 : decode cX7_init 0 = .ok (.aload_n 0, 1) := dk_42 (dk_at dksX7_init_0 0 rfl rfl)
theorem dX7_init_1 : decode cX7_init 1 = .ok (.invokespecial 1, 3) := dk_183 0 1 (dk_at dksX7_init_0 1 rfl rfl)
theorem dX7_init_4 : decode cX7_init 4 = .ok (.aload_n 0, 1) := dk_42 (dk_at dksX7_init_0 4 rfl rfl)
theorem dX7_init_5 : decode cX7_init 5 = .ok (.aload_n 1, 1) := dk_43 (dk_at dksX7_init_0 5 rfl rfl)
theorem dX7_init_6 : decode cX7_init 6 = .ok (.putfield 7, 3) := dk_181 0 7 (dk_at dksX7_init_0 6 rfl rfl)
theorem dX7_init_9 : decode cX7_init 9 = .ok (.return_, 1) := dk_177 (dk_at dksX7_init_0 9 rfl rfl)
abbrev cX7_is : ByteArray := prog_9_method_2_code
def yX7_is : MethodName := ⟨RX7, "is", "([I)Z"⟩
def dkwX7_is_0 : List UInt8 := [42, 180, 0, 7, 43, 185, 0, 13, 2, 0, 154, 0, 7, 4, 167, 0, 4, 3, 172]
abbrev dktX7_is_0 : List UInt8 := dkwX7_is_0 ++ []
theorem dksX7_is_0 : cX7_is.data.toList.drop 0 = dktX7_is_0 := by decide +kernel
theorem dX7_is_0 : decode cX7_is 0 = .ok (.aload_n 0, 1) := dk_42 (dk_at dksX7_is_0 0 rfl rfl)
theorem dX7_is_1 : decode cX7_is 1 = .ok (.getfield 7, 3) := dk_180 0 7 (dk_at dksX7_is_0 1 rfl rfl)
theorem dX7_is_4 : decode cX7_is 4 = .ok (.aload_n 1, 1) := dk_43 (dk_at dksX7_is_0 4 rfl rfl)
theorem dX7_is_5 : decode cX7_is 5 = .ok (.invokeinterface 13 2, 5) := by decide +kernel
theorem dX7_is_10 : decode cX7_is 10 = .ok (.ifCond .ne 7, 3) := dk_154 0 7 (dk_at dksX7_is_0 10 rfl rfl)
theorem dX7_is_13 : decode cX7_is 13 = .ok (.iconst 1, 1) := dk_4 (dk_at dksX7_is_0 13 rfl rfl)
theorem dX7_is_14 : decode cX7_is 14 = .ok (.goto 4, 3) := dk_167 0 4 (dk_at dksX7_is_0 14 rfl rfl)
theorem dX7_is_17 : decode cX7_is 17 = .ok (.iconst 0, 1) := dk_3 (dk_at dksX7_is_0 17 rfl rfl)
theorem dX7_is_18 : decode cX7_is 18 = .ok (.ireturn, 1) := dk_172 (dk_at dksX7_is_0 18 rfl rfl)
theorem q144 : (Jvm.Cond.initialized "ThroughPack$Not") ∈ lw_all := lw_g (lw_at lw_m1 20 rfl) rfl
theorem q648 : (Jvm.Cond.instantiable "ThroughPack$Not" (1 : Nat)) ∈ lw_all := lw_g (lw_at lw_m3 44 rfl) rfl
theorem q650 : (Jvm.Cond.instanceMethod ({ cls := "ThroughPack$Not", name := "<init>", desc := "(LThroughPack$Asked;)V" } : Jvm.MethodName)) ∈ lw_all := lw_g (lw_at lw_m3 46 rfl) rfl
theorem q651 : (Jvm.Cond.code ({ cls := "ThroughPack$Not", name := "<init>", desc := "(LThroughPack$Asked;)V" } : Jvm.MethodName) prog_9_method_1_code (2 : Nat) (Option.none : Option Jvm.ClassFile.FieldType)) ∈ lw_all := lw_g (lw_at lw_m3 47 rfl) rfl
theorem q652 : (Jvm.Cond.methodLink "ThroughPack$Not" (1 : Nat) ({ cls := "java/lang/Record", name := "<init>", desc := "()V" } : Jvm.MethodName)) ∈ lw_all := lw_g (lw_at lw_m3 48 rfl) rfl
theorem q656 : (Jvm.Cond.fieldLink "ThroughPack$Not" (7 : Nat) "ThroughPack$Not" "x" "LThroughPack$Asked;") ∈ lw_all := lw_g (lw_at lw_m3 52 rfl) rfl
theorem q657 : (Jvm.Cond.laysFinal "ThroughPack$Not" "ThroughPack$Not" "x" "LThroughPack$Asked;") ∈ lw_all := lw_g (lw_at lw_m3 53 rfl) rfl
theorem q658 : (Jvm.Cond.soleField "ThroughPack$Not" "x") ∈ lw_all := lw_g (lw_at lw_m3 54 rfl) rfl
theorem q659 : (Jvm.Cond.superclass "ThroughPack$Not" "java/lang/Record") ∈ lw_all := lw_g (lw_at lw_m3 55 rfl) rfl
theorem q789 : (Jvm.Cond.selects "ThroughPack$Not" ({ cls := "java/lang/Object", name := "getClass", desc := "()Ljava/lang/Class;" } : Jvm.MethodName) ({ cls := "java/lang/Object", name := "getClass", desc := "()Ljava/lang/Class;" } : Jvm.MethodName)) ∈ lw_all := lw_g (lw_at lw_m3 185 rfl) rfl
theorem q998 : (Jvm.Cond.castable "ThroughPack$Not" "ThroughPack$Asked") ∈ lw_tbl := lw_at lw_m4 154 rfl
theorem q999 : (Jvm.Cond.selects "ThroughPack$Not" ({ cls := "ThroughPack$Asked", name := "is", desc := "([I)Z" } : Jvm.MethodName) ({ cls := "ThroughPack$Not", name := "is", desc := "([I)Z" } : Jvm.MethodName)) ∈ lw_all := lw_g (lw_at lw_m4 155 rfl) rfl
theorem q1000 : (Jvm.Cond.unhidden "ThroughPack$Not" "is" "([I)Z") ∈ lw_tbl := lw_at lw_m4 156 rfl
theorem q1001 : (Jvm.Cond.instanceMethod ({ cls := "ThroughPack$Not", name := "is", desc := "([I)Z" } : Jvm.MethodName)) ∈ lw_all := lw_g (lw_at lw_m4 157 rfl) rfl
theorem q1002 : (Jvm.Cond.publicMethod ({ cls := "ThroughPack$Not", name := "is", desc := "([I)Z" } : Jvm.MethodName)) ∈ lw_tbl := lw_at lw_m4 158 rfl
theorem q1003 : (Jvm.Cond.code ({ cls := "ThroughPack$Not", name := "is", desc := "([I)Z" } : Jvm.MethodName) prog_9_method_2_code (2 : Nat) (Option.some Jvm.ClassFile.FieldType.boolean)) ∈ lw_all := lw_g (lw_at lw_m4 159 rfl) rfl
theorem q1004 : (Jvm.Cond.interfaceEntry "ThroughPack$Not" (13 : Nat)) ∈ lw_tbl := lw_at lw_m4 160 rfl
theorem q1005 : (Jvm.Cond.methodLink "ThroughPack$Not" (13 : Nat) ({ cls := "ThroughPack$Asked", name := "is", desc := "([I)Z" } : Jvm.MethodName)) ∈ lw_all := lw_g (lw_at lw_m4 161 rfl) rfl
theorem q1908 : (Jvm.Cond.castable "ThroughPack$Not" "java/lang/Object") ∈ lw_tbl := lw_at lw_m8 104 rfl
theorem in_X7 : ∀ w ∈ wsX70, w ∈ lw_all := lw_in wsX70 [657] (by decide +kernel) (by decide +kernel)
/-! ThroughPack$Chain -/
set_option maxRecDepth 100000
def RX8 : String := "ThroughPack$Chain"
def TX8 : u_T := fun k => match k with
  | 0 => ("ThroughPack$Chain", "first", "LThroughPack$Sum;", true)
  | 1 => ("ThroughPack$Chain", "more", "Ljava/util/ArrayList;", true)
  | _ => ("ThroughPack$Chain", "signs", "Ljava/util/ArrayList;", true)
def tyX8 : Nat → FieldType := fun k => match k with
  | 0 => .object "ThroughPack$Sum"
  | 1 => .object "java/util/ArrayList"
  | _ => .object "java/util/ArrayList"
abbrev wsX80 : List Cond := u_ws RX8 TX8 3
theorem nmX8 : ∀ a, a < 3 → ∀ b, b < 3 → a ≠ b → (TX8 a).2.1 ≠ (TX8 b).2.1 := by decide +kernel
theorem tyX8_ok : ∀ k, k < 3 → parseFieldDescriptor (TX8 k).2.2.1 = some (tyX8 k) := by decide +kernel
abbrev cX8_init : ByteArray := prog_4_method_1_code
def yX8_init : MethodName := ⟨RX8, "<init>", "(LThroughPack$Sum;)V"⟩
def dkwX8_init_1 : List UInt8 := [181, 0, 18, 42, 43, 181, 0, 21, 177]
abbrev dktX8_init_1 : List UInt8 := dkwX8_init_1 ++ []
def dkwX8_init_0 : List UInt8 := [42, 183, 0, 3, 42, 187, 0, 9, 89, 183, 0, 11, 181, 0, 12, 42, 187, 0, 9, 89, 183, 0, 11]
abbrev dktX8_init_0 : List UInt8 := dkwX8_init_0 ++ dktX8_init_1
theorem dksX8_init_0 : cX8_init.data.toList.drop 0 = dktX8_init_0 := by decide +kernel
theorem dksX8_init_1 : cX8_init.data.toList.drop 23 = dktX8_init_1 := dk_seg dksX8_init_0 23 rfl rfl
theorem dX8_init_0 : decode cX8_init 0 = .ok (.aload_n 0, 1) := dk_42 (dk_at dksX8_init_0 0 rfl rfl)
theorem dX8_init_1 : decode cX8_init 1 = .ok (.invokespecial 3, 3) := dk_183 0 3 (dk_at dksX8_init_0 1 rfl rfl)
theorem dX8_init_4 : decode cX8_init 4 = .ok (.aload_n 0, 1) := dk_42 (dk_at dksX8_init_0 4 rfl rfl)
theorem dX8_init_5 : decode cX8_init 5 = .ok (.new 9, 3) := dk_187 0 9 (dk_at dksX8_init_0 5 rfl rfl)
theorem dX8_init_8 : decode cX8_init 8 = .ok (.dup, 1) := dk_89 (dk_at dksX8_init_0 8 rfl rfl)
theorem dX8_init_9 : decode cX8_init 9 = .ok (.invokespecial 11, 3) := dk_183 0 11 (dk_at dksX8_init_0 9 rfl rfl)
theorem dX8_init_12 : decode cX8_init 12 = .ok (.putfield 12, 3) := dk_181 0 12 (dk_at dksX8_init_0 12 rfl rfl)
theorem dX8_init_15 : decode cX8_init 15 = .ok (.aload_n 0, 1) := dk_42 (dk_at dksX8_init_0 15 rfl rfl)
theorem dX8_init_16 : decode cX8_init 16 = .ok (.new 9, 3) := dk_187 0 9 (dk_at dksX8_init_0 16 rfl rfl)
theorem dX8_init_19 : decode cX8_init 19 = .ok (.dup, 1) := dk_89 (dk_at dksX8_init_0 19 rfl rfl)
theorem dX8_init_20 : decode cX8_init 20 = .ok (.invokespecial 11, 3) := dk_183 0 11 (dk_at dksX8_init_0 20 rfl rfl)
theorem dX8_init_23 : decode cX8_init 23 = .ok (.putfield 18, 3) := dk_181 0 18 (dk_at dksX8_init_1 0 rfl rfl)
theorem dX8_init_26 : decode cX8_init 26 = .ok (.aload_n 0, 1) := dk_42 (dk_at dksX8_init_1 3 rfl rfl)
theorem dX8_init_27 : decode cX8_init 27 = .ok (.aload_n 1, 1) := dk_43 (dk_at dksX8_init_1 4 rfl rfl)
theorem dX8_init_28 : decode cX8_init 28 = .ok (.putfield 21, 3) := dk_181 0 21 (dk_at dksX8_init_1 5 rfl rfl)
theorem dX8_init_31 : decode cX8_init 31 = .ok (.return_, 1) := dk_177 (dk_at dksX8_init_1 8 rfl rfl)
abbrev cX8_add : ByteArray := prog_4_method_2_code
def yX8_add : MethodName := ⟨RX8, "add", "(ILThroughPack$Sum;)V"⟩
def dkwX8_add_0 : List UInt8 := [42, 180, 0, 18, 27, 184, 0, 25, 182, 0, 31, 87, 42, 180, 0, 12, 44, 182, 0, 31, 87, 177]
abbrev dktX8_add_0 : List UInt8 := dkwX8_add_0 ++ []
theorem dksX8_add_0 : cX8_add.data.toList.drop 0 = dktX8_add_0 := by decide +kernel
theorem dX8_add_0 : decode cX8_add 0 = .ok (.aload_n 0, 1) := dk_42 (dk_at dksX8_add_0 0 rfl rfl)
theorem dX8_add_1 : decode cX8_add 1 = .ok (.getfield 18, 3) := dk_180 0 18 (dk_at dksX8_add_0 1 rfl rfl)
theorem dX8_add_4 : decode cX8_add 4 = .ok (.iload_n 1, 1) := dk_27 (dk_at dksX8_add_0 4 rfl rfl)
theorem dX8_add_5 : decode cX8_add 5 = .ok (.invokestatic 25, 3) := dk_184 0 25 (dk_at dksX8_add_0 5 rfl rfl)
theorem dX8_add_8 : decode cX8_add 8 = .ok (.invokevirtual 31, 3) := dk_182 0 31 (dk_at dksX8_add_0 8 rfl rfl)
theorem dX8_add_11 : decode cX8_add 11 = .ok (.pop, 1) := dk_87 (dk_at dksX8_add_0 11 rfl rfl)
theorem dX8_add_12 : decode cX8_add 12 = .ok (.aload_n 0, 1) := dk_42 (dk_at dksX8_add_0 12 rfl rfl)
theorem dX8_add_13 : decode cX8_add 13 = .ok (.getfield 12, 3) := dk_180 0 12 (dk_at dksX8_add_0 13 rfl rfl)
theorem dX8_add_16 : decode cX8_add 16 = .ok (.aload_n 2, 1) := dk_44 (dk_at dksX8_add_0 16 rfl rfl)
theorem dX8_add_17 : decode cX8_add 17 = .ok (.invokevirtual 31, 3) := dk_182 0 31 (dk_at dksX8_add_0 17 rfl rfl)
theorem dX8_add_20 : decode cX8_add 20 = .ok (.pop, 1) := dk_87 (dk_at dksX8_add_0 20 rfl rfl)
theorem dX8_add_21 : decode cX8_add 21 = .ok (.return_, 1) := dk_177 (dk_at dksX8_add_0 21 rfl rfl)
abbrev cX8_itself : ByteArray := prog_4_method_3_code
def yX8_itself : MethodName := ⟨RX8, "itself", "()LThroughPack$Sum;"⟩
def dkwX8_itself_0 : List UInt8 := [42, 180, 0, 12, 182, 0, 35, 153, 0, 10, 42, 180, 0, 21, 167, 0, 4, 42, 176]
abbrev dktX8_itself_0 : List UInt8 := dkwX8_itself_0 ++ []
theorem dksX8_itself_0 : cX8_itself.data.toList.drop 0 = dktX8_itself_0 := by decide +kernel
theorem dX8_itself_0 : decode cX8_itself 0 = .ok (.aload_n 0, 1) := dk_42 (dk_at dksX8_itself_0 0 rfl rfl)
theorem dX8_itself_1 : decode cX8_itself 1 = .ok (.getfield 12, 3) := dk_180 0 12 (dk_at dksX8_itself_0 1 rfl rfl)
theorem dX8_itself_4 : decode cX8_itself 4 = .ok (.invokevirtual 35, 3) := dk_182 0 35 (dk_at dksX8_itself_0 4 rfl rfl)
theorem dX8_itself_7 : decode cX8_itself 7 = .ok (.ifCond .eq 10, 3) := dk_153 0 10 (dk_at dksX8_itself_0 7 rfl rfl)
theorem dX8_itself_10 : decode cX8_itself 10 = .ok (.aload_n 0, 1) := dk_42 (dk_at dksX8_itself_0 10 rfl rfl)
theorem dX8_itself_11 : decode cX8_itself 11 = .ok (.getfield 21, 3) := dk_180 0 21 (dk_at dksX8_itself_0 11 rfl rfl)
theorem dX8_itself_14 : decode cX8_itself 14 = .ok (.goto 4, 3) := dk_167 0 4 (dk_at dksX8_itself_0 14 rfl rfl)
theorem dX8_itself_17 : decode cX8_itself 17 = .ok (.aload_n 0, 1) := dk_42 (dk_at dksX8_itself_0 17 rfl rfl)
theorem dX8_itself_18 : decode cX8_itself 18 = .ok (.areturn, 1) := dk_176 (dk_at dksX8_itself_0 18 rfl rfl)
abbrev cX8_of : ByteArray := prog_4_method_4_code
def yX8_of : MethodName := ⟨RX8, "of", "([I)J"⟩
def dkwX8_of_6 : List UInt8 := [32, 173]
abbrev dktX8_of_6 : List UInt8 := dkwX8_of_6 ++ []
def dkwX8_of_5 : List UInt8 := [109, 55, 8, 20, 0, 56, 20, 0, 58, 22, 8, 184, 0, 60, 184, 0, 66, 65, 132, 4, 1, 167, 255, 130]
abbrev dktX8_of_5 : List UInt8 := dkwX8_of_5 ++ dktX8_of_6
def dkwX8_of_4 : List UInt8 := [160, 0, 10, 32, 22, 5, 105, 167, 0, 18, 22, 5, 9, 148, 154, 0, 7, 9, 167, 0, 7, 32, 22, 5]
abbrev dktX8_of_4 : List UInt8 := dkwX8_of_4 ++ dktX8_of_5
def dkwX8_of_3 : List UInt8 := [22, 5, 97, 167, 0, 46, 21, 7, 16, 45, 160, 0, 10, 32, 22, 5, 101, 167, 0, 32, 21, 7, 16, 42]
abbrev dktX8_of_3 : List UInt8 := dkwX8_of_3 ++ dktX8_of_4
def dkwX8_of_2 : List UInt8 := [180, 0, 18, 21, 4, 182, 0, 49, 192, 0, 26, 182, 0, 53, 54, 7, 21, 7, 16, 43, 160, 0, 10, 32]
abbrev dktX8_of_2 : List UInt8 := dkwX8_of_2 ++ dktX8_of_3
def dkwX8_of_1 : List UInt8 := [162, 0, 120, 42, 180, 0, 12, 21, 4, 182, 0, 49, 192, 0, 40, 43, 185, 0, 39, 2, 0, 55, 5, 42]
abbrev dktX8_of_1 : List UInt8 := dkwX8_of_1 ++ dktX8_of_2
def dkwX8_of_0 : List UInt8 := [42, 180, 0, 21, 43, 185, 0, 39, 2, 0, 65, 3, 54, 4, 21, 4, 42, 180, 0, 12, 182, 0, 45]
abbrev dktX8_of_0 : List UInt8 := dkwX8_of_0 ++ dktX8_of_1
theorem dksX8_of_0 : cX8_of.data.toList.drop 0 = dktX8_of_0 := by decide +kernel
theorem dksX8_of_1 : cX8_of.data.toList.drop 23 = dktX8_of_1 := dk_seg dksX8_of_0 23 rfl rfl
theorem dksX8_of_2 : cX8_of.data.toList.drop 47 = dktX8_of_2 := dk_seg dksX8_of_1 24 rfl rfl
theorem dksX8_of_3 : cX8_of.data.toList.drop 71 = dktX8_of_3 := dk_seg dksX8_of_2 24 rfl rfl
theorem dksX8_of_4 : cX8_of.data.toList.drop 95 = dktX8_of_4 := dk_seg dksX8_of_3 24 rfl rfl
theorem dksX8_of_5 : cX8_of.data.toList.drop 119 = dktX8_of_5 := dk_seg dksX8_of_4 24 rfl rfl
theorem dksX8_of_6 : cX8_of.data.toList.drop 143 = dktX8_of_6 := dk_seg dksX8_of_5 24 rfl rfl
theorem dX8_of_0 : decode cX8_of 0 = .ok (.aload_n 0, 1) := dk_42 (dk_at dksX8_of_0 0 rfl rfl)
theorem dX8_of_1 : decode cX8_of 1 = .ok (.getfield 21, 3) := dk_180 0 21 (dk_at dksX8_of_0 1 rfl rfl)
theorem dX8_of_4 : decode cX8_of 4 = .ok (.aload_n 1, 1) := dk_43 (dk_at dksX8_of_0 4 rfl rfl)
theorem dX8_of_5 : decode cX8_of 5 = .ok (.invokeinterface 39 2, 5) := by decide +kernel
theorem dX8_of_10 : decode cX8_of 10 = .ok (.lstore_n 2, 1) := dk_65 (dk_at dksX8_of_0 10 rfl rfl)
theorem dX8_of_11 : decode cX8_of 11 = .ok (.iconst 0, 1) := dk_3 (dk_at dksX8_of_0 11 rfl rfl)
theorem dX8_of_12 : decode cX8_of 12 = .ok (.istore 4, 2) := dk_54 4 (dk_at dksX8_of_0 12 rfl rfl)
theorem dX8_of_14 : decode cX8_of 14 = .ok (.iload 4, 2) := dk_21 4 (dk_at dksX8_of_0 14 rfl rfl)
theorem dX8_of_16 : decode cX8_of 16 = .ok (.aload_n 0, 1) := dk_42 (dk_at dksX8_of_0 16 rfl rfl)
theorem dX8_of_17 : decode cX8_of 17 = .ok (.getfield 12, 3) := dk_180 0 12 (dk_at dksX8_of_0 17 rfl rfl)
theorem dX8_of_20 : decode cX8_of 20 = .ok (.invokevirtual 45, 3) := dk_182 0 45 (dk_at dksX8_of_0 20 rfl rfl)
theorem dX8_of_23 : decode cX8_of 23 = .ok (.if_icmp .ge 120, 3) := dk_162 0 120 (dk_at dksX8_of_1 0 rfl rfl)
theorem dX8_of_26 : decode cX8_of 26 = .ok (.aload_n 0, 1) := dk_42 (dk_at dksX8_of_1 3 rfl rfl)
theorem dX8_of_27 : decode cX8_of 27 = .ok (.getfield 12, 3) := dk_180 0 12 (dk_at dksX8_of_1 4 rfl rfl)
theorem dX8_of_30 : decode cX8_of 30 = .ok (.iload 4, 2) := dk_21 4 (dk_at dksX8_of_1 7 rfl rfl)
theorem dX8_of_32 : decode cX8_of 32 = .ok (.invokevirtual 49, 3) := dk_182 0 49 (dk_at dksX8_of_1 9 rfl rfl)
theorem dX8_of_35 : decode cX8_of 35 = .ok (.checkcast 40, 3) := dk_192 0 40 (dk_at dksX8_of_1 12 rfl rfl)
theorem dX8_of_38 : decode cX8_of 38 = .ok (.aload_n 1, 1) := dk_43 (dk_at dksX8_of_1 15 rfl rfl)
theorem dX8_of_39 : decode cX8_of 39 = .ok (.invokeinterface 39 2, 5) := by decide +kernel
theorem dX8_of_44 : decode cX8_of 44 = .ok (.lstore 5, 2) := dk_55 5 (dk_at dksX8_of_1 21 rfl rfl)
theorem dX8_of_46 : decode cX8_of 46 = .ok (.aload_n 0, 1) := dk_42 (dk_at dksX8_of_1 23 rfl rfl)
theorem dX8_of_47 : decode cX8_of 47 = .ok (.getfield 18, 3) := dk_180 0 18 (dk_at dksX8_of_2 0 rfl rfl)
theorem dX8_of_50 : decode cX8_of 50 = .ok (.iload 4, 2) := dk_21 4 (dk_at dksX8_of_2 3 rfl rfl)
theorem dX8_of_52 : decode cX8_of 52 = .ok (.invokevirtual 49, 3) := dk_182 0 49 (dk_at dksX8_of_2 5 rfl rfl)
theorem dX8_of_55 : decode cX8_of 55 = .ok (.checkcast 26, 3) := dk_192 0 26 (dk_at dksX8_of_2 8 rfl rfl)
theorem dX8_of_58 : decode cX8_of 58 = .ok (.invokevirtual 53, 3) := dk_182 0 53 (dk_at dksX8_of_2 11 rfl rfl)
theorem dX8_of_61 : decode cX8_of 61 = .ok (.istore 7, 2) := dk_54 7 (dk_at dksX8_of_2 14 rfl rfl)
theorem dX8_of_63 : decode cX8_of 63 = .ok (.iload 7, 2) := dk_21 7 (dk_at dksX8_of_2 16 rfl rfl)
theorem dX8_of_65 : decode cX8_of 65 = .ok (.bipush 43, 2) := dk_16 43 (dk_at dksX8_of_2 18 rfl rfl)
theorem dX8_of_67 : decode cX8_of 67 = .ok (.if_icmp .ne 10, 3) := dk_160 0 10 (dk_at dksX8_of_2 20 rfl rfl)
theorem dX8_of_70 : decode cX8_of 70 = .ok (.lload_n 2, 1) := dk_32 (dk_at dksX8_of_2 23 rfl rfl)
theorem dX8_of_71 : decode cX8_of 71 = .ok (.lload 5, 2) := dk_22 5 (dk_at dksX8_of_3 0 rfl rfl)
theorem dX8_of_73 : decode cX8_of 73 = .ok (.ladd, 1) := dk_97 (dk_at dksX8_of_3 2 rfl rfl)
theorem dX8_of_74 : decode cX8_of 74 = .ok (.goto 46, 3) := dk_167 0 46 (dk_at dksX8_of_3 3 rfl rfl)
theorem dX8_of_77 : decode cX8_of 77 = .ok (.iload 7, 2) := dk_21 7 (dk_at dksX8_of_3 6 rfl rfl)
theorem dX8_of_79 : decode cX8_of 79 = .ok (.bipush 45, 2) := dk_16 45 (dk_at dksX8_of_3 8 rfl rfl)
theorem dX8_of_81 : decode cX8_of 81 = .ok (.if_icmp .ne 10, 3) := dk_160 0 10 (dk_at dksX8_of_3 10 rfl rfl)
theorem dX8_of_84 : decode cX8_of 84 = .ok (.lload_n 2, 1) := dk_32 (dk_at dksX8_of_3 13 rfl rfl)
theorem dX8_of_85 : decode cX8_of 85 = .ok (.lload 5, 2) := dk_22 5 (dk_at dksX8_of_3 14 rfl rfl)
theorem dX8_of_87 : decode cX8_of 87 = .ok (.lsub, 1) := dk_101 (dk_at dksX8_of_3 16 rfl rfl)
theorem dX8_of_88 : decode cX8_of 88 = .ok (.goto 32, 3) := dk_167 0 32 (dk_at dksX8_of_3 17 rfl rfl)
theorem dX8_of_91 : decode cX8_of 91 = .ok (.iload 7, 2) := dk_21 7 (dk_at dksX8_of_3 20 rfl rfl)
theorem dX8_of_93 : decode cX8_of 93 = .ok (.bipush 42, 2) := dk_16 42 (dk_at dksX8_of_3 22 rfl rfl)
theorem dX8_of_95 : decode cX8_of 95 = .ok (.if_icmp .ne 10, 3) := dk_160 0 10 (dk_at dksX8_of_4 0 rfl rfl)
theorem dX8_of_98 : decode cX8_of 98 = .ok (.lload_n 2, 1) := dk_32 (dk_at dksX8_of_4 3 rfl rfl)
theorem dX8_of_99 : decode cX8_of 99 = .ok (.lload 5, 2) := dk_22 5 (dk_at dksX8_of_4 4 rfl rfl)
theorem dX8_of_101 : decode cX8_of 101 = .ok (.lmul, 1) := dk_105 (dk_at dksX8_of_4 6 rfl rfl)
theorem dX8_of_102 : decode cX8_of 102 = .ok (.goto 18, 3) := dk_167 0 18 (dk_at dksX8_of_4 7 rfl rfl)
theorem dX8_of_105 : decode cX8_of 105 = .ok (.lload 5, 2) := dk_22 5 (dk_at dksX8_of_4 10 rfl rfl)
theorem dX8_of_107 : decode cX8_of 107 = .ok (.lconst 0, 1) := dk_9 (dk_at dksX8_of_4 12 rfl rfl)
theorem dX8_of_108 : decode cX8_of 108 = .ok (.lcmp, 1) := dk_148 (dk_at dksX8_of_4 13 rfl rfl)
theorem dX8_of_109 : decode cX8_of 109 = .ok (.ifCond .ne 7, 3) := dk_154 0 7 (dk_at dksX8_of_4 14 rfl rfl)
theorem dX8_of_112 : decode cX8_of 112 = .ok (.lconst 0, 1) := dk_9 (dk_at dksX8_of_4 17 rfl rfl)
theorem dX8_of_113 : decode cX8_of 113 = .ok (.goto 7, 3) := dk_167 0 7 (dk_at dksX8_of_4 18 rfl rfl)
theorem dX8_of_116 : decode cX8_of 116 = .ok (.lload_n 2, 1) := dk_32 (dk_at dksX8_of_4 21 rfl rfl)
theorem dX8_of_117 : decode cX8_of 117 = .ok (.lload 5, 2) := dk_22 5 (dk_at dksX8_of_4 22 rfl rfl)
theorem dX8_of_119 : decode cX8_of 119 = .ok (.ldiv, 1) := dk_109 (dk_at dksX8_of_5 0 rfl rfl)
theorem dX8_of_120 : decode cX8_of 120 = .ok (.lstore 8, 2) := dk_55 8 (dk_at dksX8_of_5 1 rfl rfl)
theorem dX8_of_122 : decode cX8_of 122 = .ok (.ldc2_w 56, 3) := dk_20 0 56 (dk_at dksX8_of_5 3 rfl rfl)
theorem dX8_of_125 : decode cX8_of 125 = .ok (.ldc2_w 58, 3) := dk_20 0 58 (dk_at dksX8_of_5 6 rfl rfl)
theorem dX8_of_128 : decode cX8_of 128 = .ok (.lload 8, 2) := dk_22 8 (dk_at dksX8_of_5 9 rfl rfl)
theorem dX8_of_130 : decode cX8_of 130 = .ok (.invokestatic 60, 3) := dk_184 0 60 (dk_at dksX8_of_5 11 rfl rfl)
theorem dX8_of_133 : decode cX8_of 133 = .ok (.invokestatic 66, 3) := dk_184 0 66 (dk_at dksX8_of_5 14 rfl rfl)
theorem dX8_of_136 : decode cX8_of 136 = .ok (.lstore_n 2, 1) := dk_65 (dk_at dksX8_of_5 17 rfl rfl)
theorem dX8_of_137 : decode cX8_of 137 = .ok (.iinc 4 1, 3) := dk_132 4 1 (dk_at dksX8_of_5 18 rfl rfl)
theorem dX8_of_140 : decode cX8_of 140 = .ok (.goto (-126), 3) := dk_167 255 130 (dk_at dksX8_of_5 21 rfl rfl)
theorem dX8_of_143 : decode cX8_of 143 = .ok (.lload_n 2, 1) := dk_32 (dk_at dksX8_of_6 0 rfl rfl)
theorem dX8_of_144 : decode cX8_of 144 = .ok (.lreturn, 1) := dk_173 (dk_at dksX8_of_6 1 rfl rfl)
theorem q145 : (Jvm.Cond.initialized "ThroughPack$Chain") ∈ lw_all := lw_g (lw_at lw_m1 21 rfl) rfl
theorem q665 : (Jvm.Cond.instantiable "ThroughPack$Chain" (3 : Nat)) ∈ lw_all := lw_g (lw_at lw_m3 61 rfl) rfl
theorem q713 : (Jvm.Cond.instanceMethod ({ cls := "ThroughPack$Chain", name := "<init>", desc := "(LThroughPack$Sum;)V" } : Jvm.MethodName)) ∈ lw_all := lw_g (lw_at lw_m3 109 rfl) rfl
theorem q714 : (Jvm.Cond.code ({ cls := "ThroughPack$Chain", name := "<init>", desc := "(LThroughPack$Sum;)V" } : Jvm.MethodName) prog_4_method_1_code (2 : Nat) (Option.none : Option Jvm.ClassFile.FieldType)) ∈ lw_all := lw_g (lw_at lw_m3 110 rfl) rfl
theorem q715 : (Jvm.Cond.methodLink "ThroughPack$Chain" (3 : Nat) ({ cls := "java/lang/Object", name := "<init>", desc := "()V" } : Jvm.MethodName)) ∈ lw_all := lw_g (lw_at lw_m3 111 rfl) rfl
theorem q716 : (Jvm.Cond.classLink "ThroughPack$Chain" (9 : Nat) "java/util/ArrayList") ∈ lw_all := lw_g (lw_at lw_m3 112 rfl) rfl
theorem q717 : (Jvm.Cond.methodLink "ThroughPack$Chain" (11 : Nat) ({ cls := "java/util/ArrayList", name := "<init>", desc := "()V" } : Jvm.MethodName)) ∈ lw_all := lw_g (lw_at lw_m3 113 rfl) rfl
theorem q718 : (Jvm.Cond.fieldLink "ThroughPack$Chain" (21 : Nat) "ThroughPack$Chain" "first" "LThroughPack$Sum;") ∈ lw_all := lw_g (lw_at lw_m3 114 rfl) rfl
theorem q719 : (Jvm.Cond.fieldLink "ThroughPack$Chain" (12 : Nat) "ThroughPack$Chain" "more" "Ljava/util/ArrayList;") ∈ lw_all := lw_g (lw_at lw_m3 115 rfl) rfl
theorem q720 : (Jvm.Cond.fieldLink "ThroughPack$Chain" (18 : Nat) "ThroughPack$Chain" "signs" "Ljava/util/ArrayList;") ∈ lw_all := lw_g (lw_at lw_m3 116 rfl) rfl
theorem q721 : (Jvm.Cond.laysFinal "ThroughPack$Chain" "ThroughPack$Chain" "first" "LThroughPack$Sum;") ∈ lw_all := lw_g (lw_at lw_m3 117 rfl) rfl
theorem q722 : (Jvm.Cond.soleField "ThroughPack$Chain" "first") ∈ lw_all := lw_g (lw_at lw_m3 118 rfl) rfl
theorem q723 : (Jvm.Cond.laysFinal "ThroughPack$Chain" "ThroughPack$Chain" "more" "Ljava/util/ArrayList;") ∈ lw_all := lw_g (lw_at lw_m3 119 rfl) rfl
theorem q724 : (Jvm.Cond.soleField "ThroughPack$Chain" "more") ∈ lw_all := lw_g (lw_at lw_m3 120 rfl) rfl
theorem q725 : (Jvm.Cond.laysFinal "ThroughPack$Chain" "ThroughPack$Chain" "signs" "Ljava/util/ArrayList;") ∈ lw_all := lw_g (lw_at lw_m3 121 rfl) rfl
theorem q726 : (Jvm.Cond.soleField "ThroughPack$Chain" "signs") ∈ lw_all := lw_g (lw_at lw_m3 122 rfl) rfl
theorem q727 : (Jvm.Cond.superclass "ThroughPack$Chain" "java/lang/Object") ∈ lw_all := lw_g (lw_at lw_m3 123 rfl) rfl
theorem q729 : (Jvm.Cond.instanceMethod ({ cls := "ThroughPack$Chain", name := "add", desc := "(ILThroughPack$Sum;)V" } : Jvm.MethodName)) ∈ lw_all := lw_g (lw_at lw_m3 125 rfl) rfl
theorem q730 : (Jvm.Cond.selects "ThroughPack$Chain" ({ cls := "ThroughPack$Chain", name := "add", desc := "(ILThroughPack$Sum;)V" } : Jvm.MethodName) ({ cls := "ThroughPack$Chain", name := "add", desc := "(ILThroughPack$Sum;)V" } : Jvm.MethodName)) ∈ lw_all := lw_g (lw_at lw_m3 126 rfl) rfl
theorem q731 : (Jvm.Cond.code ({ cls := "ThroughPack$Chain", name := "add", desc := "(ILThroughPack$Sum;)V" } : Jvm.MethodName) prog_4_method_2_code (3 : Nat) (Option.none : Option Jvm.ClassFile.FieldType)) ∈ lw_all := lw_g (lw_at lw_m3 127 rfl) rfl
theorem q732 : (Jvm.Cond.methodLink "ThroughPack$Chain" (25 : Nat) ({ cls := "java/lang/Integer", name := "valueOf", desc := "(I)Ljava/lang/Integer;" } : Jvm.MethodName)) ∈ lw_all := lw_g (lw_at lw_m3 128 rfl) rfl
theorem q752 : (Jvm.Cond.methodLink "ThroughPack$Chain" (31 : Nat) ({ cls := "java/util/ArrayList", name := "add", desc := "(Ljava/lang/Object;)Z" } : Jvm.MethodName)) ∈ lw_all := lw_g (lw_at lw_m3 148 rfl) rfl
theorem q784 : (Jvm.Cond.selects "ThroughPack$Chain" ({ cls := "java/lang/Object", name := "getClass", desc := "()Ljava/lang/Class;" } : Jvm.MethodName) ({ cls := "java/lang/Object", name := "getClass", desc := "()Ljava/lang/Class;" } : Jvm.MethodName)) ∈ lw_all := lw_g (lw_at lw_m3 180 rfl) rfl
theorem q810 : (Jvm.Cond.instanceMethod ({ cls := "ThroughPack$Chain", name := "itself", desc := "()LThroughPack$Sum;" } : Jvm.MethodName)) ∈ lw_all := lw_g (lw_at lw_m3 206 rfl) rfl
theorem q811 : (Jvm.Cond.selects "ThroughPack$Chain" ({ cls := "ThroughPack$Chain", name := "itself", desc := "()LThroughPack$Sum;" } : Jvm.MethodName) ({ cls := "ThroughPack$Chain", name := "itself", desc := "()LThroughPack$Sum;" } : Jvm.MethodName)) ∈ lw_all := lw_g (lw_at lw_m3 207 rfl) rfl
theorem q812 : (Jvm.Cond.code ({ cls := "ThroughPack$Chain", name := "itself", desc := "()LThroughPack$Sum;" } : Jvm.MethodName) prog_4_method_3_code (1 : Nat) (Option.some (Jvm.ClassFile.FieldType.object "ThroughPack$Sum"))) ∈ lw_all := lw_g (lw_at lw_m3 208 rfl) rfl
theorem q813 : (Jvm.Cond.methodLink "ThroughPack$Chain" (35 : Nat) ({ cls := "java/util/ArrayList", name := "isEmpty", desc := "()Z" } : Jvm.MethodName)) ∈ lw_all := lw_g (lw_at lw_m3 209 rfl) rfl
theorem q954 : (Jvm.Cond.castable "ThroughPack$Chain" "ThroughPack$Sum") ∈ lw_tbl := lw_at lw_m4 110 rfl
theorem q955 : (Jvm.Cond.selects "ThroughPack$Chain" ({ cls := "ThroughPack$Sum", name := "of", desc := "([I)J" } : Jvm.MethodName) ({ cls := "ThroughPack$Chain", name := "of", desc := "([I)J" } : Jvm.MethodName)) ∈ lw_all := lw_g (lw_at lw_m4 111 rfl) rfl
theorem q956 : (Jvm.Cond.unhidden "ThroughPack$Chain" "of" "([I)J") ∈ lw_tbl := lw_at lw_m4 112 rfl
theorem q957 : (Jvm.Cond.instanceMethod ({ cls := "ThroughPack$Chain", name := "of", desc := "([I)J" } : Jvm.MethodName)) ∈ lw_all := lw_g (lw_at lw_m4 113 rfl) rfl
theorem q958 : (Jvm.Cond.publicMethod ({ cls := "ThroughPack$Chain", name := "of", desc := "([I)J" } : Jvm.MethodName)) ∈ lw_tbl := lw_at lw_m4 114 rfl
theorem q959 : (Jvm.Cond.code ({ cls := "ThroughPack$Chain", name := "of", desc := "([I)J" } : Jvm.MethodName) prog_4_method_4_code (10 : Nat) (Option.some Jvm.ClassFile.FieldType.long)) ∈ lw_all := lw_g (lw_at lw_m4 115 rfl) rfl
theorem q960 : (Jvm.Cond.interfaceEntry "ThroughPack$Chain" (39 : Nat)) ∈ lw_tbl := lw_at lw_m4 116 rfl
theorem q961 : (Jvm.Cond.methodLink "ThroughPack$Chain" (39 : Nat) ({ cls := "ThroughPack$Sum", name := "of", desc := "([I)J" } : Jvm.MethodName)) ∈ lw_all := lw_g (lw_at lw_m4 117 rfl) rfl
theorem q982 : (Jvm.Cond.methodLink "ThroughPack$Chain" (45 : Nat) ({ cls := "java/util/ArrayList", name := "size", desc := "()I" } : Jvm.MethodName)) ∈ lw_all := lw_g (lw_at lw_m4 138 rfl) rfl
theorem q983 : (Jvm.Cond.methodLink "ThroughPack$Chain" (49 : Nat) ({ cls := "java/util/ArrayList", name := "get", desc := "(I)Ljava/lang/Object;" } : Jvm.MethodName)) ∈ lw_all := lw_g (lw_at lw_m4 139 rfl) rfl
theorem q984 : (Jvm.Cond.classLink "ThroughPack$Chain" (40 : Nat) "ThroughPack$Sum") ∈ lw_all := lw_g (lw_at lw_m4 140 rfl) rfl
theorem q985 : (Jvm.Cond.classLink "ThroughPack$Chain" (26 : Nat) "java/lang/Integer") ∈ lw_all := lw_g (lw_at lw_m4 141 rfl) rfl
theorem q986 : (Jvm.Cond.methodLink "ThroughPack$Chain" (53 : Nat) ({ cls := "java/lang/Integer", name := "intValue", desc := "()I" } : Jvm.MethodName)) ∈ lw_all := lw_g (lw_at lw_m4 142 rfl) rfl
theorem q990 : (Jvm.Cond.constantLong "ThroughPack$Chain" (56 : Nat) (-1000000 : Int64)) ∈ lw_all := lw_g (lw_at lw_m4 146 rfl) rfl
theorem q991 : (Jvm.Cond.constantLong "ThroughPack$Chain" (58 : Nat) (1000000 : Int64)) ∈ lw_all := lw_g (lw_at lw_m4 147 rfl) rfl
theorem q992 : (Jvm.Cond.methodLink "ThroughPack$Chain" (60 : Nat) ({ cls := "java/lang/Math", name := "min", desc := "(JJ)J" } : Jvm.MethodName)) ∈ lw_all := lw_g (lw_at lw_m4 148 rfl) rfl
theorem q995 : (Jvm.Cond.methodLink "ThroughPack$Chain" (66 : Nat) ({ cls := "java/lang/Math", name := "max", desc := "(JJ)J" } : Jvm.MethodName)) ∈ lw_all := lw_g (lw_at lw_m4 151 rfl) rfl
theorem q1909 : (Jvm.Cond.castable "ThroughPack$Chain" "java/lang/Object") ∈ lw_tbl := lw_at lw_m8 105 rfl
theorem in_X8 : ∀ w ∈ wsX80, w ∈ lw_all := lw_in wsX80 [721, 723, 725] (by decide +kernel) (by decide +kernel)
/-! ThroughPack$Plain -/
set_option maxRecDepth 100000
def RX9 : String := "ThroughPack$Plain"
def TX9 : u_T := fun k => match k with
  | _ => ("ThroughPack$Plain", "n", "I", true)
def tyX9 : Nat → FieldType := fun k => match k with
  | _ => .int
abbrev wsX90 : List Cond := u_ws RX9 TX9 1
theorem nmX9 : ∀ a, a < 1 → ∀ b, b < 1 → a ≠ b → (TX9 a).2.1 ≠ (TX9 b).2.1 := by decide +kernel
theorem tyX9_ok : ∀ k, k < 1 → parseFieldDescriptor (TX9 k).2.2.1 = some (tyX9 k) := by decide +kernel
abbrev cX9_init : ByteArray := prog_10_method_1_code
def yX9_init : MethodName := ⟨RX9, "<init>", "(I)V"⟩
def dkwX9_init_0 : List UInt8 := [42, 183, 0, 1, 42, 27, 181, 0, 7, 177]
abbrev dktX9_init_0 : List UInt8 := dkwX9_init_0 ++ []
theorem dksX9_init_0 : cX9_init.data.toList.drop 0 = dktX9_init_0 := by decide +kernel
theorem dX9_init_0 : decode cX9_init 0 = .ok (.aload_n 0, 1) := dk_42 (dk_at dksX9_init_0 0 rfl rfl)
theorem dX9_init_1 : decode cX9_init 1 = .ok (.invokespecial 1, 3) := dk_183 0 1 (dk_at dksX9_init_0 1 rfl rfl)
theorem dX9_init_4 : decode cX9_init 4 = .ok (.aload_n 0, 1) := dk_42 (dk_at dksX9_init_0 4 rfl rfl)
theorem dX9_init_5 : decode cX9_init 5 = .ok (.iload_n 1, 1) := dk_27 (dk_at dksX9_init_0 5 rfl rfl)
theorem dX9_init_6 : decode cX9_init 6 = .ok (.putfield 7, 3) := dk_181 0 7 (dk_at dksX9_init_0 6 rfl rfl)
theorem dX9_init_9 : decode cX9_init 9 = .ok (.return_, 1) := dk_177 (dk_at dksX9_init_0 9 rfl rfl)
abbrev cX9_of : ByteArray := prog_10_method_2_code
def yX9_of : MethodName := ⟨RX9, "of", "([I)J"⟩
def dkwX9_of_0 : List UInt8 := [42, 180, 0, 7, 133, 173]
abbrev dktX9_of_0 : List UInt8 := dkwX9_of_0 ++ []
theorem dksX9_of_0 : cX9_of.data.toList.drop 0 = dktX9_of_0 := by decide +kernel
theorem dX9_of_0 : decode cX9_of 0 = .ok (.aload_n 0, 1) := dk_42 (dk_at dksX9_of_0 0 rfl rfl)
theorem dX9_of_1 : decode cX9_of 1 = .ok (.getfield 7, 3) := dk_180 0 7 (dk_at dksX9_of_0 1 rfl rfl)
theorem dX9_of_4 : decode cX9_of 4 = .ok (.i2l, 1) := dk_133 (dk_at dksX9_of_0 4 rfl rfl)
theorem dX9_of_5 : decode cX9_of 5 = .ok (.lreturn, 1) := dk_173 (dk_at dksX9_of_0 5 rfl rfl)
theorem q146 : (Jvm.Cond.initialized "ThroughPack$Plain") ∈ lw_all := lw_g (lw_at lw_m1 22 rfl) rfl
theorem q675 : (Jvm.Cond.instantiable "ThroughPack$Plain" (1 : Nat)) ∈ lw_all := lw_g (lw_at lw_m3 71 rfl) rfl
theorem q681 : (Jvm.Cond.instanceMethod ({ cls := "ThroughPack$Plain", name := "<init>", desc := "(I)V" } : Jvm.MethodName)) ∈ lw_all := lw_g (lw_at lw_m3 77 rfl) rfl
theorem q682 : (Jvm.Cond.code ({ cls := "ThroughPack$Plain", name := "<init>", desc := "(I)V" } : Jvm.MethodName) prog_10_method_1_code (2 : Nat) (Option.none : Option Jvm.ClassFile.FieldType)) ∈ lw_all := lw_g (lw_at lw_m3 78 rfl) rfl
theorem q683 : (Jvm.Cond.methodLink "ThroughPack$Plain" (1 : Nat) ({ cls := "java/lang/Record", name := "<init>", desc := "()V" } : Jvm.MethodName)) ∈ lw_all := lw_g (lw_at lw_m3 79 rfl) rfl
theorem q684 : (Jvm.Cond.fieldLink "ThroughPack$Plain" (7 : Nat) "ThroughPack$Plain" "n" "I") ∈ lw_all := lw_g (lw_at lw_m3 80 rfl) rfl
theorem q685 : (Jvm.Cond.laysFinal "ThroughPack$Plain" "ThroughPack$Plain" "n" "I") ∈ lw_all := lw_g (lw_at lw_m3 81 rfl) rfl
theorem q686 : (Jvm.Cond.soleField "ThroughPack$Plain" "n") ∈ lw_all := lw_g (lw_at lw_m3 82 rfl) rfl
theorem q687 : (Jvm.Cond.superclass "ThroughPack$Plain" "java/lang/Record") ∈ lw_all := lw_g (lw_at lw_m3 83 rfl) rfl
theorem q790 : (Jvm.Cond.selects "ThroughPack$Plain" ({ cls := "java/lang/Object", name := "getClass", desc := "()Ljava/lang/Class;" } : Jvm.MethodName) ({ cls := "java/lang/Object", name := "getClass", desc := "()Ljava/lang/Class;" } : Jvm.MethodName)) ∈ lw_all := lw_g (lw_at lw_m3 186 rfl) rfl
theorem q976 : (Jvm.Cond.castable "ThroughPack$Plain" "ThroughPack$Sum") ∈ lw_tbl := lw_at lw_m4 132 rfl
theorem q977 : (Jvm.Cond.selects "ThroughPack$Plain" ({ cls := "ThroughPack$Sum", name := "of", desc := "([I)J" } : Jvm.MethodName) ({ cls := "ThroughPack$Plain", name := "of", desc := "([I)J" } : Jvm.MethodName)) ∈ lw_all := lw_g (lw_at lw_m4 133 rfl) rfl
theorem q978 : (Jvm.Cond.unhidden "ThroughPack$Plain" "of" "([I)J") ∈ lw_tbl := lw_at lw_m4 134 rfl
theorem q979 : (Jvm.Cond.instanceMethod ({ cls := "ThroughPack$Plain", name := "of", desc := "([I)J" } : Jvm.MethodName)) ∈ lw_all := lw_g (lw_at lw_m4 135 rfl) rfl
theorem q980 : (Jvm.Cond.publicMethod ({ cls := "ThroughPack$Plain", name := "of", desc := "([I)J" } : Jvm.MethodName)) ∈ lw_tbl := lw_at lw_m4 136 rfl
theorem q981 : (Jvm.Cond.code ({ cls := "ThroughPack$Plain", name := "of", desc := "([I)J" } : Jvm.MethodName) prog_10_method_2_code (2 : Nat) (Option.some Jvm.ClassFile.FieldType.long)) ∈ lw_all := lw_g (lw_at lw_m4 137 rfl) rfl
theorem q1910 : (Jvm.Cond.castable "ThroughPack$Plain" "java/lang/Object") ∈ lw_tbl := lw_at lw_m8 106 rfl
theorem in_X9 : ∀ w ∈ wsX90, w ∈ lw_all := lw_in wsX90 [685] (by decide +kernel) (by decide +kernel)
/-! ThroughPack$Name -/
set_option maxRecDepth 100000
def RX10 : String := "ThroughPack$Name"
def TX10 : u_T := fun k => match k with
  | _ => ("ThroughPack$Name", "which", "I", true)
def tyX10 : Nat → FieldType := fun k => match k with
  | _ => .int
abbrev wsX100 : List Cond := u_ws RX10 TX10 1
theorem nmX10 : ∀ a, a < 1 → ∀ b, b < 1 → a ≠ b → (TX10 a).2.1 ≠ (TX10 b).2.1 := by decide +kernel
theorem tyX10_ok : ∀ k, k < 1 → parseFieldDescriptor (TX10 k).2.2.1 = some (tyX10 k) := by decide +kernel
abbrev cX10_init : ByteArray := prog_8_method_1_code
def yX10_init : MethodName := ⟨RX10, "<init>", "(I)V"⟩
def dkwX10_init_0 : List UInt8 := [42, 183, 0, 1, 42, 27, 181, 0, 7, 177]
abbrev dktX10_init_0 : List UInt8 := dkwX10_init_0 ++ []
theorem dksX10_init_0 : cX10_init.data.toList.drop 0 = dktX10_init_0 := by decide +kernel
theorem dX10_init_0 : decode cX10_init 0 = .ok (.aload_n 0, 1) := dk_42 (dk_at dksX10_init_0 0 rfl rfl)
theorem dX10_init_1 : decode cX10_init 1 = .ok (.invokespecial 1, 3) := dk_183 0 1 (dk_at dksX10_init_0 1 rfl rfl)
theorem dX10_init_4 : decode cX10_init 4 = .ok (.aload_n 0, 1) := dk_42 (dk_at dksX10_init_0 4 rfl rfl)
theorem dX10_init_5 : decode cX10_init 5 = .ok (.iload_n 1, 1) := dk_27 (dk_at dksX10_init_0 5 rfl rfl)
theorem dX10_init_6 : decode cX10_init 6 = .ok (.putfield 7, 3) := dk_181 0 7 (dk_at dksX10_init_0 6 rfl rfl)
theorem dX10_init_9 : decode cX10_init 9 = .ok (.return_, 1) := dk_177 (dk_at dksX10_init_0 9 rfl rfl)
abbrev cX10_of : ByteArray := prog_8_method_2_code
def yX10_of : MethodName := ⟨RX10, "of", "([I)J"⟩
def dkwX10_of_0 : List UInt8 := [43, 42, 180, 0, 7, 46, 133, 173]
abbrev dktX10_of_0 : List UInt8 := dkwX10_of_0 ++ []
theorem dksX10_of_0 : cX10_of.data.toList.drop 0 = dktX10_of_0 := by decide +kernel
theorem dX10_of_0 : decode cX10_of 0 = .ok (.aload_n 1, 1) := dk_43 (dk_at dksX10_of_0 0 rfl rfl)
theorem dX10_of_1 : decode cX10_of 1 = .ok (.aload_n 0, 1) := dk_42 (dk_at dksX10_of_0 1 rfl rfl)
theorem dX10_of_2 : decode cX10_of 2 = .ok (.getfield 7, 3) := dk_180 0 7 (dk_at dksX10_of_0 2 rfl rfl)
theorem dX10_of_5 : decode cX10_of 5 = .ok (.iaload, 1) := dk_46 (dk_at dksX10_of_0 5 rfl rfl)
theorem dX10_of_6 : decode cX10_of 6 = .ok (.i2l, 1) := dk_133 (dk_at dksX10_of_0 6 rfl rfl)
theorem dX10_of_7 : decode cX10_of 7 = .ok (.lreturn, 1) := dk_173 (dk_at dksX10_of_0 7 rfl rfl)
theorem q147 : (Jvm.Cond.initialized "ThroughPack$Name") ∈ lw_all := lw_g (lw_at lw_m1 23 rfl) rfl
theorem q689 : (Jvm.Cond.instantiable "ThroughPack$Name" (1 : Nat)) ∈ lw_all := lw_g (lw_at lw_m3 85 rfl) rfl
theorem q691 : (Jvm.Cond.instanceMethod ({ cls := "ThroughPack$Name", name := "<init>", desc := "(I)V" } : Jvm.MethodName)) ∈ lw_all := lw_g (lw_at lw_m3 87 rfl) rfl
theorem q692 : (Jvm.Cond.code ({ cls := "ThroughPack$Name", name := "<init>", desc := "(I)V" } : Jvm.MethodName) prog_8_method_1_code (2 : Nat) (Option.none : Option Jvm.ClassFile.FieldType)) ∈ lw_all := lw_g (lw_at lw_m3 88 rfl) rfl
theorem q693 : (Jvm.Cond.methodLink "ThroughPack$Name" (1 : Nat) ({ cls := "java/lang/Record", name := "<init>", desc := "()V" } : Jvm.MethodName)) ∈ lw_all := lw_g (lw_at lw_m3 89 rfl) rfl
theorem q694 : (Jvm.Cond.fieldLink "ThroughPack$Name" (7 : Nat) "ThroughPack$Name" "which" "I") ∈ lw_all := lw_g (lw_at lw_m3 90 rfl) rfl
theorem q695 : (Jvm.Cond.laysFinal "ThroughPack$Name" "ThroughPack$Name" "which" "I") ∈ lw_all := lw_g (lw_at lw_m3 91 rfl) rfl
theorem q696 : (Jvm.Cond.soleField "ThroughPack$Name" "which") ∈ lw_all := lw_g (lw_at lw_m3 92 rfl) rfl
theorem q697 : (Jvm.Cond.superclass "ThroughPack$Name" "java/lang/Record") ∈ lw_all := lw_g (lw_at lw_m3 93 rfl) rfl
theorem q788 : (Jvm.Cond.selects "ThroughPack$Name" ({ cls := "java/lang/Object", name := "getClass", desc := "()Ljava/lang/Class;" } : Jvm.MethodName) ({ cls := "java/lang/Object", name := "getClass", desc := "()Ljava/lang/Class;" } : Jvm.MethodName)) ∈ lw_all := lw_g (lw_at lw_m3 184 rfl) rfl
theorem q970 : (Jvm.Cond.castable "ThroughPack$Name" "ThroughPack$Sum") ∈ lw_tbl := lw_at lw_m4 126 rfl
theorem q971 : (Jvm.Cond.selects "ThroughPack$Name" ({ cls := "ThroughPack$Sum", name := "of", desc := "([I)J" } : Jvm.MethodName) ({ cls := "ThroughPack$Name", name := "of", desc := "([I)J" } : Jvm.MethodName)) ∈ lw_all := lw_g (lw_at lw_m4 127 rfl) rfl
theorem q972 : (Jvm.Cond.unhidden "ThroughPack$Name" "of" "([I)J") ∈ lw_tbl := lw_at lw_m4 128 rfl
theorem q973 : (Jvm.Cond.instanceMethod ({ cls := "ThroughPack$Name", name := "of", desc := "([I)J" } : Jvm.MethodName)) ∈ lw_all := lw_g (lw_at lw_m4 129 rfl) rfl
theorem q974 : (Jvm.Cond.publicMethod ({ cls := "ThroughPack$Name", name := "of", desc := "([I)J" } : Jvm.MethodName)) ∈ lw_tbl := lw_at lw_m4 130 rfl
theorem q975 : (Jvm.Cond.code ({ cls := "ThroughPack$Name", name := "of", desc := "([I)J" } : Jvm.MethodName) prog_8_method_2_code (2 : Nat) (Option.some Jvm.ClassFile.FieldType.long)) ∈ lw_all := lw_g (lw_at lw_m4 131 rfl) rfl
theorem q1911 : (Jvm.Cond.castable "ThroughPack$Name" "java/lang/Object") ∈ lw_tbl := lw_at lw_m8 107 rfl
theorem in_X10 : ∀ w ∈ wsX100, w ∈ lw_all := lw_in wsX100 [695] (by decide +kernel) (by decide +kernel)
/-! ThroughPack$Minus -/
set_option maxRecDepth 100000
def RX11 : String := "ThroughPack$Minus"
def TX11 : u_T := fun k => match k with
  | _ => ("ThroughPack$Minus", "x", "LThroughPack$Sum;", true)
def tyX11 : Nat → FieldType := fun k => match k with
  | _ => .object "ThroughPack$Sum"
abbrev wsX110 : List Cond := u_ws RX11 TX11 1
theorem nmX11 : ∀ a, a < 1 → ∀ b, b < 1 → a ≠ b → (TX11 a).2.1 ≠ (TX11 b).2.1 := by decide +kernel
theorem tyX11_ok : ∀ k, k < 1 → parseFieldDescriptor (TX11 k).2.2.1 = some (tyX11 k) := by decide +kernel
abbrev cX11_init : ByteArray := prog_7_method_1_code
def yX11_init : MethodName := ⟨RX11, "<init>", "(LThroughPack$Sum;)V"⟩
def dkwX11_init_0 : List UInt8 := [42, 183, 0, 1, 42, 43, 181, 0, 7, 177]
abbrev dktX11_init_0 : List UInt8 := dkwX11_init_0 ++ []
theorem dksX11_init_0 : cX11_init.data.toList.drop 0 = dktX11_init_0 := by decide +kernel
theorem dX11_init_0 : decode cX11_init 0 = .ok (.aload_n 0, 1) := dk_42 (dk_at dksX11_init_0 0 rfl rfl)
theorem dX11_init_1 : decode cX11_init 1 = .ok (.invokespecial 1, 3) := dk_183 0 1 (dk_at dksX11_init_0 1 rfl rfl)
theorem dX11_init_4 : decode cX11_init 4 = .ok (.aload_n 0, 1) := dk_42 (dk_at dksX11_init_0 4 rfl rfl)
theorem dX11_init_5 : decode cX11_init 5 = .ok (.aload_n 1, 1) := dk_43 (dk_at dksX11_init_0 5 rfl rfl)
theorem dX11_init_6 : decode cX11_init 6 = .ok (.putfield 7, 3) := dk_181 0 7 (dk_at dksX11_init_0 6 rfl rfl)
theorem dX11_init_9 : decode cX11_init 9 = .ok (.return_, 1) := dk_177 (dk_at dksX11_init_0 9 rfl rfl)
abbrev cX11_of : ByteArray := prog_7_method_2_code
def yX11_of : MethodName := ⟨RX11, "of", "([I)J"⟩
def dkwX11_of_0 : List UInt8 := [42, 180, 0, 7, 43, 185, 0, 13, 2, 0, 117, 173]
abbrev dktX11_of_0 : List UInt8 := dkwX11_of_0 ++ []
theorem dksX11_of_0 : cX11_of.data.toList.drop 0 = dktX11_of_0 := by decide +kernel
theorem dX11_of_0 : decode cX11_of 0 = .ok (.aload_n 0, 1) := dk_42 (dk_at dksX11_of_0 0 rfl rfl)
theorem dX11_of_1 : decode cX11_of 1 = .ok (.getfield 7, 3) := dk_180 0 7 (dk_at dksX11_of_0 1 rfl rfl)
theorem dX11_of_4 : decode cX11_of 4 = .ok (.aload_n 1, 1) := dk_43 (dk_at dksX11_of_0 4 rfl rfl)
theorem dX11_of_5 : decode cX11_of 5 = .ok (.invokeinterface 13 2, 5) := by decide +kernel
theorem dX11_of_10 : decode cX11_of 10 = .ok (.lneg, 1) := dk_117 (dk_at dksX11_of_0 10 rfl rfl)
theorem dX11_of_11 : decode cX11_of 11 = .ok (.lreturn, 1) := dk_173 (dk_at dksX11_of_0 11 rfl rfl)
theorem q148 : (Jvm.Cond.initialized "ThroughPack$Minus") ∈ lw_all := lw_g (lw_at lw_m1 24 rfl) rfl
theorem q703 : (Jvm.Cond.instantiable "ThroughPack$Minus" (1 : Nat)) ∈ lw_all := lw_g (lw_at lw_m3 99 rfl) rfl
theorem q705 : (Jvm.Cond.instanceMethod ({ cls := "ThroughPack$Minus", name := "<init>", desc := "(LThroughPack$Sum;)V" } : Jvm.MethodName)) ∈ lw_all := lw_g (lw_at lw_m3 101 rfl) rfl
theorem q706 : (Jvm.Cond.code ({ cls := "ThroughPack$Minus", name := "<init>", desc := "(LThroughPack$Sum;)V" } : Jvm.MethodName) prog_7_method_1_code (2 : Nat) (Option.none : Option Jvm.ClassFile.FieldType)) ∈ lw_all := lw_g (lw_at lw_m3 102 rfl) rfl
theorem q707 : (Jvm.Cond.methodLink "ThroughPack$Minus" (1 : Nat) ({ cls := "java/lang/Record", name := "<init>", desc := "()V" } : Jvm.MethodName)) ∈ lw_all := lw_g (lw_at lw_m3 103 rfl) rfl
theorem q708 : (Jvm.Cond.fieldLink "ThroughPack$Minus" (7 : Nat) "ThroughPack$Minus" "x" "LThroughPack$Sum;") ∈ lw_all := lw_g (lw_at lw_m3 104 rfl) rfl
theorem q709 : (Jvm.Cond.laysFinal "ThroughPack$Minus" "ThroughPack$Minus" "x" "LThroughPack$Sum;") ∈ lw_all := lw_g (lw_at lw_m3 105 rfl) rfl
theorem q710 : (Jvm.Cond.soleField "ThroughPack$Minus" "x") ∈ lw_all := lw_g (lw_at lw_m3 106 rfl) rfl
theorem q711 : (Jvm.Cond.superclass "ThroughPack$Minus" "java/lang/Record") ∈ lw_all := lw_g (lw_at lw_m3 107 rfl) rfl
theorem q787 : (Jvm.Cond.selects "ThroughPack$Minus" ({ cls := "java/lang/Object", name := "getClass", desc := "()Ljava/lang/Class;" } : Jvm.MethodName) ({ cls := "java/lang/Object", name := "getClass", desc := "()Ljava/lang/Class;" } : Jvm.MethodName)) ∈ lw_all := lw_g (lw_at lw_m3 183 rfl) rfl
theorem q962 : (Jvm.Cond.castable "ThroughPack$Minus" "ThroughPack$Sum") ∈ lw_tbl := lw_at lw_m4 118 rfl
theorem q963 : (Jvm.Cond.selects "ThroughPack$Minus" ({ cls := "ThroughPack$Sum", name := "of", desc := "([I)J" } : Jvm.MethodName) ({ cls := "ThroughPack$Minus", name := "of", desc := "([I)J" } : Jvm.MethodName)) ∈ lw_all := lw_g (lw_at lw_m4 119 rfl) rfl
theorem q964 : (Jvm.Cond.unhidden "ThroughPack$Minus" "of" "([I)J") ∈ lw_tbl := lw_at lw_m4 120 rfl
theorem q965 : (Jvm.Cond.instanceMethod ({ cls := "ThroughPack$Minus", name := "of", desc := "([I)J" } : Jvm.MethodName)) ∈ lw_all := lw_g (lw_at lw_m4 121 rfl) rfl
theorem q966 : (Jvm.Cond.publicMethod ({ cls := "ThroughPack$Minus", name := "of", desc := "([I)J" } : Jvm.MethodName)) ∈ lw_tbl := lw_at lw_m4 122 rfl
theorem q967 : (Jvm.Cond.code ({ cls := "ThroughPack$Minus", name := "of", desc := "([I)J" } : Jvm.MethodName) prog_7_method_2_code (2 : Nat) (Option.some Jvm.ClassFile.FieldType.long)) ∈ lw_all := lw_g (lw_at lw_m4 123 rfl) rfl
theorem q968 : (Jvm.Cond.interfaceEntry "ThroughPack$Minus" (13 : Nat)) ∈ lw_tbl := lw_at lw_m4 124 rfl
theorem q969 : (Jvm.Cond.methodLink "ThroughPack$Minus" (13 : Nat) ({ cls := "ThroughPack$Sum", name := "of", desc := "([I)J" } : Jvm.MethodName)) ∈ lw_all := lw_g (lw_at lw_m4 125 rfl) rfl
theorem q1912 : (Jvm.Cond.castable "ThroughPack$Minus" "java/lang/Object") ∈ lw_tbl := lw_at lw_m8 108 rfl
theorem in_X11 : ∀ w ∈ wsX110, w ∈ lw_all := lw_in wsX110 [709] (by decide +kernel) (by decide +kernel)
/-! ThroughPack$Compared -/
set_option maxRecDepth 100000
def RX12 : String := "ThroughPack$Compared"
def TX12 : u_T := fun k => match k with
  | 0 => ("ThroughPack$Compared", "sign", "I", true)
  | 1 => ("ThroughPack$Compared", "a", "LThroughPack$Sum;", true)
  | _ => ("ThroughPack$Compared", "b", "LThroughPack$Sum;", true)
def tyX12 : Nat → FieldType := fun k => match k with
  | 0 => .int
  | 1 => .object "ThroughPack$Sum"
  | _ => .object "ThroughPack$Sum"
abbrev wsX120 : List Cond := u_ws RX12 TX12 3
theorem nmX12 : ∀ a, a < 3 → ∀ b, b < 3 → a ≠ b → (TX12 a).2.1 ≠ (TX12 b).2.1 := by decide +kernel
theorem tyX12_ok : ∀ k, k < 3 → parseFieldDescriptor (TX12 k).2.2.1 = some (tyX12 k) := by decide +kernel
abbrev cX12_init : ByteArray := prog_5_method_1_code
def yX12_init : MethodName := ⟨RX12, "<init>", "(ILThroughPack$Sum;LThroughPack$Sum;)V"⟩
def dkwX12_init_0 : List UInt8 := [42, 183, 0, 1, 42, 27, 181, 0, 7, 42, 44, 181, 0, 13, 42, 45, 181, 0, 17, 177]
abbrev dktX12_init_0 : List UInt8 := dkwX12_init_0 ++ []
theorem dksX12_init_0 : cX12_init.data.toList.drop 0 = dktX12_init_0 := by decide +kernel
theorem dX12_init_0 : decode cX12_init 0 = .ok (.aload_n 0, 1) := dk_42 (dk_at dksX12_init_0 0 rfl rfl)
theorem dX12_init_1 : decode cX12_init 1 = .ok (.invokespecial 1, 3) := dk_183 0 1 (dk_at dksX12_init_0 1 rfl rfl)
theorem dX12_init_4 : decode cX12_init 4 = .ok (.aload_n 0, 1) := dk_42 (dk_at dksX12_init_0 4 rfl rfl)
theorem dX12_init_5 : decode cX12_init 5 = .ok (.iload_n 1, 1) := dk_27 (dk_at dksX12_init_0 5 rfl rfl)
theorem dX12_init_6 : decode cX12_init 6 = .ok (.putfield 7, 3) := dk_181 0 7 (dk_at dksX12_init_0 6 rfl rfl)
theorem dX12_init_9 : decode cX12_init 9 = .ok (.aload_n 0, 1) := dk_42 (dk_at dksX12_init_0 9 rfl rfl)
theorem dX12_init_10 : decode cX12_init 10 = .ok (.aload_n 2, 1) := dk_44 (dk_at dksX12_init_0 10 rfl rfl)
theorem dX12_init_11 : decode cX12_init 11 = .ok (.putfield 13, 3) := dk_181 0 13 (dk_at dksX12_init_0 11 rfl rfl)
theorem dX12_init_14 : decode cX12_init 14 = .ok (.aload_n 0, 1) := dk_42 (dk_at dksX12_init_0 14 rfl rfl)
theorem dX12_init_15 : decode cX12_init 15 = .ok (.aload_n 3, 1) := dk_45 (dk_at dksX12_init_0 15 rfl rfl)
theorem dX12_init_16 : decode cX12_init 16 = .ok (.putfield 17, 3) := dk_181 0 17 (dk_at dksX12_init_0 16 rfl rfl)
theorem dX12_init_19 : decode cX12_init 19 = .ok (.return_, 1) := dk_177 (dk_at dksX12_init_0 19 rfl rfl)
abbrev cX12_is : ByteArray := prog_5_method_2_code
def yX12_is : MethodName := ⟨RX12, "is", "([I)Z"⟩
def dkwX12_is_5 : List UInt8 := [32, 9, 148, 157, 0, 7, 4, 167, 0, 4, 3, 172, 32, 9, 148, 155, 0, 7, 4, 167, 0, 4, 3, 172]
abbrev dktX12_is_5 : List UInt8 := dkwX12_is_5 ++ []
def dkwX12_is_4 : List UInt8 := [32, 9, 148, 154, 0, 7, 4, 167, 0, 4, 3, 172, 32, 9, 148, 153, 0, 7, 4, 167, 0, 4, 3, 172]
abbrev dktX12_is_4 : List UInt8 := dkwX12_is_4 ++ dktX12_is_5
def dkwX12_is_3 : List UInt8 := [32, 9, 148, 156, 0, 7, 4, 167, 0, 4, 3, 172, 32, 9, 148, 158, 0, 7, 4, 167, 0, 4, 3, 172]
abbrev dktX12_is_3 : List UInt8 := dkwX12_is_3 ++ dktX12_is_4
def dkwX12_is_2 : List UInt8 := [171, 0, 0, 0, 0, 110, 0, 0, 0, 5, 0, 0, 0, 35, 0, 0, 0, 86, 0, 0, 0, 60, 0, 0, 0, 50, 0, 0, 0, 61, 0, 0, 0, 74, 0, 0, 0, 62, 0, 0, 0, 62, 0, 0, 1, 47, 0, 0, 0, 98]
abbrev dktX12_is_2 : List UInt8 := dkwX12_is_2 ++ dktX12_is_3
def dkwX12_is_1 : List UInt8 := [180, 0, 7]
abbrev dktX12_is_1 : List UInt8 := dkwX12_is_1 ++ dktX12_is_2
def dkwX12_is_0 : List UInt8 := [42, 180, 0, 13, 43, 185, 0, 20, 2, 0, 42, 180, 0, 17, 43, 185, 0, 20, 2, 0, 101, 65, 42]
abbrev dktX12_is_0 : List UInt8 := dkwX12_is_0 ++ dktX12_is_1
theorem dksX12_is_0 : cX12_is.data.toList.drop 0 = dktX12_is_0 := by decide +kernel
theorem dksX12_is_1 : cX12_is.data.toList.drop 23 = dktX12_is_1 := dk_seg dksX12_is_0 23 rfl rfl
theorem dksX12_is_2 : cX12_is.data.toList.drop 26 = dktX12_is_2 := dk_seg dksX12_is_1 3 rfl rfl
theorem dksX12_is_3 : cX12_is.data.toList.drop 76 = dktX12_is_3 := dk_seg dksX12_is_2 50 rfl rfl
theorem dksX12_is_4 : cX12_is.data.toList.drop 100 = dktX12_is_4 := dk_seg dksX12_is_3 24 rfl rfl
theorem dksX12_is_5 : cX12_is.data.toList.drop 124 = dktX12_is_5 := dk_seg dksX12_is_4 24 rfl rfl
theorem dX12_is_0 : decode cX12_is 0 = .ok (.aload_n 0, 1) := dk_42 (dk_at dksX12_is_0 0 rfl rfl)
theorem dX12_is_1 : decode cX12_is 1 = .ok (.getfield 13, 3) := dk_180 0 13 (dk_at dksX12_is_0 1 rfl rfl)
theorem dX12_is_4 : decode cX12_is 4 = .ok (.aload_n 1, 1) := dk_43 (dk_at dksX12_is_0 4 rfl rfl)
theorem dX12_is_5 : decode cX12_is 5 = .ok (.invokeinterface 20 2, 5) := by decide +kernel
theorem dX12_is_10 : decode cX12_is 10 = .ok (.aload_n 0, 1) := dk_42 (dk_at dksX12_is_0 10 rfl rfl)
theorem dX12_is_11 : decode cX12_is 11 = .ok (.getfield 17, 3) := dk_180 0 17 (dk_at dksX12_is_0 11 rfl rfl)
theorem dX12_is_14 : decode cX12_is 14 = .ok (.aload_n 1, 1) := dk_43 (dk_at dksX12_is_0 14 rfl rfl)
theorem dX12_is_15 : decode cX12_is 15 = .ok (.invokeinterface 20 2, 5) := by decide +kernel
theorem dX12_is_20 : decode cX12_is 20 = .ok (.lsub, 1) := dk_101 (dk_at dksX12_is_0 20 rfl rfl)
theorem dX12_is_21 : decode cX12_is 21 = .ok (.lstore_n 2, 1) := dk_65 (dk_at dksX12_is_0 21 rfl rfl)
theorem dX12_is_22 : decode cX12_is 22 = .ok (.aload_n 0, 1) := dk_42 (dk_at dksX12_is_0 22 rfl rfl)
theorem dX12_is_23 : decode cX12_is 23 = .ok (.getfield 7, 3) := dk_180 0 7 (dk_at dksX12_is_1 0 rfl rfl)
theorem dX12_is_26 : decode cX12_is 26 = .ok (.lookupswitch 110 #[(35, 86), (60, 50), (61, 74), (62, 62), (303, 98)], 50) := by decide +kernel
theorem dX12_is_76 : decode cX12_is 76 = .ok (.lload_n 2, 1) := dk_32 (dk_at dksX12_is_3 0 rfl rfl)
theorem dX12_is_77 : decode cX12_is 77 = .ok (.lconst 0, 1) := dk_9 (dk_at dksX12_is_3 1 rfl rfl)
theorem dX12_is_78 : decode cX12_is 78 = .ok (.lcmp, 1) := dk_148 (dk_at dksX12_is_3 2 rfl rfl)
theorem dX12_is_79 : decode cX12_is 79 = .ok (.ifCond .ge 7, 3) := dk_156 0 7 (dk_at dksX12_is_3 3 rfl rfl)
theorem dX12_is_82 : decode cX12_is 82 = .ok (.iconst 1, 1) := dk_4 (dk_at dksX12_is_3 6 rfl rfl)
theorem dX12_is_83 : decode cX12_is 83 = .ok (.goto 4, 3) := dk_167 0 4 (dk_at dksX12_is_3 7 rfl rfl)
theorem dX12_is_86 : decode cX12_is 86 = .ok (.iconst 0, 1) := dk_3 (dk_at dksX12_is_3 10 rfl rfl)
theorem dX12_is_87 : decode cX12_is 87 = .ok (.ireturn, 1) := dk_172 (dk_at dksX12_is_3 11 rfl rfl)
theorem dX12_is_88 : decode cX12_is 88 = .ok (.lload_n 2, 1) := dk_32 (dk_at dksX12_is_3 12 rfl rfl)
theorem dX12_is_89 : decode cX12_is 89 = .ok (.lconst 0, 1) := dk_9 (dk_at dksX12_is_3 13 rfl rfl)
theorem dX12_is_90 : decode cX12_is 90 = .ok (.lcmp, 1) := dk_148 (dk_at dksX12_is_3 14 rfl rfl)
theorem dX12_is_91 : decode cX12_is 91 = .ok (.ifCond .le 7, 3) := dk_158 0 7 (dk_at dksX12_is_3 15 rfl rfl)
theorem dX12_is_94 : decode cX12_is 94 = .ok (.iconst 1, 1) := dk_4 (dk_at dksX12_is_3 18 rfl rfl)
theorem dX12_is_95 : decode cX12_is 95 = .ok (.goto 4, 3) := dk_167 0 4 (dk_at dksX12_is_3 19 rfl rfl)
theorem dX12_is_98 : decode cX12_is 98 = .ok (.iconst 0, 1) := dk_3 (dk_at dksX12_is_3 22 rfl rfl)
theorem dX12_is_99 : decode cX12_is 99 = .ok (.ireturn, 1) := dk_172 (dk_at dksX12_is_3 23 rfl rfl)
theorem dX12_is_100 : decode cX12_is 100 = .ok (.lload_n 2, 1) := dk_32 (dk_at dksX12_is_4 0 rfl rfl)
theorem dX12_is_101 : decode cX12_is 101 = .ok (.lconst 0, 1) := dk_9 (dk_at dksX12_is_4 1 rfl rfl)
theorem dX12_is_102 : decode cX12_is 102 = .ok (.lcmp, 1) := dk_148 (dk_at dksX12_is_4 2 rfl rfl)
theorem dX12_is_103 : decode cX12_is 103 = .ok (.ifCond .ne 7, 3) := dk_154 0 7 (dk_at dksX12_is_4 3 rfl rfl)
theorem dX12_is_106 : decode cX12_is 106 = .ok (.iconst 1, 1) := dk_4 (dk_at dksX12_is_4 6 rfl rfl)
theorem dX12_is_107 : decode cX12_is 107 = .ok (.goto 4, 3) := dk_167 0 4 (dk_at dksX12_is_4 7 rfl rfl)
theorem dX12_is_110 : decode cX12_is 110 = .ok (.iconst 0, 1) := dk_3 (dk_at dksX12_is_4 10 rfl rfl)
theorem dX12_is_111 : decode cX12_is 111 = .ok (.ireturn, 1) := dk_172 (dk_at dksX12_is_4 11 rfl rfl)
theorem dX12_is_112 : decode cX12_is 112 = .ok (.lload_n 2, 1) := dk_32 (dk_at dksX12_is_4 12 rfl rfl)
theorem dX12_is_113 : decode cX12_is 113 = .ok (.lconst 0, 1) := dk_9 (dk_at dksX12_is_4 13 rfl rfl)
theorem dX12_is_114 : decode cX12_is 114 = .ok (.lcmp, 1) := dk_148 (dk_at dksX12_is_4 14 rfl rfl)
theorem dX12_is_115 : decode cX12_is 115 = .ok (.ifCond .eq 7, 3) := dk_153 0 7 (dk_at dksX12_is_4 15 rfl rfl)
theorem dX12_is_118 : decode cX12_is 118 = .ok (.iconst 1, 1) := dk_4 (dk_at dksX12_is_4 18 rfl rfl)
theorem dX12_is_119 : decode cX12_is 119 = .ok (.goto 4, 3) := dk_167 0 4 (dk_at dksX12_is_4 19 rfl rfl)
theorem dX12_is_122 : decode cX12_is 122 = .ok (.iconst 0, 1) := dk_3 (dk_at dksX12_is_4 22 rfl rfl)
theorem dX12_is_123 : decode cX12_is 123 = .ok (.ireturn, 1) := dk_172 (dk_at dksX12_is_4 23 rfl rfl)
theorem dX12_is_124 : decode cX12_is 124 = .ok (.lload_n 2, 1) := dk_32 (dk_at dksX12_is_5 0 rfl rfl)
theorem dX12_is_125 : decode cX12_is 125 = .ok (.lconst 0, 1) := dk_9 (dk_at dksX12_is_5 1 rfl rfl)
theorem dX12_is_126 : decode cX12_is 126 = .ok (.lcmp, 1) := dk_148 (dk_at dksX12_is_5 2 rfl rfl)
theorem dX12_is_127 : decode cX12_is 127 = .ok (.ifCond .gt 7, 3) := dk_157 0 7 (dk_at dksX12_is_5 3 rfl rfl)
theorem dX12_is_130 : decode cX12_is 130 = .ok (.iconst 1, 1) := dk_4 (dk_at dksX12_is_5 6 rfl rfl)
theorem dX12_is_131 : decode cX12_is 131 = .ok (.goto 4, 3) := dk_167 0 4 (dk_at dksX12_is_5 7 rfl rfl)
theorem dX12_is_134 : decode cX12_is 134 = .ok (.iconst 0, 1) := dk_3 (dk_at dksX12_is_5 10 rfl rfl)
theorem dX12_is_135 : decode cX12_is 135 = .ok (.ireturn, 1) := dk_172 (dk_at dksX12_is_5 11 rfl rfl)
theorem dX12_is_136 : decode cX12_is 136 = .ok (.lload_n 2, 1) := dk_32 (dk_at dksX12_is_5 12 rfl rfl)
theorem dX12_is_137 : decode cX12_is 137 = .ok (.lconst 0, 1) := dk_9 (dk_at dksX12_is_5 13 rfl rfl)
theorem dX12_is_138 : decode cX12_is 138 = .ok (.lcmp, 1) := dk_148 (dk_at dksX12_is_5 14 rfl rfl)
theorem dX12_is_139 : decode cX12_is 139 = .ok (.ifCond .lt 7, 3) := dk_155 0 7 (dk_at dksX12_is_5 15 rfl rfl)
theorem dX12_is_142 : decode cX12_is 142 = .ok (.iconst 1, 1) := dk_4 (dk_at dksX12_is_5 18 rfl rfl)
theorem dX12_is_143 : decode cX12_is 143 = .ok (.goto 4, 3) := dk_167 0 4 (dk_at dksX12_is_5 19 rfl rfl)
theorem dX12_is_146 : decode cX12_is 146 = .ok (.iconst 0, 1) := dk_3 (dk_at dksX12_is_5 22 rfl rfl)
theorem dX12_is_147 : decode cX12_is 147 = .ok (.ireturn, 1) := dk_172 (dk_at dksX12_is_5 23 rfl rfl)
theorem q153 : (Jvm.Cond.initialized "ThroughPack$Compared") ∈ lw_all := lw_g (lw_at lw_m1 29 rfl) rfl
theorem q785 : (Jvm.Cond.selects "ThroughPack$Compared" ({ cls := "java/lang/Object", name := "getClass", desc := "()Ljava/lang/Class;" } : Jvm.MethodName) ({ cls := "java/lang/Object", name := "getClass", desc := "()Ljava/lang/Class;" } : Jvm.MethodName)) ∈ lw_all := lw_g (lw_at lw_m3 181 rfl) rfl
theorem q818 : (Jvm.Cond.instantiable "ThroughPack$Compared" (3 : Nat)) ∈ lw_all := lw_g (lw_at lw_m3 214 rfl) rfl
theorem q820 : (Jvm.Cond.instanceMethod ({ cls := "ThroughPack$Compared", name := "<init>", desc := "(ILThroughPack$Sum;LThroughPack$Sum;)V" } : Jvm.MethodName)) ∈ lw_all := lw_g (lw_at lw_m3 216 rfl) rfl
theorem q821 : (Jvm.Cond.code ({ cls := "ThroughPack$Compared", name := "<init>", desc := "(ILThroughPack$Sum;LThroughPack$Sum;)V" } : Jvm.MethodName) prog_5_method_1_code (4 : Nat) (Option.none : Option Jvm.ClassFile.FieldType)) ∈ lw_all := lw_g (lw_at lw_m3 217 rfl) rfl
theorem q822 : (Jvm.Cond.methodLink "ThroughPack$Compared" (1 : Nat) ({ cls := "java/lang/Record", name := "<init>", desc := "()V" } : Jvm.MethodName)) ∈ lw_all := lw_g (lw_at lw_m3 218 rfl) rfl
theorem q823 : (Jvm.Cond.fieldLink "ThroughPack$Compared" (7 : Nat) "ThroughPack$Compared" "sign" "I") ∈ lw_all := lw_g (lw_at lw_m3 219 rfl) rfl
theorem q824 : (Jvm.Cond.fieldLink "ThroughPack$Compared" (13 : Nat) "ThroughPack$Compared" "a" "LThroughPack$Sum;") ∈ lw_all := lw_g (lw_at lw_m3 220 rfl) rfl
theorem q825 : (Jvm.Cond.fieldLink "ThroughPack$Compared" (17 : Nat) "ThroughPack$Compared" "b" "LThroughPack$Sum;") ∈ lw_all := lw_g (lw_at lw_m3 221 rfl) rfl
theorem q826 : (Jvm.Cond.laysFinal "ThroughPack$Compared" "ThroughPack$Compared" "sign" "I") ∈ lw_all := lw_g (lw_at lw_m3 222 rfl) rfl
theorem q827 : (Jvm.Cond.soleField "ThroughPack$Compared" "sign") ∈ lw_all := lw_g (lw_at lw_m3 223 rfl) rfl
theorem q828 : (Jvm.Cond.laysFinal "ThroughPack$Compared" "ThroughPack$Compared" "a" "LThroughPack$Sum;") ∈ lw_all := lw_g (lw_at lw_m3 224 rfl) rfl
theorem q829 : (Jvm.Cond.soleField "ThroughPack$Compared" "a") ∈ lw_all := lw_g (lw_at lw_m3 225 rfl) rfl
theorem q830 : (Jvm.Cond.laysFinal "ThroughPack$Compared" "ThroughPack$Compared" "b" "LThroughPack$Sum;") ∈ lw_all := lw_g (lw_at lw_m3 226 rfl) rfl
theorem q831 : (Jvm.Cond.soleField "ThroughPack$Compared" "b") ∈ lw_all := lw_g (lw_at lw_m3 227 rfl) rfl
theorem q832 : (Jvm.Cond.superclass "ThroughPack$Compared" "java/lang/Record") ∈ lw_all := lw_g (lw_at lw_m3 228 rfl) rfl
theorem q944 : (Jvm.Cond.castable "ThroughPack$Compared" "ThroughPack$Asked") ∈ lw_tbl := lw_at lw_m4 100 rfl
theorem q945 : (Jvm.Cond.selects "ThroughPack$Compared" ({ cls := "ThroughPack$Asked", name := "is", desc := "([I)Z" } : Jvm.MethodName) ({ cls := "ThroughPack$Compared", name := "is", desc := "([I)Z" } : Jvm.MethodName)) ∈ lw_all := lw_g (lw_at lw_m4 101 rfl) rfl
theorem q946 : (Jvm.Cond.unhidden "ThroughPack$Compared" "is" "([I)Z") ∈ lw_tbl := lw_at lw_m4 102 rfl
theorem q947 : (Jvm.Cond.instanceMethod ({ cls := "ThroughPack$Compared", name := "is", desc := "([I)Z" } : Jvm.MethodName)) ∈ lw_all := lw_g (lw_at lw_m4 103 rfl) rfl
theorem q948 : (Jvm.Cond.publicMethod ({ cls := "ThroughPack$Compared", name := "is", desc := "([I)Z" } : Jvm.MethodName)) ∈ lw_tbl := lw_at lw_m4 104 rfl
theorem q949 : (Jvm.Cond.code ({ cls := "ThroughPack$Compared", name := "is", desc := "([I)Z" } : Jvm.MethodName) prog_5_method_2_code (4 : Nat) (Option.some Jvm.ClassFile.FieldType.boolean)) ∈ lw_all := lw_g (lw_at lw_m4 105 rfl) rfl
theorem q950 : (Jvm.Cond.interfaceEntry "ThroughPack$Compared" (20 : Nat)) ∈ lw_tbl := lw_at lw_m4 106 rfl
theorem q951 : (Jvm.Cond.methodLink "ThroughPack$Compared" (20 : Nat) ({ cls := "ThroughPack$Sum", name := "of", desc := "([I)J" } : Jvm.MethodName)) ∈ lw_all := lw_g (lw_at lw_m4 107 rfl) rfl
theorem q1914 : (Jvm.Cond.castable "ThroughPack$Compared" "java/lang/Object") ∈ lw_tbl := lw_at lw_m8 110 rfl
theorem in_X12 : ∀ w ∈ wsX120, w ∈ lw_all := lw_in wsX120 [826, 828, 830] (by decide +kernel) (by decide +kernel)
/-! ThroughPack$All -/
set_option maxRecDepth 100000
def RX13 : String := "ThroughPack$All"
def TX13 : u_T := fun k => match k with
  | 0 => ("ThroughPack$All", "and", "Z", true)
  | _ => ("ThroughPack$All", "of", "Ljava/util/ArrayList;", true)
def tyX13 : Nat → FieldType := fun k => match k with
  | 0 => .boolean
  | _ => .object "java/util/ArrayList"
abbrev wsX130 : List Cond := u_ws RX13 TX13 2
theorem nmX13 : ∀ a, a < 2 → ∀ b, b < 2 → a ≠ b → (TX13 a).2.1 ≠ (TX13 b).2.1 := by decide +kernel
theorem tyX13_ok : ∀ k, k < 2 → parseFieldDescriptor (TX13 k).2.2.1 = some (tyX13 k) := by decide +kernel
abbrev cX13_init : ByteArray := prog_2_method_1_code
def yX13_init : MethodName := ⟨RX13, "<init>", "(ZLjava/util/ArrayList;)V"⟩
def dkwX13_init_0 : List UInt8 := [42, 183, 0, 1, 42, 27, 181, 0, 7, 42, 44, 181, 0, 13, 177]
abbrev dktX13_init_0 : List UInt8 := dkwX13_init_0 ++ []
theorem dksX13_init_0 : cX13_init.data.toList.drop 0 = dktX13_init_0 := by decide +kernel
theorem dX13_init_0 : decode cX13_init 0 = .ok (.aload_n 0, 1) := dk_42 (dk_at dksX13_init_0 0 rfl rfl)
theorem dX13_init_1 : decode cX13_init 1 = .ok (.invokespecial 1, 3) := dk_183 0 1 (dk_at dksX13_init_0 1 rfl rfl)
theorem dX13_init_4 : decode cX13_init 4 = .ok (.aload_n 0, 1) := dk_42 (dk_at dksX13_init_0 4 rfl rfl)
theorem dX13_init_5 : decode cX13_init 5 = .ok (.iload_n 1, 1) := dk_27 (dk_at dksX13_init_0 5 rfl rfl)
theorem dX13_init_6 : decode cX13_init 6 = .ok (.putfield 7, 3) := dk_181 0 7 (dk_at dksX13_init_0 6 rfl rfl)
theorem dX13_init_9 : decode cX13_init 9 = .ok (.aload_n 0, 1) := dk_42 (dk_at dksX13_init_0 9 rfl rfl)
theorem dX13_init_10 : decode cX13_init 10 = .ok (.aload_n 2, 1) := dk_44 (dk_at dksX13_init_0 10 rfl rfl)
theorem dX13_init_11 : decode cX13_init 11 = .ok (.putfield 13, 3) := dk_181 0 13 (dk_at dksX13_init_0 11 rfl rfl)
theorem dX13_init_14 : decode cX13_init 14 = .ok (.return_, 1) := dk_177 (dk_at dksX13_init_0 14 rfl rfl)
abbrev cX13_is : ByteArray := prog_2_method_2_code
def yX13_is : MethodName := ⟨RX13, "is", "([I)Z"⟩
def dkwX13_is_3 : List UInt8 := [167, 0, 16, 3, 167, 0, 12, 28, 158, 0, 7, 4, 167, 0, 4, 3, 172]
abbrev dktX13_is_3 : List UInt8 := dkwX13_is_3 ++ []
def dkwX13_is_2 : List UInt8 := [167, 255, 214, 42, 180, 0, 7, 153, 0, 22, 28, 42, 180, 0, 13, 182, 0, 17, 160, 0, 7, 4]
abbrev dktX13_is_2 : List UInt8 := dkwX13_is_2 ++ dktX13_is_3
def dkwX13_is_1 : List UInt8 := [192, 0, 27, 43, 185, 0, 29, 2, 0, 153, 0, 7, 4, 167, 0, 4, 3, 96, 61, 132, 3, 1]
abbrev dktX13_is_1 : List UInt8 := dkwX13_is_1 ++ dktX13_is_2
def dkwX13_is_0 : List UInt8 := [3, 61, 3, 62, 29, 42, 180, 0, 13, 182, 0, 17, 162, 0, 37, 28, 42, 180, 0, 13, 29, 182, 0, 23]
abbrev dktX13_is_0 : List UInt8 := dkwX13_is_0 ++ dktX13_is_1
theorem dksX13_is_0 : cX13_is.data.toList.drop 0 = dktX13_is_0 := by decide +kernel
theorem dksX13_is_1 : cX13_is.data.toList.drop 24 = dktX13_is_1 := dk_seg dksX13_is_0 24 rfl rfl
theorem dksX13_is_2 : cX13_is.data.toList.drop 46 = dktX13_is_2 := dk_seg dksX13_is_1 22 rfl rfl
theorem dksX13_is_3 : cX13_is.data.toList.drop 68 = dktX13_is_3 := dk_seg dksX13_is_2 22 rfl rfl
theorem dX13_is_0 : decode cX13_is 0 = .ok (.iconst 0, 1) := dk_3 (dk_at dksX13_is_0 0 rfl rfl)
theorem dX13_is_1 : decode cX13_is 1 = .ok (.istore_n 2, 1) := dk_61 (dk_at dksX13_is_0 1 rfl rfl)
theorem dX13_is_2 : decode cX13_is 2 = .ok (.iconst 0, 1) := dk_3 (dk_at dksX13_is_0 2 rfl rfl)
theorem dX13_is_3 : decode cX13_is 3 = .ok (.istore_n 3, 1) := dk_62 (dk_at dksX13_is_0 3 rfl rfl)
theorem dX13_is_4 : decode cX13_is 4 = .ok (.iload_n 3, 1) := dk_29 (dk_at dksX13_is_0 4 rfl rfl)
theorem dX13_is_5 : decode cX13_is 5 = .ok (.aload_n 0, 1) := dk_42 (dk_at dksX13_is_0 5 rfl rfl)
theorem dX13_is_6 : decode cX13_is 6 = .ok (.getfield 13, 3) := dk_180 0 13 (dk_at dksX13_is_0 6 rfl rfl)
theorem dX13_is_9 : decode cX13_is 9 = .ok (.invokevirtual 17, 3) := dk_182 0 17 (dk_at dksX13_is_0 9 rfl rfl)
theorem dX13_is_12 : decode cX13_is 12 = .ok (.if_icmp .ge 37, 3) := dk_162 0 37 (dk_at dksX13_is_0 12 rfl rfl)
theorem dX13_is_15 : decode cX13_is 15 = .ok (.iload_n 2, 1) := dk_28 (dk_at dksX13_is_0 15 rfl rfl)
theorem dX13_is_16 : decode cX13_is 16 = .ok (.aload_n 0, 1) := dk_42 (dk_at dksX13_is_0 16 rfl rfl)
theorem dX13_is_17 : decode cX13_is 17 = .ok (.getfield 13, 3) := dk_180 0 13 (dk_at dksX13_is_0 17 rfl rfl)
theorem dX13_is_20 : decode cX13_is 20 = .ok (.iload_n 3, 1) := dk_29 (dk_at dksX13_is_0 20 rfl rfl)
theorem dX13_is_21 : decode cX13_is 21 = .ok (.invokevirtual 23, 3) := dk_182 0 23 (dk_at dksX13_is_0 21 rfl rfl)
theorem dX13_is_24 : decode cX13_is 24 = .ok (.checkcast 27, 3) := dk_192 0 27 (dk_at dksX13_is_1 0 rfl rfl)
theorem dX13_is_27 : decode cX13_is 27 = .ok (.aload_n 1, 1) := dk_43 (dk_at dksX13_is_1 3 rfl rfl)
theorem dX13_is_28 : decode cX13_is 28 = .ok (.invokeinterface 29 2, 5) := by decide +kernel
theorem dX13_is_33 : decode cX13_is 33 = .ok (.ifCond .eq 7, 3) := dk_153 0 7 (dk_at dksX13_is_1 9 rfl rfl)
theorem dX13_is_36 : decode cX13_is 36 = .ok (.iconst 1, 1) := dk_4 (dk_at dksX13_is_1 12 rfl rfl)
theorem dX13_is_37 : decode cX13_is 37 = .ok (.goto 4, 3) := dk_167 0 4 (dk_at dksX13_is_1 13 rfl rfl)
theorem dX13_is_40 : decode cX13_is 40 = .ok (.iconst 0, 1) := dk_3 (dk_at dksX13_is_1 16 rfl rfl)
theorem dX13_is_41 : decode cX13_is 41 = .ok (.iadd, 1) := dk_96 (dk_at dksX13_is_1 17 rfl rfl)
theorem dX13_is_42 : decode cX13_is 42 = .ok (.istore_n 2, 1) := dk_61 (dk_at dksX13_is_1 18 rfl rfl)
theorem dX13_is_43 : decode cX13_is 43 = .ok (.iinc 3 1, 3) := dk_132 3 1 (dk_at dksX13_is_1 19 rfl rfl)
theorem dX13_is_46 : decode cX13_is 46 = .ok (.goto (-42), 3) := dk_167 255 214 (dk_at dksX13_is_2 0 rfl rfl)
theorem dX13_is_49 : decode cX13_is 49 = .ok (.aload_n 0, 1) := dk_42 (dk_at dksX13_is_2 3 rfl rfl)
theorem dX13_is_50 : decode cX13_is 50 = .ok (.getfield 7, 3) := dk_180 0 7 (dk_at dksX13_is_2 4 rfl rfl)
theorem dX13_is_53 : decode cX13_is 53 = .ok (.ifCond .eq 22, 3) := dk_153 0 22 (dk_at dksX13_is_2 7 rfl rfl)
theorem dX13_is_56 : decode cX13_is 56 = .ok (.iload_n 2, 1) := dk_28 (dk_at dksX13_is_2 10 rfl rfl)
theorem dX13_is_57 : decode cX13_is 57 = .ok (.aload_n 0, 1) := dk_42 (dk_at dksX13_is_2 11 rfl rfl)
theorem dX13_is_58 : decode cX13_is 58 = .ok (.getfield 13, 3) := dk_180 0 13 (dk_at dksX13_is_2 12 rfl rfl)
theorem dX13_is_61 : decode cX13_is 61 = .ok (.invokevirtual 17, 3) := dk_182 0 17 (dk_at dksX13_is_2 15 rfl rfl)
theorem dX13_is_64 : decode cX13_is 64 = .ok (.if_icmp .ne 7, 3) := dk_160 0 7 (dk_at dksX13_is_2 18 rfl rfl)
theorem dX13_is_67 : decode cX13_is 67 = .ok (.iconst 1, 1) := dk_4 (dk_at dksX13_is_2 21 rfl rfl)
theorem dX13_is_68 : decode cX13_is 68 = .ok (.goto 16, 3) := dk_167 0 16 (dk_at dksX13_is_3 0 rfl rfl)
theorem dX13_is_71 : decode cX13_is 71 = .ok (.iconst 0, 1) := dk_3 (dk_at dksX13_is_3 3 rfl rfl)
theorem dX13_is_72 : decode cX13_is 72 = .ok (.goto 12, 3) := dk_167 0 12 (dk_at dksX13_is_3 4 rfl rfl)
theorem dX13_is_75 : decode cX13_is 75 = .ok (.iload_n 2, 1) := dk_28 (dk_at dksX13_is_3 7 rfl rfl)
theorem dX13_is_76 : decode cX13_is 76 = .ok (.ifCond .le 7, 3) := dk_158 0 7 (dk_at dksX13_is_3 8 rfl rfl)
theorem dX13_is_79 : decode cX13_is 79 = .ok (.iconst 1, 1) := dk_4 (dk_at dksX13_is_3 11 rfl rfl)
theorem dX13_is_80 : decode cX13_is 80 = .ok (.goto 4, 3) := dk_167 0 4 (dk_at dksX13_is_3 12 rfl rfl)
theorem dX13_is_83 : decode cX13_is 83 = .ok (.iconst 0, 1) := dk_3 (dk_at dksX13_is_3 15 rfl rfl)
theorem dX13_is_84 : decode cX13_is 84 = .ok (.ireturn, 1) := dk_172 (dk_at dksX13_is_3 16 rfl rfl)
theorem q155 : (Jvm.Cond.initialized "ThroughPack$All") ∈ lw_all := lw_g (lw_at lw_m1 31 rfl) rfl
theorem q783 : (Jvm.Cond.selects "ThroughPack$All" ({ cls := "java/lang/Object", name := "getClass", desc := "()Ljava/lang/Class;" } : Jvm.MethodName) ({ cls := "java/lang/Object", name := "getClass", desc := "()Ljava/lang/Class;" } : Jvm.MethodName)) ∈ lw_all := lw_g (lw_at lw_m3 179 rfl) rfl
theorem q852 : (Jvm.Cond.instantiable "ThroughPack$All" (2 : Nat)) ∈ lw_all := lw_g (lw_at lw_m4 8 rfl) rfl
theorem q854 : (Jvm.Cond.instanceMethod ({ cls := "ThroughPack$All", name := "<init>", desc := "(ZLjava/util/ArrayList;)V" } : Jvm.MethodName)) ∈ lw_all := lw_g (lw_at lw_m4 10 rfl) rfl
theorem q855 : (Jvm.Cond.code ({ cls := "ThroughPack$All", name := "<init>", desc := "(ZLjava/util/ArrayList;)V" } : Jvm.MethodName) prog_2_method_1_code (3 : Nat) (Option.none : Option Jvm.ClassFile.FieldType)) ∈ lw_all := lw_g (lw_at lw_m4 11 rfl) rfl
theorem q856 : (Jvm.Cond.methodLink "ThroughPack$All" (1 : Nat) ({ cls := "java/lang/Record", name := "<init>", desc := "()V" } : Jvm.MethodName)) ∈ lw_all := lw_g (lw_at lw_m4 12 rfl) rfl
theorem q857 : (Jvm.Cond.fieldLink "ThroughPack$All" (7 : Nat) "ThroughPack$All" "and" "Z") ∈ lw_all := lw_g (lw_at lw_m4 13 rfl) rfl
theorem q858 : (Jvm.Cond.fieldLink "ThroughPack$All" (13 : Nat) "ThroughPack$All" "of" "Ljava/util/ArrayList;") ∈ lw_all := lw_g (lw_at lw_m4 14 rfl) rfl
theorem q859 : (Jvm.Cond.laysFinal "ThroughPack$All" "ThroughPack$All" "and" "Z") ∈ lw_all := lw_g (lw_at lw_m4 15 rfl) rfl
theorem q860 : (Jvm.Cond.soleField "ThroughPack$All" "and") ∈ lw_all := lw_g (lw_at lw_m4 16 rfl) rfl
theorem q861 : (Jvm.Cond.laysFinal "ThroughPack$All" "ThroughPack$All" "of" "Ljava/util/ArrayList;") ∈ lw_all := lw_g (lw_at lw_m4 17 rfl) rfl
theorem q862 : (Jvm.Cond.soleField "ThroughPack$All" "of") ∈ lw_all := lw_g (lw_at lw_m4 18 rfl) rfl
theorem q863 : (Jvm.Cond.superclass "ThroughPack$All" "java/lang/Record") ∈ lw_all := lw_g (lw_at lw_m4 19 rfl) rfl
theorem q933 : (Jvm.Cond.castable "ThroughPack$All" "ThroughPack$Asked") ∈ lw_tbl := lw_at lw_m4 89 rfl
theorem q934 : (Jvm.Cond.selects "ThroughPack$All" ({ cls := "ThroughPack$Asked", name := "is", desc := "([I)Z" } : Jvm.MethodName) ({ cls := "ThroughPack$All", name := "is", desc := "([I)Z" } : Jvm.MethodName)) ∈ lw_all := lw_g (lw_at lw_m4 90 rfl) rfl
theorem q935 : (Jvm.Cond.unhidden "ThroughPack$All" "is" "([I)Z") ∈ lw_tbl := lw_at lw_m4 91 rfl
theorem q936 : (Jvm.Cond.instanceMethod ({ cls := "ThroughPack$All", name := "is", desc := "([I)Z" } : Jvm.MethodName)) ∈ lw_all := lw_g (lw_at lw_m4 92 rfl) rfl
theorem q937 : (Jvm.Cond.publicMethod ({ cls := "ThroughPack$All", name := "is", desc := "([I)Z" } : Jvm.MethodName)) ∈ lw_tbl := lw_at lw_m4 93 rfl
theorem q938 : (Jvm.Cond.code ({ cls := "ThroughPack$All", name := "is", desc := "([I)Z" } : Jvm.MethodName) prog_2_method_2_code (4 : Nat) (Option.some Jvm.ClassFile.FieldType.boolean)) ∈ lw_all := lw_g (lw_at lw_m4 94 rfl) rfl
theorem q939 : (Jvm.Cond.methodLink "ThroughPack$All" (17 : Nat) ({ cls := "java/util/ArrayList", name := "size", desc := "()I" } : Jvm.MethodName)) ∈ lw_all := lw_g (lw_at lw_m4 95 rfl) rfl
theorem q940 : (Jvm.Cond.methodLink "ThroughPack$All" (23 : Nat) ({ cls := "java/util/ArrayList", name := "get", desc := "(I)Ljava/lang/Object;" } : Jvm.MethodName)) ∈ lw_all := lw_g (lw_at lw_m4 96 rfl) rfl
theorem q941 : (Jvm.Cond.classLink "ThroughPack$All" (27 : Nat) "ThroughPack$Asked") ∈ lw_all := lw_g (lw_at lw_m4 97 rfl) rfl
theorem q942 : (Jvm.Cond.interfaceEntry "ThroughPack$All" (29 : Nat)) ∈ lw_tbl := lw_at lw_m4 98 rfl
theorem q943 : (Jvm.Cond.methodLink "ThroughPack$All" (29 : Nat) ({ cls := "ThroughPack$Asked", name := "is", desc := "([I)Z" } : Jvm.MethodName)) ∈ lw_all := lw_g (lw_at lw_m4 99 rfl) rfl
theorem q1915 : (Jvm.Cond.castable "ThroughPack$All" "java/lang/Object") ∈ lw_tbl := lw_at lw_m8 111 rfl
theorem in_X13 : ∀ w ∈ wsX130, w ∈ lw_all := lw_in wsX130 [859, 861] (by decide +kernel) (by decide +kernel)
/-! ThroughPack$Go -/
set_option maxRecDepth 100000
def RX14 : String := "ThroughPack$Go"
def TX14 : u_T := fun k => match k with
  | 0 => ("ThroughPack$Go", "order", "I", true)
  | _ => ("ThroughPack$Go", "when", "LThroughPack$Asked;", true)
def tyX14 : Nat → FieldType := fun k => match k with
  | 0 => .int
  | _ => .object "ThroughPack$Asked"
abbrev wsX140 : List Cond := u_ws RX14 TX14 2
theorem nmX14 : ∀ a, a < 2 → ∀ b, b < 2 → a ≠ b → (TX14 a).2.1 ≠ (TX14 b).2.1 := by decide +kernel
theorem tyX14_ok : ∀ k, k < 2 → parseFieldDescriptor (TX14 k).2.2.1 = some (tyX14 k) := by decide +kernel
abbrev cX14_init : ByteArray := prog_6_method_1_code
def yX14_init : MethodName := ⟨RX14, "<init>", "(ILThroughPack$Asked;)V"⟩
def dkwX14_init_0 : List UInt8 := [42, 183, 0, 1, 42, 27, 181, 0, 7, 42, 44, 181, 0, 13, 177]
abbrev dktX14_init_0 : List UInt8 := dkwX14_init_0 ++ []
theorem dksX14_init_0 : cX14_init.data.toList.drop 0 = dktX14_init_0 := by decide +kernel
theorem dX14_init_0 : decode cX14_init 0 = .ok (.aload_n 0, 1) := dk_42 (dk_at dksX14_init_0 0 rfl rfl)
theorem dX14_init_1 : decode cX14_init 1 = .ok (.invokespecial 1, 3) := dk_183 0 1 (dk_at dksX14_init_0 1 rfl rfl)
theorem dX14_init_4 : decode cX14_init 4 = .ok (.aload_n 0, 1) := dk_42 (dk_at dksX14_init_0 4 rfl rfl)
theorem dX14_init_5 : decode cX14_init 5 = .ok (.iload_n 1, 1) := dk_27 (dk_at dksX14_init_0 5 rfl rfl)
theorem dX14_init_6 : decode cX14_init 6 = .ok (.putfield 7, 3) := dk_181 0 7 (dk_at dksX14_init_0 6 rfl rfl)
theorem dX14_init_9 : decode cX14_init 9 = .ok (.aload_n 0, 1) := dk_42 (dk_at dksX14_init_0 9 rfl rfl)
theorem dX14_init_10 : decode cX14_init 10 = .ok (.aload_n 2, 1) := dk_44 (dk_at dksX14_init_0 10 rfl rfl)
theorem dX14_init_11 : decode cX14_init 11 = .ok (.putfield 13, 3) := dk_181 0 13 (dk_at dksX14_init_0 11 rfl rfl)
theorem dX14_init_14 : decode cX14_init 14 = .ok (.return_, 1) := dk_177 (dk_at dksX14_init_0 14 rfl rfl)
abbrev cX14_when : ByteArray := prog_6_method_6_code
def yX14_when : MethodName := ⟨RX14, "when", "()LThroughPack$Asked;"⟩
theorem dX14_when_0 : decode cX14_when 0 = .ok (.aload_n 0, 1) := by decide +kernel
theorem dX14_when_1 : decode cX14_when 1 = .ok (.getfield 13, 3) := by decide +kernel
theorem dX14_when_4 : decode cX14_when 4 = .ok (.areturn, 1) := by decide +kernel
abbrev cX14_order : ByteArray := prog_6_method_5_code
def yX14_order : MethodName := ⟨RX14, "order", "()I"⟩
theorem dX14_order_0 : decode cX14_order 0 = .ok (.aload_n 0, 1) := by decide +kernel
theorem dX14_order_1 : decode cX14_order 1 = .ok (.getfield 7, 3) := by decide +kernel
theorem dX14_order_4 : decode cX14_order 4 = .ok (.ireturn, 1) := by decide +kernel
theorem q156 : (Jvm.Cond.initialized "ThroughPack$Go") ∈ lw_all := lw_g (lw_at lw_m1 32 rfl) rfl
theorem q786 : (Jvm.Cond.selects "ThroughPack$Go" ({ cls := "java/lang/Object", name := "getClass", desc := "()Ljava/lang/Class;" } : Jvm.MethodName) ({ cls := "java/lang/Object", name := "getClass", desc := "()Ljava/lang/Class;" } : Jvm.MethodName)) ∈ lw_all := lw_g (lw_at lw_m3 182 rfl) rfl
theorem q865 : (Jvm.Cond.instantiable "ThroughPack$Go" (2 : Nat)) ∈ lw_all := lw_g (lw_at lw_m4 21 rfl) rfl
theorem q867 : (Jvm.Cond.instanceMethod ({ cls := "ThroughPack$Go", name := "<init>", desc := "(ILThroughPack$Asked;)V" } : Jvm.MethodName)) ∈ lw_all := lw_g (lw_at lw_m4 23 rfl) rfl
theorem q868 : (Jvm.Cond.code ({ cls := "ThroughPack$Go", name := "<init>", desc := "(ILThroughPack$Asked;)V" } : Jvm.MethodName) prog_6_method_1_code (3 : Nat) (Option.none : Option Jvm.ClassFile.FieldType)) ∈ lw_all := lw_g (lw_at lw_m4 24 rfl) rfl
theorem q869 : (Jvm.Cond.methodLink "ThroughPack$Go" (1 : Nat) ({ cls := "java/lang/Record", name := "<init>", desc := "()V" } : Jvm.MethodName)) ∈ lw_all := lw_g (lw_at lw_m4 25 rfl) rfl
theorem q870 : (Jvm.Cond.fieldLink "ThroughPack$Go" (7 : Nat) "ThroughPack$Go" "order" "I") ∈ lw_all := lw_g (lw_at lw_m4 26 rfl) rfl
theorem q871 : (Jvm.Cond.fieldLink "ThroughPack$Go" (13 : Nat) "ThroughPack$Go" "when" "LThroughPack$Asked;") ∈ lw_all := lw_g (lw_at lw_m4 27 rfl) rfl
theorem q872 : (Jvm.Cond.laysFinal "ThroughPack$Go" "ThroughPack$Go" "order" "I") ∈ lw_all := lw_g (lw_at lw_m4 28 rfl) rfl
theorem q873 : (Jvm.Cond.soleField "ThroughPack$Go" "order") ∈ lw_all := lw_g (lw_at lw_m4 29 rfl) rfl
theorem q874 : (Jvm.Cond.laysFinal "ThroughPack$Go" "ThroughPack$Go" "when" "LThroughPack$Asked;") ∈ lw_all := lw_g (lw_at lw_m4 30 rfl) rfl
theorem q875 : (Jvm.Cond.soleField "ThroughPack$Go" "when") ∈ lw_all := lw_g (lw_at lw_m4 31 rfl) rfl
theorem q876 : (Jvm.Cond.superclass "ThroughPack$Go" "java/lang/Record") ∈ lw_all := lw_g (lw_at lw_m4 32 rfl) rfl
theorem q1214 : (Jvm.Cond.instanceMethod ({ cls := "ThroughPack$Go", name := "when", desc := "()LThroughPack$Asked;" } : Jvm.MethodName)) ∈ lw_all := lw_g (lw_at lw_m5 130 rfl) rfl
theorem q1215 : (Jvm.Cond.selects "ThroughPack$Go" ({ cls := "ThroughPack$Go", name := "when", desc := "()LThroughPack$Asked;" } : Jvm.MethodName) ({ cls := "ThroughPack$Go", name := "when", desc := "()LThroughPack$Asked;" } : Jvm.MethodName)) ∈ lw_all := lw_g (lw_at lw_m5 131 rfl) rfl
theorem q1216 : (Jvm.Cond.code ({ cls := "ThroughPack$Go", name := "when", desc := "()LThroughPack$Asked;" } : Jvm.MethodName) prog_6_method_6_code (1 : Nat) (Option.some (Jvm.ClassFile.FieldType.object "ThroughPack$Asked"))) ∈ lw_all := lw_g (lw_at lw_m5 132 rfl) rfl
theorem q1220 : (Jvm.Cond.instanceMethod ({ cls := "ThroughPack$Go", name := "order", desc := "()I" } : Jvm.MethodName)) ∈ lw_all := lw_g (lw_at lw_m5 136 rfl) rfl
theorem q1221 : (Jvm.Cond.selects "ThroughPack$Go" ({ cls := "ThroughPack$Go", name := "order", desc := "()I" } : Jvm.MethodName) ({ cls := "ThroughPack$Go", name := "order", desc := "()I" } : Jvm.MethodName)) ∈ lw_all := lw_g (lw_at lw_m5 137 rfl) rfl
theorem q1222 : (Jvm.Cond.code ({ cls := "ThroughPack$Go", name := "order", desc := "()I" } : Jvm.MethodName) prog_6_method_5_code (1 : Nat) (Option.some Jvm.ClassFile.FieldType.int)) ∈ lw_all := lw_g (lw_at lw_m5 138 rfl) rfl
theorem q1916 : (Jvm.Cond.castable "ThroughPack$Go" "java/lang/Object") ∈ lw_tbl := lw_at lw_m8 112 rfl
theorem in_X14 : ∀ w ∈ wsX140, w ∈ lw_all := lw_in wsX140 [872, 874] (by decide +kernel) (by decide +kernel)
