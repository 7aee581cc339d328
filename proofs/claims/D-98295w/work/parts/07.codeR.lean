/-! decode rows, the others and the law -/
set_option maxRecDepth 100000
def dkwJ0_fill_1 : List UInt8 := [167, 255, 242, 177]
abbrev dktJ0_fill_1 : List UInt8 := dkwJ0_fill_1 ++ []
def dkwJ0_fill_0 : List UInt8 := [42, 190, 27, 28, 184, 0, 13, 27, 54, 4, 21, 4, 28, 162, 0, 14, 42, 21, 4, 29, 79, 132, 4, 1]
abbrev dktJ0_fill_0 : List UInt8 := dkwJ0_fill_0 ++ dktJ0_fill_1
theorem dksJ0_fill_0 : cJ0_fill.data.toList.drop 0 = dktJ0_fill_0 := by decide +kernel
theorem dksJ0_fill_1 : cJ0_fill.data.toList.drop 24 = dktJ0_fill_1 := dk_seg dksJ0_fill_0 24 rfl rfl
theorem dJ0_fill_0 : decode cJ0_fill 0 = .ok (.aload_n 0, 1) := dk_42 (dk_at dksJ0_fill_0 0 rfl rfl)
theorem dJ0_fill_1 : decode cJ0_fill 1 = .ok (.arraylength, 1) := dk_190 (dk_at dksJ0_fill_0 1 rfl rfl)
theorem dJ0_fill_2 : decode cJ0_fill 2 = .ok (.iload_n 1, 1) := dk_27 (dk_at dksJ0_fill_0 2 rfl rfl)
theorem dJ0_fill_3 : decode cJ0_fill 3 = .ok (.iload_n 2, 1) := dk_28 (dk_at dksJ0_fill_0 3 rfl rfl)
theorem dJ0_fill_4 : decode cJ0_fill 4 = .ok (.invokestatic 13, 3) := dk_184 0 13 (dk_at dksJ0_fill_0 4 rfl rfl)
theorem dJ0_fill_7 : decode cJ0_fill 7 = .ok (.iload_n 1, 1) := dk_27 (dk_at dksJ0_fill_0 7 rfl rfl)
theorem dJ0_fill_8 : decode cJ0_fill 8 = .ok (.istore 4, 2) := dk_54 4 (dk_at dksJ0_fill_0 8 rfl rfl)
theorem dJ0_fill_10 : decode cJ0_fill 10 = .ok (.iload 4, 2) := dk_21 4 (dk_at dksJ0_fill_0 10 rfl rfl)
theorem dJ0_fill_12 : decode cJ0_fill 12 = .ok (.iload_n 2, 1) := dk_28 (dk_at dksJ0_fill_0 12 rfl rfl)
theorem dJ0_fill_13 : decode cJ0_fill 13 = .ok (.if_icmp .ge 14, 3) := dk_162 0 14 (dk_at dksJ0_fill_0 13 rfl rfl)
theorem dJ0_fill_16 : decode cJ0_fill 16 = .ok (.aload_n 0, 1) := dk_42 (dk_at dksJ0_fill_0 16 rfl rfl)
theorem dJ0_fill_17 : decode cJ0_fill 17 = .ok (.iload 4, 2) := dk_21 4 (dk_at dksJ0_fill_0 17 rfl rfl)
theorem dJ0_fill_19 : decode cJ0_fill 19 = .ok (.iload_n 3, 1) := dk_29 (dk_at dksJ0_fill_0 19 rfl rfl)
theorem dJ0_fill_20 : decode cJ0_fill 20 = .ok (.iastore, 1) := dk_79 (dk_at dksJ0_fill_0 20 rfl rfl)
theorem dJ0_fill_21 : decode cJ0_fill 21 = .ok (.iinc 4 1, 3) := dk_132 4 1 (dk_at dksJ0_fill_0 21 rfl rfl)
theorem dJ0_fill_24 : decode cJ0_fill 24 = .ok (.goto (-14), 3) := dk_167 255 242 (dk_at dksJ0_fill_1 0 rfl rfl)
theorem dJ0_fill_27 : decode cJ0_fill 27 = .ok (.return_, 1) := dk_177 (dk_at dksJ0_fill_1 3 rfl rfl)
def dkwJ0_rangeCheck_3 : List UInt8 := [183, 0, 70, 191, 177]
abbrev dktJ0_rangeCheck_3 : List UInt8 := dkwJ0_rangeCheck_3 ++ []
def dkwJ0_rangeCheck_2 : List UInt8 := [27, 156, 0, 12, 187, 0, 68, 89, 27, 183, 0, 70, 191, 28, 26, 164, 0, 12, 187, 0, 68, 89, 28]
abbrev dktJ0_rangeCheck_2 : List UInt8 := dkwJ0_rangeCheck_2 ++ dktJ0_rangeCheck_3
def dkwJ0_rangeCheck_1 : List UInt8 := [182, 0, 54, 18, 57, 182, 0, 50, 28, 182, 0, 54, 18, 59, 182, 0, 50, 182, 0, 61, 183, 0, 65, 191]
abbrev dktJ0_rangeCheck_1 : List UInt8 := dkwJ0_rangeCheck_1 ++ dktJ0_rangeCheck_2
def dkwJ0_rangeCheck_0 : List UInt8 := [27, 28, 164, 0, 44, 187, 0, 43, 89, 187, 0, 45, 89, 183, 0, 47, 18, 48, 182, 0, 50, 27]
abbrev dktJ0_rangeCheck_0 : List UInt8 := dkwJ0_rangeCheck_0 ++ dktJ0_rangeCheck_1
theorem dksJ0_rangeCheck_0 : cJ0_rangeCheck.data.toList.drop 0 = dktJ0_rangeCheck_0 := by decide +kernel
theorem dksJ0_rangeCheck_1 : cJ0_rangeCheck.data.toList.drop 22 = dktJ0_rangeCheck_1 := dk_seg dksJ0_rangeCheck_0 22 rfl rfl
theorem dksJ0_rangeCheck_2 : cJ0_rangeCheck.data.toList.drop 46 = dktJ0_rangeCheck_2 := dk_seg dksJ0_rangeCheck_1 24 rfl rfl
theorem dksJ0_rangeCheck_3 : cJ0_rangeCheck.data.toList.drop 69 = dktJ0_rangeCheck_3 := dk_seg dksJ0_rangeCheck_2 23 rfl rfl
theorem dJ0_rangeCheck_0 : decode cJ0_rangeCheck 0 = .ok (.iload_n 1, 1) := dk_27 (dk_at dksJ0_rangeCheck_0 0 rfl rfl)
theorem dJ0_rangeCheck_1 : decode cJ0_rangeCheck 1 = .ok (.iload_n 2, 1) := dk_28 (dk_at dksJ0_rangeCheck_0 1 rfl rfl)
theorem dJ0_rangeCheck_2 : decode cJ0_rangeCheck 2 = .ok (.if_icmp .le 44, 3) := dk_164 0 44 (dk_at dksJ0_rangeCheck_0 2 rfl rfl)
theorem dJ0_rangeCheck_5 : decode cJ0_rangeCheck 5 = .ok (.new 43, 3) := dk_187 0 43 (dk_at dksJ0_rangeCheck_0 5 rfl rfl)
theorem dJ0_rangeCheck_8 : decode cJ0_rangeCheck 8 = .ok (.dup, 1) := dk_89 (dk_at dksJ0_rangeCheck_0 8 rfl rfl)
theorem dJ0_rangeCheck_9 : decode cJ0_rangeCheck 9 = .ok (.new 45, 3) := dk_187 0 45 (dk_at dksJ0_rangeCheck_0 9 rfl rfl)
theorem dJ0_rangeCheck_12 : decode cJ0_rangeCheck 12 = .ok (.dup, 1) := dk_89 (dk_at dksJ0_rangeCheck_0 12 rfl rfl)
theorem dJ0_rangeCheck_13 : decode cJ0_rangeCheck 13 = .ok (.invokespecial 47, 3) := dk_183 0 47 (dk_at dksJ0_rangeCheck_0 13 rfl rfl)
theorem dJ0_rangeCheck_16 : decode cJ0_rangeCheck 16 = .ok (.ldc 48, 2) := dk_18 48 (dk_at dksJ0_rangeCheck_0 16 rfl rfl)
theorem dJ0_rangeCheck_18 : decode cJ0_rangeCheck 18 = .ok (.invokevirtual 50, 3) := dk_182 0 50 (dk_at dksJ0_rangeCheck_0 18 rfl rfl)
theorem dJ0_rangeCheck_21 : decode cJ0_rangeCheck 21 = .ok (.iload_n 1, 1) := dk_27 (dk_at dksJ0_rangeCheck_0 21 rfl rfl)
theorem dJ0_rangeCheck_22 : decode cJ0_rangeCheck 22 = .ok (.invokevirtual 54, 3) := dk_182 0 54 (dk_at dksJ0_rangeCheck_1 0 rfl rfl)
theorem dJ0_rangeCheck_25 : decode cJ0_rangeCheck 25 = .ok (.ldc 57, 2) := dk_18 57 (dk_at dksJ0_rangeCheck_1 3 rfl rfl)
theorem dJ0_rangeCheck_27 : decode cJ0_rangeCheck 27 = .ok (.invokevirtual 50, 3) := dk_182 0 50 (dk_at dksJ0_rangeCheck_1 5 rfl rfl)
theorem dJ0_rangeCheck_30 : decode cJ0_rangeCheck 30 = .ok (.iload_n 2, 1) := dk_28 (dk_at dksJ0_rangeCheck_1 8 rfl rfl)
theorem dJ0_rangeCheck_31 : decode cJ0_rangeCheck 31 = .ok (.invokevirtual 54, 3) := dk_182 0 54 (dk_at dksJ0_rangeCheck_1 9 rfl rfl)
theorem dJ0_rangeCheck_34 : decode cJ0_rangeCheck 34 = .ok (.ldc 59, 2) := dk_18 59 (dk_at dksJ0_rangeCheck_1 12 rfl rfl)
theorem dJ0_rangeCheck_36 : decode cJ0_rangeCheck 36 = .ok (.invokevirtual 50, 3) := dk_182 0 50 (dk_at dksJ0_rangeCheck_1 14 rfl rfl)
theorem dJ0_rangeCheck_39 : decode cJ0_rangeCheck 39 = .ok (.invokevirtual 61, 3) := dk_182 0 61 (dk_at dksJ0_rangeCheck_1 17 rfl rfl)
theorem dJ0_rangeCheck_42 : decode cJ0_rangeCheck 42 = .ok (.invokespecial 65, 3) := dk_183 0 65 (dk_at dksJ0_rangeCheck_1 20 rfl rfl)
theorem dJ0_rangeCheck_45 : decode cJ0_rangeCheck 45 = .ok (.athrow, 1) := dk_191 (dk_at dksJ0_rangeCheck_1 23 rfl rfl)
theorem dJ0_rangeCheck_46 : decode cJ0_rangeCheck 46 = .ok (.iload_n 1, 1) := dk_27 (dk_at dksJ0_rangeCheck_2 0 rfl rfl)
theorem dJ0_rangeCheck_47 : decode cJ0_rangeCheck 47 = .ok (.ifCond .ge 12, 3) := dk_156 0 12 (dk_at dksJ0_rangeCheck_2 1 rfl rfl)
theorem dJ0_rangeCheck_50 : decode cJ0_rangeCheck 50 = .ok (.new 68, 3) := dk_187 0 68 (dk_at dksJ0_rangeCheck_2 4 rfl rfl)
theorem dJ0_rangeCheck_53 : decode cJ0_rangeCheck 53 = .ok (.dup, 1) := dk_89 (dk_at dksJ0_rangeCheck_2 7 rfl rfl)
theorem dJ0_rangeCheck_54 : decode cJ0_rangeCheck 54 = .ok (.iload_n 1, 1) := dk_27 (dk_at dksJ0_rangeCheck_2 8 rfl rfl)
theorem dJ0_rangeCheck_55 : decode cJ0_rangeCheck 55 = .ok (.invokespecial 70, 3) := dk_183 0 70 (dk_at dksJ0_rangeCheck_2 9 rfl rfl)
theorem dJ0_rangeCheck_58 : decode cJ0_rangeCheck 58 = .ok (.athrow, 1) := dk_191 (dk_at dksJ0_rangeCheck_2 12 rfl rfl)
theorem dJ0_rangeCheck_59 : decode cJ0_rangeCheck 59 = .ok (.iload_n 2, 1) := dk_28 (dk_at dksJ0_rangeCheck_2 13 rfl rfl)
theorem dJ0_rangeCheck_60 : decode cJ0_rangeCheck 60 = .ok (.iload_n 0, 1) := dk_26 (dk_at dksJ0_rangeCheck_2 14 rfl rfl)
theorem dJ0_rangeCheck_61 : decode cJ0_rangeCheck 61 = .ok (.if_icmp .le 12, 3) := dk_164 0 12 (dk_at dksJ0_rangeCheck_2 15 rfl rfl)
theorem dJ0_rangeCheck_64 : decode cJ0_rangeCheck 64 = .ok (.new 68, 3) := dk_187 0 68 (dk_at dksJ0_rangeCheck_2 18 rfl rfl)
theorem dJ0_rangeCheck_67 : decode cJ0_rangeCheck 67 = .ok (.dup, 1) := dk_89 (dk_at dksJ0_rangeCheck_2 21 rfl rfl)
theorem dJ0_rangeCheck_68 : decode cJ0_rangeCheck 68 = .ok (.iload_n 2, 1) := dk_28 (dk_at dksJ0_rangeCheck_2 22 rfl rfl)
theorem dJ0_rangeCheck_69 : decode cJ0_rangeCheck 69 = .ok (.invokespecial 70, 3) := dk_183 0 70 (dk_at dksJ0_rangeCheck_3 0 rfl rfl)
theorem dJ0_rangeCheck_72 : decode cJ0_rangeCheck 72 = .ok (.athrow, 1) := dk_191 (dk_at dksJ0_rangeCheck_3 3 rfl rfl)
theorem dJ0_rangeCheck_73 : decode cJ0_rangeCheck 73 = .ok (.return_, 1) := dk_177 (dk_at dksJ0_rangeCheck_3 4 rfl rfl)
def dkwJ0_equals_1 : List UInt8 := [159, 0, 5, 3, 172, 42, 43, 28, 184, 0, 254, 156, 0, 7, 4, 167, 0, 4, 3, 172]
abbrev dktJ0_equals_1 : List UInt8 := dkwJ0_equals_1 ++ []
def dkwJ0_equals_0 : List UInt8 := [42, 43, 166, 0, 5, 4, 172, 42, 198, 0, 7, 43, 199, 0, 5, 3, 172, 42, 190, 61, 43, 190, 28]
abbrev dktJ0_equals_0 : List UInt8 := dkwJ0_equals_0 ++ dktJ0_equals_1
theorem dksJ0_equals_0 : cJ0_equals.data.toList.drop 0 = dktJ0_equals_0 := by decide +kernel
theorem dksJ0_equals_1 : cJ0_equals.data.toList.drop 23 = dktJ0_equals_1 := dk_seg dksJ0_equals_0 23 rfl rfl
theorem dJ0_equals_0 : decode cJ0_equals 0 = .ok (.aload_n 0, 1) := dk_42 (dk_at dksJ0_equals_0 0 rfl rfl)
theorem dJ0_equals_1 : decode cJ0_equals 1 = .ok (.aload_n 1, 1) := dk_43 (dk_at dksJ0_equals_0 1 rfl rfl)
theorem dJ0_equals_2 : decode cJ0_equals 2 = .ok (.if_acmp .ne 5, 3) := dk_166 0 5 (dk_at dksJ0_equals_0 2 rfl rfl)
theorem dJ0_equals_5 : decode cJ0_equals 5 = .ok (.iconst 1, 1) := dk_4 (dk_at dksJ0_equals_0 5 rfl rfl)
theorem dJ0_equals_6 : decode cJ0_equals 6 = .ok (.ireturn, 1) := dk_172 (dk_at dksJ0_equals_0 6 rfl rfl)
theorem dJ0_equals_7 : decode cJ0_equals 7 = .ok (.aload_n 0, 1) := dk_42 (dk_at dksJ0_equals_0 7 rfl rfl)
theorem dJ0_equals_8 : decode cJ0_equals 8 = .ok (.ifnull 7, 3) := dk_198 0 7 (dk_at dksJ0_equals_0 8 rfl rfl)
theorem dJ0_equals_11 : decode cJ0_equals 11 = .ok (.aload_n 1, 1) := dk_43 (dk_at dksJ0_equals_0 11 rfl rfl)
theorem dJ0_equals_12 : decode cJ0_equals 12 = .ok (.ifnonnull 5, 3) := dk_199 0 5 (dk_at dksJ0_equals_0 12 rfl rfl)
theorem dJ0_equals_15 : decode cJ0_equals 15 = .ok (.iconst 0, 1) := dk_3 (dk_at dksJ0_equals_0 15 rfl rfl)
theorem dJ0_equals_16 : decode cJ0_equals 16 = .ok (.ireturn, 1) := dk_172 (dk_at dksJ0_equals_0 16 rfl rfl)
theorem dJ0_equals_17 : decode cJ0_equals 17 = .ok (.aload_n 0, 1) := dk_42 (dk_at dksJ0_equals_0 17 rfl rfl)
theorem dJ0_equals_18 : decode cJ0_equals 18 = .ok (.arraylength, 1) := dk_190 (dk_at dksJ0_equals_0 18 rfl rfl)
theorem dJ0_equals_19 : decode cJ0_equals 19 = .ok (.istore_n 2, 1) := dk_61 (dk_at dksJ0_equals_0 19 rfl rfl)
theorem dJ0_equals_20 : decode cJ0_equals 20 = .ok (.aload_n 1, 1) := dk_43 (dk_at dksJ0_equals_0 20 rfl rfl)
theorem dJ0_equals_21 : decode cJ0_equals 21 = .ok (.arraylength, 1) := dk_190 (dk_at dksJ0_equals_0 21 rfl rfl)
theorem dJ0_equals_22 : decode cJ0_equals 22 = .ok (.iload_n 2, 1) := dk_28 (dk_at dksJ0_equals_0 22 rfl rfl)
theorem dJ0_equals_23 : decode cJ0_equals 23 = .ok (.if_icmp .eq 5, 3) := dk_159 0 5 (dk_at dksJ0_equals_1 0 rfl rfl)
theorem dJ0_equals_26 : decode cJ0_equals 26 = .ok (.iconst 0, 1) := dk_3 (dk_at dksJ0_equals_1 3 rfl rfl)
theorem dJ0_equals_27 : decode cJ0_equals 27 = .ok (.ireturn, 1) := dk_172 (dk_at dksJ0_equals_1 4 rfl rfl)
theorem dJ0_equals_28 : decode cJ0_equals 28 = .ok (.aload_n 0, 1) := dk_42 (dk_at dksJ0_equals_1 5 rfl rfl)
theorem dJ0_equals_29 : decode cJ0_equals 29 = .ok (.aload_n 1, 1) := dk_43 (dk_at dksJ0_equals_1 6 rfl rfl)
theorem dJ0_equals_30 : decode cJ0_equals 30 = .ok (.iload_n 2, 1) := dk_28 (dk_at dksJ0_equals_1 7 rfl rfl)
theorem dJ0_equals_31 : decode cJ0_equals 31 = .ok (.invokestatic 254, 3) := dk_184 0 254 (dk_at dksJ0_equals_1 8 rfl rfl)
theorem dJ0_equals_34 : decode cJ0_equals 34 = .ok (.ifCond .ge 7, 3) := dk_156 0 7 (dk_at dksJ0_equals_1 11 rfl rfl)
theorem dJ0_equals_37 : decode cJ0_equals 37 = .ok (.iconst 1, 1) := dk_4 (dk_at dksJ0_equals_1 14 rfl rfl)
theorem dJ0_equals_38 : decode cJ0_equals 38 = .ok (.goto 4, 3) := dk_167 0 4 (dk_at dksJ0_equals_1 15 rfl rfl)
theorem dJ0_equals_41 : decode cJ0_equals 41 = .ok (.iconst 0, 1) := dk_3 (dk_at dksJ0_equals_1 18 rfl rfl)
theorem dJ0_equals_42 : decode cJ0_equals 42 = .ok (.ireturn, 1) := dk_172 (dk_at dksJ0_equals_1 19 rfl rfl)
def dkwJ0_copyOf_0 : List UInt8 := [42, 27, 42, 182, 0, 86, 184, 1, 44, 176]
abbrev dktJ0_copyOf_0 : List UInt8 := dkwJ0_copyOf_0 ++ []
theorem dksJ0_copyOf_0 : cJ0_copyOf.data.toList.drop 0 = dktJ0_copyOf_0 := by decide +kernel
theorem dJ0_copyOf_0 : decode cJ0_copyOf 0 = .ok (.aload_n 0, 1) := dk_42 (dk_at dksJ0_copyOf_0 0 rfl rfl)
theorem dJ0_copyOf_1 : decode cJ0_copyOf 1 = .ok (.iload_n 1, 1) := dk_27 (dk_at dksJ0_copyOf_0 1 rfl rfl)
theorem dJ0_copyOf_2 : decode cJ0_copyOf 2 = .ok (.aload_n 0, 1) := dk_42 (dk_at dksJ0_copyOf_0 2 rfl rfl)
theorem dJ0_copyOf_3 : decode cJ0_copyOf 3 = .ok (.invokevirtual 86, 3) := dk_182 0 86 (dk_at dksJ0_copyOf_0 3 rfl rfl)
theorem dJ0_copyOf_6 : decode cJ0_copyOf 6 = .ok (.invokestatic 300, 3) := dk_184 1 44 (dk_at dksJ0_copyOf_0 6 rfl rfl)
theorem dJ0_copyOf_9 : decode cJ0_copyOf 9 = .ok (.areturn, 1) := dk_176 (dk_at dksJ0_copyOf_0 9 rfl rfl)
def dkwJ0_copyOf_2_1 : List UInt8 := [78, 42, 3, 45, 3, 42, 190, 27, 184, 1, 48, 184, 0, 150, 45, 176]
abbrev dktJ0_copyOf_2_1 : List UInt8 := dkwJ0_copyOf_2_1 ++ []
def dkwJ0_copyOf_2_0 : List UInt8 := [44, 18, 110, 166, 0, 10, 27, 189, 0, 2, 167, 0, 14, 44, 182, 0, 90, 27, 184, 0, 95, 192, 0, 110]
abbrev dktJ0_copyOf_2_0 : List UInt8 := dkwJ0_copyOf_2_0 ++ dktJ0_copyOf_2_1
theorem dksJ0_copyOf_2_0 : cJ0_copyOf_2.data.toList.drop 0 = dktJ0_copyOf_2_0 := by decide +kernel
theorem dksJ0_copyOf_2_1 : cJ0_copyOf_2.data.toList.drop 24 = dktJ0_copyOf_2_1 := dk_seg dksJ0_copyOf_2_0 24 rfl rfl
theorem dJ0_copyOf_2_0 : decode cJ0_copyOf_2 0 = .ok (.aload_n 2, 1) := dk_44 (dk_at dksJ0_copyOf_2_0 0 rfl rfl)
theorem dJ0_copyOf_2_1 : decode cJ0_copyOf_2 1 = .ok (.ldc 110, 2) := dk_18 110 (dk_at dksJ0_copyOf_2_0 1 rfl rfl)
theorem dJ0_copyOf_2_3 : decode cJ0_copyOf_2 3 = .ok (.if_acmp .ne 10, 3) := dk_166 0 10 (dk_at dksJ0_copyOf_2_0 3 rfl rfl)
theorem dJ0_copyOf_2_6 : decode cJ0_copyOf_2 6 = .ok (.iload_n 1, 1) := dk_27 (dk_at dksJ0_copyOf_2_0 6 rfl rfl)
theorem dJ0_copyOf_2_7 : decode cJ0_copyOf_2 7 = .ok (.anewarray 2, 3) := dk_189 0 2 (dk_at dksJ0_copyOf_2_0 7 rfl rfl)
theorem dJ0_copyOf_2_10 : decode cJ0_copyOf_2 10 = .ok (.goto 14, 3) := dk_167 0 14 (dk_at dksJ0_copyOf_2_0 10 rfl rfl)
theorem dJ0_copyOf_2_13 : decode cJ0_copyOf_2 13 = .ok (.aload_n 2, 1) := dk_44 (dk_at dksJ0_copyOf_2_0 13 rfl rfl)
theorem dJ0_copyOf_2_14 : decode cJ0_copyOf_2 14 = .ok (.invokevirtual 90, 3) := dk_182 0 90 (dk_at dksJ0_copyOf_2_0 14 rfl rfl)
theorem dJ0_copyOf_2_17 : decode cJ0_copyOf_2 17 = .ok (.iload_n 1, 1) := dk_27 (dk_at dksJ0_copyOf_2_0 17 rfl rfl)
theorem dJ0_copyOf_2_18 : decode cJ0_copyOf_2 18 = .ok (.invokestatic 95, 3) := dk_184 0 95 (dk_at dksJ0_copyOf_2_0 18 rfl rfl)
theorem dJ0_copyOf_2_21 : decode cJ0_copyOf_2 21 = .ok (.checkcast 110, 3) := dk_192 0 110 (dk_at dksJ0_copyOf_2_0 21 rfl rfl)
theorem dJ0_copyOf_2_24 : decode cJ0_copyOf_2 24 = .ok (.astore_n 3, 1) := dk_78 (dk_at dksJ0_copyOf_2_1 0 rfl rfl)
theorem dJ0_copyOf_2_25 : decode cJ0_copyOf_2 25 = .ok (.aload_n 0, 1) := dk_42 (dk_at dksJ0_copyOf_2_1 1 rfl rfl)
theorem dJ0_copyOf_2_26 : decode cJ0_copyOf_2 26 = .ok (.iconst 0, 1) := dk_3 (dk_at dksJ0_copyOf_2_1 2 rfl rfl)
theorem dJ0_copyOf_2_27 : decode cJ0_copyOf_2 27 = .ok (.aload_n 3, 1) := dk_45 (dk_at dksJ0_copyOf_2_1 3 rfl rfl)
theorem dJ0_copyOf_2_28 : decode cJ0_copyOf_2 28 = .ok (.iconst 0, 1) := dk_3 (dk_at dksJ0_copyOf_2_1 4 rfl rfl)
theorem dJ0_copyOf_2_29 : decode cJ0_copyOf_2 29 = .ok (.aload_n 0, 1) := dk_42 (dk_at dksJ0_copyOf_2_1 5 rfl rfl)
theorem dJ0_copyOf_2_30 : decode cJ0_copyOf_2 30 = .ok (.arraylength, 1) := dk_190 (dk_at dksJ0_copyOf_2_1 6 rfl rfl)
theorem dJ0_copyOf_2_31 : decode cJ0_copyOf_2 31 = .ok (.iload_n 1, 1) := dk_27 (dk_at dksJ0_copyOf_2_1 7 rfl rfl)
theorem dJ0_copyOf_2_32 : decode cJ0_copyOf_2 32 = .ok (.invokestatic 304, 3) := dk_184 1 48 (dk_at dksJ0_copyOf_2_1 8 rfl rfl)
theorem dJ0_copyOf_2_35 : decode cJ0_copyOf_2 35 = .ok (.invokestatic 150, 3) := dk_184 0 150 (dk_at dksJ0_copyOf_2_1 11 rfl rfl)
theorem dJ0_copyOf_2_38 : decode cJ0_copyOf_2 38 = .ok (.aload_n 3, 1) := dk_45 (dk_at dksJ0_copyOf_2_1 14 rfl rfl)
theorem dJ0_copyOf_2_39 : decode cJ0_copyOf_2 39 = .ok (.areturn, 1) := dk_176 (dk_at dksJ0_copyOf_2_1 15 rfl rfl)
def dkwJ0_copyOf_3_1 : List UInt8 := [27, 184, 1, 48, 184, 0, 150, 44, 176]
abbrev dktJ0_copyOf_3_1 : List UInt8 := dkwJ0_copyOf_3_1 ++ []
def dkwJ0_copyOf_3_0 : List UInt8 := [27, 42, 190, 160, 0, 11, 42, 182, 1, 60, 192, 1, 61, 176, 27, 188, 10, 77, 42, 3, 44, 3, 42, 190]
abbrev dktJ0_copyOf_3_0 : List UInt8 := dkwJ0_copyOf_3_0 ++ dktJ0_copyOf_3_1
theorem dksJ0_copyOf_3_0 : cJ0_copyOf_3.data.toList.drop 0 = dktJ0_copyOf_3_0 := by decide +kernel
theorem dksJ0_copyOf_3_1 : cJ0_copyOf_3.data.toList.drop 24 = dktJ0_copyOf_3_1 := dk_seg dksJ0_copyOf_3_0 24 rfl rfl
theorem dJ0_copyOf_3_0 : decode cJ0_copyOf_3 0 = .ok (.iload_n 1, 1) := dk_27 (dk_at dksJ0_copyOf_3_0 0 rfl rfl)
theorem dJ0_copyOf_3_1 : decode cJ0_copyOf_3 1 = .ok (.aload_n 0, 1) := dk_42 (dk_at dksJ0_copyOf_3_0 1 rfl rfl)
theorem dJ0_copyOf_3_2 : decode cJ0_copyOf_3 2 = .ok (.arraylength, 1) := dk_190 (dk_at dksJ0_copyOf_3_0 2 rfl rfl)
theorem dJ0_copyOf_3_3 : decode cJ0_copyOf_3 3 = .ok (.if_icmp .ne 11, 3) := dk_160 0 11 (dk_at dksJ0_copyOf_3_0 3 rfl rfl)
theorem dJ0_copyOf_3_6 : decode cJ0_copyOf_3 6 = .ok (.aload_n 0, 1) := dk_42 (dk_at dksJ0_copyOf_3_0 6 rfl rfl)
theorem dJ0_copyOf_3_7 : decode cJ0_copyOf_3 7 = .ok (.invokevirtual 316, 3) := dk_182 1 60 (dk_at dksJ0_copyOf_3_0 7 rfl rfl)
theorem dJ0_copyOf_3_10 : decode cJ0_copyOf_3 10 = .ok (.checkcast 317, 3) := dk_192 1 61 (dk_at dksJ0_copyOf_3_0 10 rfl rfl)
theorem dJ0_copyOf_3_13 : decode cJ0_copyOf_3 13 = .ok (.areturn, 1) := dk_176 (dk_at dksJ0_copyOf_3_0 13 rfl rfl)
theorem dJ0_copyOf_3_14 : decode cJ0_copyOf_3 14 = .ok (.iload_n 1, 1) := dk_27 (dk_at dksJ0_copyOf_3_0 14 rfl rfl)
theorem dJ0_copyOf_3_15 : decode cJ0_copyOf_3 15 = .ok (.newarray .int, 2) := dk_188_10 (dk_at dksJ0_copyOf_3_0 15 rfl rfl)
theorem dJ0_copyOf_3_17 : decode cJ0_copyOf_3 17 = .ok (.astore_n 2, 1) := dk_77 (dk_at dksJ0_copyOf_3_0 17 rfl rfl)
theorem dJ0_copyOf_3_18 : decode cJ0_copyOf_3 18 = .ok (.aload_n 0, 1) := dk_42 (dk_at dksJ0_copyOf_3_0 18 rfl rfl)
theorem dJ0_copyOf_3_19 : decode cJ0_copyOf_3 19 = .ok (.iconst 0, 1) := dk_3 (dk_at dksJ0_copyOf_3_0 19 rfl rfl)
theorem dJ0_copyOf_3_20 : decode cJ0_copyOf_3 20 = .ok (.aload_n 2, 1) := dk_44 (dk_at dksJ0_copyOf_3_0 20 rfl rfl)
theorem dJ0_copyOf_3_21 : decode cJ0_copyOf_3 21 = .ok (.iconst 0, 1) := dk_3 (dk_at dksJ0_copyOf_3_0 21 rfl rfl)
theorem dJ0_copyOf_3_22 : decode cJ0_copyOf_3 22 = .ok (.aload_n 0, 1) := dk_42 (dk_at dksJ0_copyOf_3_0 22 rfl rfl)
theorem dJ0_copyOf_3_23 : decode cJ0_copyOf_3 23 = .ok (.arraylength, 1) := dk_190 (dk_at dksJ0_copyOf_3_0 23 rfl rfl)
theorem dJ0_copyOf_3_24 : decode cJ0_copyOf_3 24 = .ok (.iload_n 1, 1) := dk_27 (dk_at dksJ0_copyOf_3_1 0 rfl rfl)
theorem dJ0_copyOf_3_25 : decode cJ0_copyOf_3 25 = .ok (.invokestatic 304, 3) := dk_184 1 48 (dk_at dksJ0_copyOf_3_1 1 rfl rfl)
theorem dJ0_copyOf_3_28 : decode cJ0_copyOf_3 28 = .ok (.invokestatic 150, 3) := dk_184 0 150 (dk_at dksJ0_copyOf_3_1 4 rfl rfl)
theorem dJ0_copyOf_3_31 : decode cJ0_copyOf_3 31 = .ok (.aload_n 2, 1) := dk_44 (dk_at dksJ0_copyOf_3_1 7 rfl rfl)
theorem dJ0_copyOf_3_32 : decode cJ0_copyOf_3 32 = .ok (.areturn, 1) := dk_176 (dk_at dksJ0_copyOf_3_1 8 rfl rfl)
def dkwJ0_fill_2_0 : List UInt8 := [3, 61, 42, 190, 62, 28, 29, 162, 0, 13, 42, 28, 27, 84, 132, 2, 1, 167, 255, 244, 177]
abbrev dktJ0_fill_2_0 : List UInt8 := dkwJ0_fill_2_0 ++ []
theorem dksJ0_fill_2_0 : cJ0_fill_2.data.toList.drop 0 = dktJ0_fill_2_0 := by decide +kernel
theorem dJ0_fill_2_0 : decode cJ0_fill_2 0 = .ok (.iconst 0, 1) := dk_3 (dk_at dksJ0_fill_2_0 0 rfl rfl)
theorem dJ0_fill_2_1 : decode cJ0_fill_2 1 = .ok (.istore_n 2, 1) := dk_61 (dk_at dksJ0_fill_2_0 1 rfl rfl)
theorem dJ0_fill_2_2 : decode cJ0_fill_2 2 = .ok (.aload_n 0, 1) := dk_42 (dk_at dksJ0_fill_2_0 2 rfl rfl)
theorem dJ0_fill_2_3 : decode cJ0_fill_2 3 = .ok (.arraylength, 1) := dk_190 (dk_at dksJ0_fill_2_0 3 rfl rfl)
theorem dJ0_fill_2_4 : decode cJ0_fill_2 4 = .ok (.istore_n 3, 1) := dk_62 (dk_at dksJ0_fill_2_0 4 rfl rfl)
theorem dJ0_fill_2_5 : decode cJ0_fill_2 5 = .ok (.iload_n 2, 1) := dk_28 (dk_at dksJ0_fill_2_0 5 rfl rfl)
theorem dJ0_fill_2_6 : decode cJ0_fill_2 6 = .ok (.iload_n 3, 1) := dk_29 (dk_at dksJ0_fill_2_0 6 rfl rfl)
theorem dJ0_fill_2_7 : decode cJ0_fill_2 7 = .ok (.if_icmp .ge 13, 3) := dk_162 0 13 (dk_at dksJ0_fill_2_0 7 rfl rfl)
theorem dJ0_fill_2_10 : decode cJ0_fill_2 10 = .ok (.aload_n 0, 1) := dk_42 (dk_at dksJ0_fill_2_0 10 rfl rfl)
theorem dJ0_fill_2_11 : decode cJ0_fill_2 11 = .ok (.iload_n 2, 1) := dk_28 (dk_at dksJ0_fill_2_0 11 rfl rfl)
theorem dJ0_fill_2_12 : decode cJ0_fill_2 12 = .ok (.iload_n 1, 1) := dk_27 (dk_at dksJ0_fill_2_0 12 rfl rfl)
theorem dJ0_fill_2_13 : decode cJ0_fill_2 13 = .ok (.bastore, 1) := dk_84 (dk_at dksJ0_fill_2_0 13 rfl rfl)
theorem dJ0_fill_2_14 : decode cJ0_fill_2 14 = .ok (.iinc 2 1, 3) := dk_132 2 1 (dk_at dksJ0_fill_2_0 14 rfl rfl)
theorem dJ0_fill_2_17 : decode cJ0_fill_2 17 = .ok (.goto (-12), 3) := dk_167 255 244 (dk_at dksJ0_fill_2_0 17 rfl rfl)
theorem dJ0_fill_2_20 : decode cJ0_fill_2 20 = .ok (.return_, 1) := dk_177 (dk_at dksJ0_fill_2_0 20 rfl rfl)
def dkwJ0_fill_3_0 : List UInt8 := [3, 61, 42, 190, 62, 28, 29, 162, 0, 13, 42, 28, 27, 79, 132, 2, 1, 167, 255, 244, 177]
abbrev dktJ0_fill_3_0 : List UInt8 := dkwJ0_fill_3_0 ++ []
theorem dksJ0_fill_3_0 : cJ0_fill_3.data.toList.drop 0 = dktJ0_fill_3_0 := by decide +kernel
theorem dJ0_fill_3_0 : decode cJ0_fill_3 0 = .ok (.iconst 0, 1) := dk_3 (dk_at dksJ0_fill_3_0 0 rfl rfl)
theorem dJ0_fill_3_1 : decode cJ0_fill_3 1 = .ok (.istore_n 2, 1) := dk_61 (dk_at dksJ0_fill_3_0 1 rfl rfl)
theorem dJ0_fill_3_2 : decode cJ0_fill_3 2 = .ok (.aload_n 0, 1) := dk_42 (dk_at dksJ0_fill_3_0 2 rfl rfl)
theorem dJ0_fill_3_3 : decode cJ0_fill_3 3 = .ok (.arraylength, 1) := dk_190 (dk_at dksJ0_fill_3_0 3 rfl rfl)
theorem dJ0_fill_3_4 : decode cJ0_fill_3 4 = .ok (.istore_n 3, 1) := dk_62 (dk_at dksJ0_fill_3_0 4 rfl rfl)
theorem dJ0_fill_3_5 : decode cJ0_fill_3 5 = .ok (.iload_n 2, 1) := dk_28 (dk_at dksJ0_fill_3_0 5 rfl rfl)
theorem dJ0_fill_3_6 : decode cJ0_fill_3 6 = .ok (.iload_n 3, 1) := dk_29 (dk_at dksJ0_fill_3_0 6 rfl rfl)
theorem dJ0_fill_3_7 : decode cJ0_fill_3 7 = .ok (.if_icmp .ge 13, 3) := dk_162 0 13 (dk_at dksJ0_fill_3_0 7 rfl rfl)
theorem dJ0_fill_3_10 : decode cJ0_fill_3 10 = .ok (.aload_n 0, 1) := dk_42 (dk_at dksJ0_fill_3_0 10 rfl rfl)
theorem dJ0_fill_3_11 : decode cJ0_fill_3 11 = .ok (.iload_n 2, 1) := dk_28 (dk_at dksJ0_fill_3_0 11 rfl rfl)
theorem dJ0_fill_3_12 : decode cJ0_fill_3 12 = .ok (.iload_n 1, 1) := dk_27 (dk_at dksJ0_fill_3_0 12 rfl rfl)
theorem dJ0_fill_3_13 : decode cJ0_fill_3 13 = .ok (.iastore, 1) := dk_79 (dk_at dksJ0_fill_3_0 13 rfl rfl)
theorem dJ0_fill_3_14 : decode cJ0_fill_3 14 = .ok (.iinc 2 1, 3) := dk_132 2 1 (dk_at dksJ0_fill_3_0 14 rfl rfl)
theorem dJ0_fill_3_17 : decode cJ0_fill_3 17 = .ok (.goto (-12), 3) := dk_167 255 244 (dk_at dksJ0_fill_3_0 17 rfl rfl)
theorem dJ0_fill_3_20 : decode cJ0_fill_3 20 = .ok (.return_, 1) := dk_177 (dk_at dksJ0_fill_3_0 20 rfl rfl)
def dkwJ1_mismatch_2 : List UInt8 := [29, 28, 162, 0, 20, 42, 29, 46, 43, 29, 46, 159, 0, 5, 29, 172, 132, 3, 1, 167, 255, 237, 2, 172]
abbrev dktJ1_mismatch_2 : List UInt8 := dkwJ1_mismatch_2 ++ []
def dkwJ1_mismatch_1 : List UInt8 := [178, 0, 144, 133, 28, 178, 0, 51, 184, 0, 122, 62, 29, 155, 0, 5, 29, 172, 28, 29, 2, 130, 100, 62]
abbrev dktJ1_mismatch_1 : List UInt8 := dkwJ1_mismatch_1 ++ dktJ1_mismatch_2
def dkwJ1_mismatch_0 : List UInt8 := [3, 62, 28, 4, 164, 0, 44, 42, 3, 46, 43, 3, 46, 159, 0, 5, 3, 172, 42, 178, 0, 144, 133, 43]
abbrev dktJ1_mismatch_0 : List UInt8 := dkwJ1_mismatch_0 ++ dktJ1_mismatch_1
theorem dksJ1_mismatch_0 : cJ1_mismatch.data.toList.drop 0 = dktJ1_mismatch_0 := by decide +kernel
theorem dksJ1_mismatch_1 : cJ1_mismatch.data.toList.drop 24 = dktJ1_mismatch_1 := dk_seg dksJ1_mismatch_0 24 rfl rfl
theorem dksJ1_mismatch_2 : cJ1_mismatch.data.toList.drop 48 = dktJ1_mismatch_2 := dk_seg dksJ1_mismatch_1 24 rfl rfl
theorem dJ1_mismatch_0 : decode cJ1_mismatch 0 = .ok (.iconst 0, 1) := dk_3 (dk_at dksJ1_mismatch_0 0 rfl rfl)
theorem dJ1_mismatch_1 : decode cJ1_mismatch 1 = .ok (.istore_n 3, 1) := dk_62 (dk_at dksJ1_mismatch_0 1 rfl rfl)
theorem dJ1_mismatch_2 : decode cJ1_mismatch 2 = .ok (.iload_n 2, 1) := dk_28 (dk_at dksJ1_mismatch_0 2 rfl rfl)
theorem dJ1_mismatch_3 : decode cJ1_mismatch 3 = .ok (.iconst 1, 1) := dk_4 (dk_at dksJ1_mismatch_0 3 rfl rfl)
theorem dJ1_mismatch_4 : decode cJ1_mismatch 4 = .ok (.if_icmp .le 44, 3) := dk_164 0 44 (dk_at dksJ1_mismatch_0 4 rfl rfl)
theorem dJ1_mismatch_7 : decode cJ1_mismatch 7 = .ok (.aload_n 0, 1) := dk_42 (dk_at dksJ1_mismatch_0 7 rfl rfl)
theorem dJ1_mismatch_8 : decode cJ1_mismatch 8 = .ok (.iconst 0, 1) := dk_3 (dk_at dksJ1_mismatch_0 8 rfl rfl)
theorem dJ1_mismatch_9 : decode cJ1_mismatch 9 = .ok (.iaload, 1) := dk_46 (dk_at dksJ1_mismatch_0 9 rfl rfl)
theorem dJ1_mismatch_10 : decode cJ1_mismatch 10 = .ok (.aload_n 1, 1) := dk_43 (dk_at dksJ1_mismatch_0 10 rfl rfl)
theorem dJ1_mismatch_11 : decode cJ1_mismatch 11 = .ok (.iconst 0, 1) := dk_3 (dk_at dksJ1_mismatch_0 11 rfl rfl)
theorem dJ1_mismatch_12 : decode cJ1_mismatch 12 = .ok (.iaload, 1) := dk_46 (dk_at dksJ1_mismatch_0 12 rfl rfl)
theorem dJ1_mismatch_13 : decode cJ1_mismatch 13 = .ok (.if_icmp .eq 5, 3) := dk_159 0 5 (dk_at dksJ1_mismatch_0 13 rfl rfl)
theorem dJ1_mismatch_16 : decode cJ1_mismatch 16 = .ok (.iconst 0, 1) := dk_3 (dk_at dksJ1_mismatch_0 16 rfl rfl)
theorem dJ1_mismatch_17 : decode cJ1_mismatch 17 = .ok (.ireturn, 1) := dk_172 (dk_at dksJ1_mismatch_0 17 rfl rfl)
theorem dJ1_mismatch_18 : decode cJ1_mismatch 18 = .ok (.aload_n 0, 1) := dk_42 (dk_at dksJ1_mismatch_0 18 rfl rfl)
theorem dJ1_mismatch_19 : decode cJ1_mismatch 19 = .ok (.getstatic 144, 3) := dk_178 0 144 (dk_at dksJ1_mismatch_0 19 rfl rfl)
theorem dJ1_mismatch_22 : decode cJ1_mismatch 22 = .ok (.i2l, 1) := dk_133 (dk_at dksJ1_mismatch_0 22 rfl rfl)
theorem dJ1_mismatch_23 : decode cJ1_mismatch 23 = .ok (.aload_n 1, 1) := dk_43 (dk_at dksJ1_mismatch_0 23 rfl rfl)
theorem dJ1_mismatch_24 : decode cJ1_mismatch 24 = .ok (.getstatic 144, 3) := dk_178 0 144 (dk_at dksJ1_mismatch_1 0 rfl rfl)
theorem dJ1_mismatch_27 : decode cJ1_mismatch 27 = .ok (.i2l, 1) := dk_133 (dk_at dksJ1_mismatch_1 3 rfl rfl)
theorem dJ1_mismatch_28 : decode cJ1_mismatch 28 = .ok (.iload_n 2, 1) := dk_28 (dk_at dksJ1_mismatch_1 4 rfl rfl)
theorem dJ1_mismatch_29 : decode cJ1_mismatch 29 = .ok (.getstatic 51, 3) := dk_178 0 51 (dk_at dksJ1_mismatch_1 5 rfl rfl)
theorem dJ1_mismatch_32 : decode cJ1_mismatch 32 = .ok (.invokestatic 122, 3) := dk_184 0 122 (dk_at dksJ1_mismatch_1 8 rfl rfl)
theorem dJ1_mismatch_35 : decode cJ1_mismatch 35 = .ok (.istore_n 3, 1) := dk_62 (dk_at dksJ1_mismatch_1 11 rfl rfl)
theorem dJ1_mismatch_36 : decode cJ1_mismatch 36 = .ok (.iload_n 3, 1) := dk_29 (dk_at dksJ1_mismatch_1 12 rfl rfl)
theorem dJ1_mismatch_37 : decode cJ1_mismatch 37 = .ok (.ifCond .lt 5, 3) := dk_155 0 5 (dk_at dksJ1_mismatch_1 13 rfl rfl)
theorem dJ1_mismatch_40 : decode cJ1_mismatch 40 = .ok (.iload_n 3, 1) := dk_29 (dk_at dksJ1_mismatch_1 16 rfl rfl)
theorem dJ1_mismatch_41 : decode cJ1_mismatch 41 = .ok (.ireturn, 1) := dk_172 (dk_at dksJ1_mismatch_1 17 rfl rfl)
theorem dJ1_mismatch_42 : decode cJ1_mismatch 42 = .ok (.iload_n 2, 1) := dk_28 (dk_at dksJ1_mismatch_1 18 rfl rfl)
theorem dJ1_mismatch_43 : decode cJ1_mismatch 43 = .ok (.iload_n 3, 1) := dk_29 (dk_at dksJ1_mismatch_1 19 rfl rfl)
theorem dJ1_mismatch_44 : decode cJ1_mismatch 44 = .ok (.iconst (-1), 1) := dk_2 (dk_at dksJ1_mismatch_1 20 rfl rfl)
theorem dJ1_mismatch_45 : decode cJ1_mismatch 45 = .ok (.ixor, 1) := dk_130 (dk_at dksJ1_mismatch_1 21 rfl rfl)
theorem dJ1_mismatch_46 : decode cJ1_mismatch 46 = .ok (.isub, 1) := dk_100 (dk_at dksJ1_mismatch_1 22 rfl rfl)
theorem dJ1_mismatch_47 : decode cJ1_mismatch 47 = .ok (.istore_n 3, 1) := dk_62 (dk_at dksJ1_mismatch_1 23 rfl rfl)
theorem dJ1_mismatch_48 : decode cJ1_mismatch 48 = .ok (.iload_n 3, 1) := dk_29 (dk_at dksJ1_mismatch_2 0 rfl rfl)
theorem dJ1_mismatch_49 : decode cJ1_mismatch 49 = .ok (.iload_n 2, 1) := dk_28 (dk_at dksJ1_mismatch_2 1 rfl rfl)
theorem dJ1_mismatch_50 : decode cJ1_mismatch 50 = .ok (.if_icmp .ge 20, 3) := dk_162 0 20 (dk_at dksJ1_mismatch_2 2 rfl rfl)
theorem dJ1_mismatch_53 : decode cJ1_mismatch 53 = .ok (.aload_n 0, 1) := dk_42 (dk_at dksJ1_mismatch_2 5 rfl rfl)
theorem dJ1_mismatch_54 : decode cJ1_mismatch 54 = .ok (.iload_n 3, 1) := dk_29 (dk_at dksJ1_mismatch_2 6 rfl rfl)
theorem dJ1_mismatch_55 : decode cJ1_mismatch 55 = .ok (.iaload, 1) := dk_46 (dk_at dksJ1_mismatch_2 7 rfl rfl)
theorem dJ1_mismatch_56 : decode cJ1_mismatch 56 = .ok (.aload_n 1, 1) := dk_43 (dk_at dksJ1_mismatch_2 8 rfl rfl)
theorem dJ1_mismatch_57 : decode cJ1_mismatch 57 = .ok (.iload_n 3, 1) := dk_29 (dk_at dksJ1_mismatch_2 9 rfl rfl)
theorem dJ1_mismatch_58 : decode cJ1_mismatch 58 = .ok (.iaload, 1) := dk_46 (dk_at dksJ1_mismatch_2 10 rfl rfl)
theorem dJ1_mismatch_59 : decode cJ1_mismatch 59 = .ok (.if_icmp .eq 5, 3) := dk_159 0 5 (dk_at dksJ1_mismatch_2 11 rfl rfl)
theorem dJ1_mismatch_62 : decode cJ1_mismatch 62 = .ok (.iload_n 3, 1) := dk_29 (dk_at dksJ1_mismatch_2 14 rfl rfl)
theorem dJ1_mismatch_63 : decode cJ1_mismatch 63 = .ok (.ireturn, 1) := dk_172 (dk_at dksJ1_mismatch_2 15 rfl rfl)
theorem dJ1_mismatch_64 : decode cJ1_mismatch 64 = .ok (.iinc 3 1, 3) := dk_132 3 1 (dk_at dksJ1_mismatch_2 16 rfl rfl)
theorem dJ1_mismatch_67 : decode cJ1_mismatch 67 = .ok (.goto (-19), 3) := dk_167 255 237 (dk_at dksJ1_mismatch_2 19 rfl rfl)
theorem dJ1_mismatch_70 : decode cJ1_mismatch 70 = .ok (.iconst (-1), 1) := dk_2 (dk_at dksJ1_mismatch_2 22 rfl rfl)
theorem dJ1_mismatch_71 : decode cJ1_mismatch 71 = .ok (.ireturn, 1) := dk_172 (dk_at dksJ1_mismatch_2 23 rfl rfl)
def dkwJ1_vectorizedMismatch_11 : List UInt8 := [54, 10, 21, 10, 2, 130, 172, 21, 10, 2, 130, 172]
abbrev dktJ1_vectorizedMismatch_11 : List UInt8 := dkwJ1_vectorizedMismatch_11 ++ []
def dkwJ1_vectorizedMismatch_10 : List UInt8 := [178, 0, 46, 21, 7, 96, 122, 54, 17, 21, 9, 21, 8, 120, 21, 17, 96, 172, 21, 10, 21, 11, 100]
abbrev dktJ1_vectorizedMismatch_10 : List UInt8 := dkwJ1_vectorizedMismatch_10 ++ dktJ1_vectorizedMismatch_11
def dkwJ1_vectorizedMismatch_9 : List UInt8 := [153, 0, 18, 21, 16, 184, 0, 58, 178, 0, 46, 21, 7, 96, 122, 167, 0, 15, 21, 16, 184, 0, 11]
abbrev dktJ1_vectorizedMismatch_9 : List UInt8 := dkwJ1_vectorizedMismatch_9 ++ dktJ1_vectorizedMismatch_10
def dkwJ1_vectorizedMismatch_8 : List UInt8 := [182, 0, 54, 54, 15, 21, 14, 21, 15, 159, 0, 54, 21, 14, 21, 15, 130, 54, 16, 178, 0, 36]
abbrev dktJ1_vectorizedMismatch_8 : List UInt8 := dkwJ1_vectorizedMismatch_8 ++ dktJ1_vectorizedMismatch_9
def dkwJ1_vectorizedMismatch_7 : List UInt8 := [55, 12, 178, 0, 26, 42, 31, 22, 12, 97, 182, 0, 54, 54, 14, 178, 0, 26, 45, 22, 4, 22, 12, 97]
abbrev dktJ1_vectorizedMismatch_7 : List UInt8 := dkwJ1_vectorizedMismatch_7 ++ dktJ1_vectorizedMismatch_8
def dkwJ1_vectorizedMismatch_6 : List UInt8 := [4, 178, 0, 51, 21, 7, 100, 120, 54, 11, 21, 10, 21, 11, 161, 0, 104, 21, 9, 133, 178, 0, 20, 121]
abbrev dktJ1_vectorizedMismatch_6 : List UInt8 := dkwJ1_vectorizedMismatch_6 ++ dktJ1_vectorizedMismatch_7
def dkwJ1_vectorizedMismatch_5 : List UInt8 := [132, 9, 1, 167, 255, 148, 21, 6, 21, 9, 21, 8, 120, 100, 54, 10, 21, 7, 178, 0, 51, 162, 0, 126]
abbrev dktJ1_vectorizedMismatch_5 : List UInt8 := dkwJ1_vectorizedMismatch_5 ++ dktJ1_vectorizedMismatch_6
def dkwJ1_vectorizedMismatch_4 : List UInt8 := [22, 16, 184, 0, 49, 178, 0, 46, 21, 7, 96, 122, 54, 18, 21, 9, 21, 8, 120, 21, 18, 96, 172]
abbrev dktJ1_vectorizedMismatch_4 : List UInt8 := dkwJ1_vectorizedMismatch_4 ++ dktJ1_vectorizedMismatch_5
def dkwJ1_vectorizedMismatch_3 : List UInt8 := [55, 16, 178, 0, 36, 153, 0, 18, 22, 16, 184, 0, 40, 178, 0, 46, 21, 7, 96, 122, 167, 0, 15]
abbrev dktJ1_vectorizedMismatch_3 : List UInt8 := dkwJ1_vectorizedMismatch_3 ++ dktJ1_vectorizedMismatch_4
def dkwJ1_vectorizedMismatch_2 : List UInt8 := [22, 4, 22, 10, 97, 182, 0, 30, 55, 14, 22, 12, 22, 14, 148, 153, 0, 54, 22, 12, 22, 14, 131]
abbrev dktJ1_vectorizedMismatch_2 : List UInt8 := dkwJ1_vectorizedMismatch_2 ++ dktJ1_vectorizedMismatch_3
def dkwJ1_vectorizedMismatch_1 : List UInt8 := [178, 0, 20, 121, 55, 10, 178, 0, 26, 42, 31, 22, 10, 97, 182, 0, 30, 55, 12, 178, 0, 26, 45]
abbrev dktJ1_vectorizedMismatch_1 : List UInt8 := dkwJ1_vectorizedMismatch_1 ++ dktJ1_vectorizedMismatch_2
def dkwJ1_vectorizedMismatch_0 : List UInt8 := [178, 0, 20, 21, 7, 100, 54, 8, 3, 54, 9, 21, 9, 21, 6, 21, 8, 122, 162, 0, 104, 21, 9, 133]
abbrev dktJ1_vectorizedMismatch_0 : List UInt8 := dkwJ1_vectorizedMismatch_0 ++ dktJ1_vectorizedMismatch_1
theorem dksJ1_vectorizedMismatch_0 : cJ1_vectorizedMismatch.data.toList.drop 0 = dktJ1_vectorizedMismatch_0 := by decide +kernel
theorem dksJ1_vectorizedMismatch_1 : cJ1_vectorizedMismatch.data.toList.drop 24 = dktJ1_vectorizedMismatch_1 := dk_seg dksJ1_vectorizedMismatch_0 24 rfl rfl
theorem dksJ1_vectorizedMismatch_2 : cJ1_vectorizedMismatch.data.toList.drop 47 = dktJ1_vectorizedMismatch_2 := dk_seg dksJ1_vectorizedMismatch_1 23 rfl rfl
theorem dksJ1_vectorizedMismatch_3 : cJ1_vectorizedMismatch.data.toList.drop 70 = dktJ1_vectorizedMismatch_3 := dk_seg dksJ1_vectorizedMismatch_2 23 rfl rfl
theorem dksJ1_vectorizedMismatch_4 : cJ1_vectorizedMismatch.data.toList.drop 93 = dktJ1_vectorizedMismatch_4 := dk_seg dksJ1_vectorizedMismatch_3 23 rfl rfl
theorem dksJ1_vectorizedMismatch_5 : cJ1_vectorizedMismatch.data.toList.drop 116 = dktJ1_vectorizedMismatch_5 := dk_seg dksJ1_vectorizedMismatch_4 23 rfl rfl
theorem dksJ1_vectorizedMismatch_6 : cJ1_vectorizedMismatch.data.toList.drop 140 = dktJ1_vectorizedMismatch_6 := dk_seg dksJ1_vectorizedMismatch_5 24 rfl rfl
theorem dksJ1_vectorizedMismatch_7 : cJ1_vectorizedMismatch.data.toList.drop 164 = dktJ1_vectorizedMismatch_7 := dk_seg dksJ1_vectorizedMismatch_6 24 rfl rfl
theorem dksJ1_vectorizedMismatch_8 : cJ1_vectorizedMismatch.data.toList.drop 188 = dktJ1_vectorizedMismatch_8 := dk_seg dksJ1_vectorizedMismatch_7 24 rfl rfl
theorem dksJ1_vectorizedMismatch_9 : cJ1_vectorizedMismatch.data.toList.drop 210 = dktJ1_vectorizedMismatch_9 := dk_seg dksJ1_vectorizedMismatch_8 22 rfl rfl
theorem dksJ1_vectorizedMismatch_10 : cJ1_vectorizedMismatch.data.toList.drop 233 = dktJ1_vectorizedMismatch_10 := dk_seg dksJ1_vectorizedMismatch_9 23 rfl rfl
theorem dksJ1_vectorizedMismatch_11 : cJ1_vectorizedMismatch.data.toList.drop 256 = dktJ1_vectorizedMismatch_11 := dk_seg dksJ1_vectorizedMismatch_10 23 rfl rfl
theorem dJ1_vectorizedMismatch_0 : decode cJ1_vectorizedMismatch 0 = .ok (.getstatic 20, 3) := dk_178 0 20 (dk_at dksJ1_vectorizedMismatch_0 0 rfl rfl)
theorem dJ1_vectorizedMismatch_3 : decode cJ1_vectorizedMismatch 3 = .ok (.iload 7, 2) := dk_21 7 (dk_at dksJ1_vectorizedMismatch_0 3 rfl rfl)
theorem dJ1_vectorizedMismatch_5 : decode cJ1_vectorizedMismatch 5 = .ok (.isub, 1) := dk_100 (dk_at dksJ1_vectorizedMismatch_0 5 rfl rfl)
theorem dJ1_vectorizedMismatch_6 : decode cJ1_vectorizedMismatch 6 = .ok (.istore 8, 2) := dk_54 8 (dk_at dksJ1_vectorizedMismatch_0 6 rfl rfl)
theorem dJ1_vectorizedMismatch_8 : decode cJ1_vectorizedMismatch 8 = .ok (.iconst 0, 1) := dk_3 (dk_at dksJ1_vectorizedMismatch_0 8 rfl rfl)
theorem dJ1_vectorizedMismatch_9 : decode cJ1_vectorizedMismatch 9 = .ok (.istore 9, 2) := dk_54 9 (dk_at dksJ1_vectorizedMismatch_0 9 rfl rfl)
theorem dJ1_vectorizedMismatch_11 : decode cJ1_vectorizedMismatch 11 = .ok (.iload 9, 2) := dk_21 9 (dk_at dksJ1_vectorizedMismatch_0 11 rfl rfl)
theorem dJ1_vectorizedMismatch_13 : decode cJ1_vectorizedMismatch 13 = .ok (.iload 6, 2) := dk_21 6 (dk_at dksJ1_vectorizedMismatch_0 13 rfl rfl)
theorem dJ1_vectorizedMismatch_15 : decode cJ1_vectorizedMismatch 15 = .ok (.iload 8, 2) := dk_21 8 (dk_at dksJ1_vectorizedMismatch_0 15 rfl rfl)
theorem dJ1_vectorizedMismatch_17 : decode cJ1_vectorizedMismatch 17 = .ok (.ishr, 1) := dk_122 (dk_at dksJ1_vectorizedMismatch_0 17 rfl rfl)
theorem dJ1_vectorizedMismatch_18 : decode cJ1_vectorizedMismatch 18 = .ok (.if_icmp .ge 104, 3) := dk_162 0 104 (dk_at dksJ1_vectorizedMismatch_0 18 rfl rfl)
theorem dJ1_vectorizedMismatch_21 : decode cJ1_vectorizedMismatch 21 = .ok (.iload 9, 2) := dk_21 9 (dk_at dksJ1_vectorizedMismatch_0 21 rfl rfl)
theorem dJ1_vectorizedMismatch_23 : decode cJ1_vectorizedMismatch 23 = .ok (.i2l, 1) := dk_133 (dk_at dksJ1_vectorizedMismatch_0 23 rfl rfl)
theorem dJ1_vectorizedMismatch_24 : decode cJ1_vectorizedMismatch 24 = .ok (.getstatic 20, 3) := dk_178 0 20 (dk_at dksJ1_vectorizedMismatch_1 0 rfl rfl)
theorem dJ1_vectorizedMismatch_27 : decode cJ1_vectorizedMismatch 27 = .ok (.lshl, 1) := dk_121 (dk_at dksJ1_vectorizedMismatch_1 3 rfl rfl)
theorem dJ1_vectorizedMismatch_28 : decode cJ1_vectorizedMismatch 28 = .ok (.lstore 10, 2) := dk_55 10 (dk_at dksJ1_vectorizedMismatch_1 4 rfl rfl)
theorem dJ1_vectorizedMismatch_30 : decode cJ1_vectorizedMismatch 30 = .ok (.getstatic 26, 3) := dk_178 0 26 (dk_at dksJ1_vectorizedMismatch_1 6 rfl rfl)
theorem dJ1_vectorizedMismatch_33 : decode cJ1_vectorizedMismatch 33 = .ok (.aload_n 0, 1) := dk_42 (dk_at dksJ1_vectorizedMismatch_1 9 rfl rfl)
theorem dJ1_vectorizedMismatch_34 : decode cJ1_vectorizedMismatch 34 = .ok (.lload_n 1, 1) := dk_31 (dk_at dksJ1_vectorizedMismatch_1 10 rfl rfl)
theorem dJ1_vectorizedMismatch_35 : decode cJ1_vectorizedMismatch 35 = .ok (.lload 10, 2) := dk_22 10 (dk_at dksJ1_vectorizedMismatch_1 11 rfl rfl)
theorem dJ1_vectorizedMismatch_37 : decode cJ1_vectorizedMismatch 37 = .ok (.ladd, 1) := dk_97 (dk_at dksJ1_vectorizedMismatch_1 13 rfl rfl)
theorem dJ1_vectorizedMismatch_38 : decode cJ1_vectorizedMismatch 38 = .ok (.invokevirtual 30, 3) := dk_182 0 30 (dk_at dksJ1_vectorizedMismatch_1 14 rfl rfl)
theorem dJ1_vectorizedMismatch_41 : decode cJ1_vectorizedMismatch 41 = .ok (.lstore 12, 2) := dk_55 12 (dk_at dksJ1_vectorizedMismatch_1 17 rfl rfl)
theorem dJ1_vectorizedMismatch_43 : decode cJ1_vectorizedMismatch 43 = .ok (.getstatic 26, 3) := dk_178 0 26 (dk_at dksJ1_vectorizedMismatch_1 19 rfl rfl)
theorem dJ1_vectorizedMismatch_46 : decode cJ1_vectorizedMismatch 46 = .ok (.aload_n 3, 1) := dk_45 (dk_at dksJ1_vectorizedMismatch_1 22 rfl rfl)
theorem dJ1_vectorizedMismatch_47 : decode cJ1_vectorizedMismatch 47 = .ok (.lload 4, 2) := dk_22 4 (dk_at dksJ1_vectorizedMismatch_2 0 rfl rfl)
theorem dJ1_vectorizedMismatch_49 : decode cJ1_vectorizedMismatch 49 = .ok (.lload 10, 2) := dk_22 10 (dk_at dksJ1_vectorizedMismatch_2 2 rfl rfl)
theorem dJ1_vectorizedMismatch_51 : decode cJ1_vectorizedMismatch 51 = .ok (.ladd, 1) := dk_97 (dk_at dksJ1_vectorizedMismatch_2 4 rfl rfl)
theorem dJ1_vectorizedMismatch_52 : decode cJ1_vectorizedMismatch 52 = .ok (.invokevirtual 30, 3) := dk_182 0 30 (dk_at dksJ1_vectorizedMismatch_2 5 rfl rfl)
theorem dJ1_vectorizedMismatch_55 : decode cJ1_vectorizedMismatch 55 = .ok (.lstore 14, 2) := dk_55 14 (dk_at dksJ1_vectorizedMismatch_2 8 rfl rfl)
theorem dJ1_vectorizedMismatch_57 : decode cJ1_vectorizedMismatch 57 = .ok (.lload 12, 2) := dk_22 12 (dk_at dksJ1_vectorizedMismatch_2 10 rfl rfl)
theorem dJ1_vectorizedMismatch_59 : decode cJ1_vectorizedMismatch 59 = .ok (.lload 14, 2) := dk_22 14 (dk_at dksJ1_vectorizedMismatch_2 12 rfl rfl)
theorem dJ1_vectorizedMismatch_61 : decode cJ1_vectorizedMismatch 61 = .ok (.lcmp, 1) := dk_148 (dk_at dksJ1_vectorizedMismatch_2 14 rfl rfl)
theorem dJ1_vectorizedMismatch_62 : decode cJ1_vectorizedMismatch 62 = .ok (.ifCond .eq 54, 3) := dk_153 0 54 (dk_at dksJ1_vectorizedMismatch_2 15 rfl rfl)
theorem dJ1_vectorizedMismatch_65 : decode cJ1_vectorizedMismatch 65 = .ok (.lload 12, 2) := dk_22 12 (dk_at dksJ1_vectorizedMismatch_2 18 rfl rfl)
theorem dJ1_vectorizedMismatch_67 : decode cJ1_vectorizedMismatch 67 = .ok (.lload 14, 2) := dk_22 14 (dk_at dksJ1_vectorizedMismatch_2 20 rfl rfl)
theorem dJ1_vectorizedMismatch_69 : decode cJ1_vectorizedMismatch 69 = .ok (.lxor, 1) := dk_131 (dk_at dksJ1_vectorizedMismatch_2 22 rfl rfl)
theorem dJ1_vectorizedMismatch_70 : decode cJ1_vectorizedMismatch 70 = .ok (.lstore 16, 2) := dk_55 16 (dk_at dksJ1_vectorizedMismatch_3 0 rfl rfl)
theorem dJ1_vectorizedMismatch_72 : decode cJ1_vectorizedMismatch 72 = .ok (.getstatic 36, 3) := dk_178 0 36 (dk_at dksJ1_vectorizedMismatch_3 2 rfl rfl)
theorem dJ1_vectorizedMismatch_75 : decode cJ1_vectorizedMismatch 75 = .ok (.ifCond .eq 18, 3) := dk_153 0 18 (dk_at dksJ1_vectorizedMismatch_3 5 rfl rfl)
theorem dJ1_vectorizedMismatch_78 : decode cJ1_vectorizedMismatch 78 = .ok (.lload 16, 2) := dk_22 16 (dk_at dksJ1_vectorizedMismatch_3 8 rfl rfl)
theorem dJ1_vectorizedMismatch_80 : decode cJ1_vectorizedMismatch 80 = .ok (.invokestatic 40, 3) := dk_184 0 40 (dk_at dksJ1_vectorizedMismatch_3 10 rfl rfl)
theorem dJ1_vectorizedMismatch_83 : decode cJ1_vectorizedMismatch 83 = .ok (.getstatic 46, 3) := dk_178 0 46 (dk_at dksJ1_vectorizedMismatch_3 13 rfl rfl)
theorem dJ1_vectorizedMismatch_86 : decode cJ1_vectorizedMismatch 86 = .ok (.iload 7, 2) := dk_21 7 (dk_at dksJ1_vectorizedMismatch_3 16 rfl rfl)
theorem dJ1_vectorizedMismatch_88 : decode cJ1_vectorizedMismatch 88 = .ok (.iadd, 1) := dk_96 (dk_at dksJ1_vectorizedMismatch_3 18 rfl rfl)
theorem dJ1_vectorizedMismatch_89 : decode cJ1_vectorizedMismatch 89 = .ok (.ishr, 1) := dk_122 (dk_at dksJ1_vectorizedMismatch_3 19 rfl rfl)
theorem dJ1_vectorizedMismatch_90 : decode cJ1_vectorizedMismatch 90 = .ok (.goto 15, 3) := dk_167 0 15 (dk_at dksJ1_vectorizedMismatch_3 20 rfl rfl)
theorem dJ1_vectorizedMismatch_93 : decode cJ1_vectorizedMismatch 93 = .ok (.lload 16, 2) := dk_22 16 (dk_at dksJ1_vectorizedMismatch_4 0 rfl rfl)
theorem dJ1_vectorizedMismatch_95 : decode cJ1_vectorizedMismatch 95 = .ok (.invokestatic 49, 3) := dk_184 0 49 (dk_at dksJ1_vectorizedMismatch_4 2 rfl rfl)
theorem dJ1_vectorizedMismatch_98 : decode cJ1_vectorizedMismatch 98 = .ok (.getstatic 46, 3) := dk_178 0 46 (dk_at dksJ1_vectorizedMismatch_4 5 rfl rfl)
theorem dJ1_vectorizedMismatch_101 : decode cJ1_vectorizedMismatch 101 = .ok (.iload 7, 2) := dk_21 7 (dk_at dksJ1_vectorizedMismatch_4 8 rfl rfl)
theorem dJ1_vectorizedMismatch_103 : decode cJ1_vectorizedMismatch 103 = .ok (.iadd, 1) := dk_96 (dk_at dksJ1_vectorizedMismatch_4 10 rfl rfl)
theorem dJ1_vectorizedMismatch_104 : decode cJ1_vectorizedMismatch 104 = .ok (.ishr, 1) := dk_122 (dk_at dksJ1_vectorizedMismatch_4 11 rfl rfl)
theorem dJ1_vectorizedMismatch_105 : decode cJ1_vectorizedMismatch 105 = .ok (.istore 18, 2) := dk_54 18 (dk_at dksJ1_vectorizedMismatch_4 12 rfl rfl)
theorem dJ1_vectorizedMismatch_107 : decode cJ1_vectorizedMismatch 107 = .ok (.iload 9, 2) := dk_21 9 (dk_at dksJ1_vectorizedMismatch_4 14 rfl rfl)
theorem dJ1_vectorizedMismatch_109 : decode cJ1_vectorizedMismatch 109 = .ok (.iload 8, 2) := dk_21 8 (dk_at dksJ1_vectorizedMismatch_4 16 rfl rfl)
theorem dJ1_vectorizedMismatch_111 : decode cJ1_vectorizedMismatch 111 = .ok (.ishl, 1) := dk_120 (dk_at dksJ1_vectorizedMismatch_4 18 rfl rfl)
theorem dJ1_vectorizedMismatch_112 : decode cJ1_vectorizedMismatch 112 = .ok (.iload 18, 2) := dk_21 18 (dk_at dksJ1_vectorizedMismatch_4 19 rfl rfl)
theorem dJ1_vectorizedMismatch_114 : decode cJ1_vectorizedMismatch 114 = .ok (.iadd, 1) := dk_96 (dk_at dksJ1_vectorizedMismatch_4 21 rfl rfl)
theorem dJ1_vectorizedMismatch_115 : decode cJ1_vectorizedMismatch 115 = .ok (.ireturn, 1) := dk_172 (dk_at dksJ1_vectorizedMismatch_4 22 rfl rfl)
theorem dJ1_vectorizedMismatch_116 : decode cJ1_vectorizedMismatch 116 = .ok (.iinc 9 1, 3) := dk_132 9 1 (dk_at dksJ1_vectorizedMismatch_5 0 rfl rfl)
theorem dJ1_vectorizedMismatch_119 : decode cJ1_vectorizedMismatch 119 = .ok (.goto (-108), 3) := dk_167 255 148 (dk_at dksJ1_vectorizedMismatch_5 3 rfl rfl)
theorem dJ1_vectorizedMismatch_122 : decode cJ1_vectorizedMismatch 122 = .ok (.iload 6, 2) := dk_21 6 (dk_at dksJ1_vectorizedMismatch_5 6 rfl rfl)
theorem dJ1_vectorizedMismatch_124 : decode cJ1_vectorizedMismatch 124 = .ok (.iload 9, 2) := dk_21 9 (dk_at dksJ1_vectorizedMismatch_5 8 rfl rfl)
theorem dJ1_vectorizedMismatch_126 : decode cJ1_vectorizedMismatch 126 = .ok (.iload 8, 2) := dk_21 8 (dk_at dksJ1_vectorizedMismatch_5 10 rfl rfl)
theorem dJ1_vectorizedMismatch_128 : decode cJ1_vectorizedMismatch 128 = .ok (.ishl, 1) := dk_120 (dk_at dksJ1_vectorizedMismatch_5 12 rfl rfl)
theorem dJ1_vectorizedMismatch_129 : decode cJ1_vectorizedMismatch 129 = .ok (.isub, 1) := dk_100 (dk_at dksJ1_vectorizedMismatch_5 13 rfl rfl)
theorem dJ1_vectorizedMismatch_130 : decode cJ1_vectorizedMismatch 130 = .ok (.istore 10, 2) := dk_54 10 (dk_at dksJ1_vectorizedMismatch_5 14 rfl rfl)
theorem dJ1_vectorizedMismatch_132 : decode cJ1_vectorizedMismatch 132 = .ok (.iload 7, 2) := dk_21 7 (dk_at dksJ1_vectorizedMismatch_5 16 rfl rfl)
theorem dJ1_vectorizedMismatch_134 : decode cJ1_vectorizedMismatch 134 = .ok (.getstatic 51, 3) := dk_178 0 51 (dk_at dksJ1_vectorizedMismatch_5 18 rfl rfl)
theorem dJ1_vectorizedMismatch_137 : decode cJ1_vectorizedMismatch 137 = .ok (.if_icmp .ge 126, 3) := dk_162 0 126 (dk_at dksJ1_vectorizedMismatch_5 21 rfl rfl)
theorem dJ1_vectorizedMismatch_140 : decode cJ1_vectorizedMismatch 140 = .ok (.iconst 1, 1) := dk_4 (dk_at dksJ1_vectorizedMismatch_6 0 rfl rfl)
theorem dJ1_vectorizedMismatch_141 : decode cJ1_vectorizedMismatch 141 = .ok (.getstatic 51, 3) := dk_178 0 51 (dk_at dksJ1_vectorizedMismatch_6 1 rfl rfl)
theorem dJ1_vectorizedMismatch_144 : decode cJ1_vectorizedMismatch 144 = .ok (.iload 7, 2) := dk_21 7 (dk_at dksJ1_vectorizedMismatch_6 4 rfl rfl)
theorem dJ1_vectorizedMismatch_146 : decode cJ1_vectorizedMismatch 146 = .ok (.isub, 1) := dk_100 (dk_at dksJ1_vectorizedMismatch_6 6 rfl rfl)
theorem dJ1_vectorizedMismatch_147 : decode cJ1_vectorizedMismatch 147 = .ok (.ishl, 1) := dk_120 (dk_at dksJ1_vectorizedMismatch_6 7 rfl rfl)
theorem dJ1_vectorizedMismatch_148 : decode cJ1_vectorizedMismatch 148 = .ok (.istore 11, 2) := dk_54 11 (dk_at dksJ1_vectorizedMismatch_6 8 rfl rfl)
theorem dJ1_vectorizedMismatch_150 : decode cJ1_vectorizedMismatch 150 = .ok (.iload 10, 2) := dk_21 10 (dk_at dksJ1_vectorizedMismatch_6 10 rfl rfl)
theorem dJ1_vectorizedMismatch_152 : decode cJ1_vectorizedMismatch 152 = .ok (.iload 11, 2) := dk_21 11 (dk_at dksJ1_vectorizedMismatch_6 12 rfl rfl)
theorem dJ1_vectorizedMismatch_154 : decode cJ1_vectorizedMismatch 154 = .ok (.if_icmp .lt 104, 3) := dk_161 0 104 (dk_at dksJ1_vectorizedMismatch_6 14 rfl rfl)
theorem dJ1_vectorizedMismatch_157 : decode cJ1_vectorizedMismatch 157 = .ok (.iload 9, 2) := dk_21 9 (dk_at dksJ1_vectorizedMismatch_6 17 rfl rfl)
theorem dJ1_vectorizedMismatch_159 : decode cJ1_vectorizedMismatch 159 = .ok (.i2l, 1) := dk_133 (dk_at dksJ1_vectorizedMismatch_6 19 rfl rfl)
theorem dJ1_vectorizedMismatch_160 : decode cJ1_vectorizedMismatch 160 = .ok (.getstatic 20, 3) := dk_178 0 20 (dk_at dksJ1_vectorizedMismatch_6 20 rfl rfl)
theorem dJ1_vectorizedMismatch_163 : decode cJ1_vectorizedMismatch 163 = .ok (.lshl, 1) := dk_121 (dk_at dksJ1_vectorizedMismatch_6 23 rfl rfl)
theorem dJ1_vectorizedMismatch_164 : decode cJ1_vectorizedMismatch 164 = .ok (.lstore 12, 2) := dk_55 12 (dk_at dksJ1_vectorizedMismatch_7 0 rfl rfl)
theorem dJ1_vectorizedMismatch_166 : decode cJ1_vectorizedMismatch 166 = .ok (.getstatic 26, 3) := dk_178 0 26 (dk_at dksJ1_vectorizedMismatch_7 2 rfl rfl)
theorem dJ1_vectorizedMismatch_169 : decode cJ1_vectorizedMismatch 169 = .ok (.aload_n 0, 1) := dk_42 (dk_at dksJ1_vectorizedMismatch_7 5 rfl rfl)
theorem dJ1_vectorizedMismatch_170 : decode cJ1_vectorizedMismatch 170 = .ok (.lload_n 1, 1) := dk_31 (dk_at dksJ1_vectorizedMismatch_7 6 rfl rfl)
theorem dJ1_vectorizedMismatch_171 : decode cJ1_vectorizedMismatch 171 = .ok (.lload 12, 2) := dk_22 12 (dk_at dksJ1_vectorizedMismatch_7 7 rfl rfl)
theorem dJ1_vectorizedMismatch_173 : decode cJ1_vectorizedMismatch 173 = .ok (.ladd, 1) := dk_97 (dk_at dksJ1_vectorizedMismatch_7 9 rfl rfl)
theorem dJ1_vectorizedMismatch_174 : decode cJ1_vectorizedMismatch 174 = .ok (.invokevirtual 54, 3) := dk_182 0 54 (dk_at dksJ1_vectorizedMismatch_7 10 rfl rfl)
theorem dJ1_vectorizedMismatch_177 : decode cJ1_vectorizedMismatch 177 = .ok (.istore 14, 2) := dk_54 14 (dk_at dksJ1_vectorizedMismatch_7 13 rfl rfl)
theorem dJ1_vectorizedMismatch_179 : decode cJ1_vectorizedMismatch 179 = .ok (.getstatic 26, 3) := dk_178 0 26 (dk_at dksJ1_vectorizedMismatch_7 15 rfl rfl)
theorem dJ1_vectorizedMismatch_182 : decode cJ1_vectorizedMismatch 182 = .ok (.aload_n 3, 1) := dk_45 (dk_at dksJ1_vectorizedMismatch_7 18 rfl rfl)
theorem dJ1_vectorizedMismatch_183 : decode cJ1_vectorizedMismatch 183 = .ok (.lload 4, 2) := dk_22 4 (dk_at dksJ1_vectorizedMismatch_7 19 rfl rfl)
theorem dJ1_vectorizedMismatch_185 : decode cJ1_vectorizedMismatch 185 = .ok (.lload 12, 2) := dk_22 12 (dk_at dksJ1_vectorizedMismatch_7 21 rfl rfl)
theorem dJ1_vectorizedMismatch_187 : decode cJ1_vectorizedMismatch 187 = .ok (.ladd, 1) := dk_97 (dk_at dksJ1_vectorizedMismatch_7 23 rfl rfl)
theorem dJ1_vectorizedMismatch_188 : decode cJ1_vectorizedMismatch 188 = .ok (.invokevirtual 54, 3) := dk_182 0 54 (dk_at dksJ1_vectorizedMismatch_8 0 rfl rfl)
theorem dJ1_vectorizedMismatch_191 : decode cJ1_vectorizedMismatch 191 = .ok (.istore 15, 2) := dk_54 15 (dk_at dksJ1_vectorizedMismatch_8 3 rfl rfl)
theorem dJ1_vectorizedMismatch_193 : decode cJ1_vectorizedMismatch 193 = .ok (.iload 14, 2) := dk_21 14 (dk_at dksJ1_vectorizedMismatch_8 5 rfl rfl)
theorem dJ1_vectorizedMismatch_195 : decode cJ1_vectorizedMismatch 195 = .ok (.iload 15, 2) := dk_21 15 (dk_at dksJ1_vectorizedMismatch_8 7 rfl rfl)
theorem dJ1_vectorizedMismatch_197 : decode cJ1_vectorizedMismatch 197 = .ok (.if_icmp .eq 54, 3) := dk_159 0 54 (dk_at dksJ1_vectorizedMismatch_8 9 rfl rfl)
theorem dJ1_vectorizedMismatch_200 : decode cJ1_vectorizedMismatch 200 = .ok (.iload 14, 2) := dk_21 14 (dk_at dksJ1_vectorizedMismatch_8 12 rfl rfl)
theorem dJ1_vectorizedMismatch_202 : decode cJ1_vectorizedMismatch 202 = .ok (.iload 15, 2) := dk_21 15 (dk_at dksJ1_vectorizedMismatch_8 14 rfl rfl)
theorem dJ1_vectorizedMismatch_204 : decode cJ1_vectorizedMismatch 204 = .ok (.ixor, 1) := dk_130 (dk_at dksJ1_vectorizedMismatch_8 16 rfl rfl)
theorem dJ1_vectorizedMismatch_205 : decode cJ1_vectorizedMismatch 205 = .ok (.istore 16, 2) := dk_54 16 (dk_at dksJ1_vectorizedMismatch_8 17 rfl rfl)
theorem dJ1_vectorizedMismatch_207 : decode cJ1_vectorizedMismatch 207 = .ok (.getstatic 36, 3) := dk_178 0 36 (dk_at dksJ1_vectorizedMismatch_8 19 rfl rfl)
theorem dJ1_vectorizedMismatch_210 : decode cJ1_vectorizedMismatch 210 = .ok (.ifCond .eq 18, 3) := dk_153 0 18 (dk_at dksJ1_vectorizedMismatch_9 0 rfl rfl)
theorem dJ1_vectorizedMismatch_213 : decode cJ1_vectorizedMismatch 213 = .ok (.iload 16, 2) := dk_21 16 (dk_at dksJ1_vectorizedMismatch_9 3 rfl rfl)
theorem dJ1_vectorizedMismatch_215 : decode cJ1_vectorizedMismatch 215 = .ok (.invokestatic 58, 3) := dk_184 0 58 (dk_at dksJ1_vectorizedMismatch_9 5 rfl rfl)
theorem dJ1_vectorizedMismatch_218 : decode cJ1_vectorizedMismatch 218 = .ok (.getstatic 46, 3) := dk_178 0 46 (dk_at dksJ1_vectorizedMismatch_9 8 rfl rfl)
theorem dJ1_vectorizedMismatch_221 : decode cJ1_vectorizedMismatch 221 = .ok (.iload 7, 2) := dk_21 7 (dk_at dksJ1_vectorizedMismatch_9 11 rfl rfl)
theorem dJ1_vectorizedMismatch_223 : decode cJ1_vectorizedMismatch 223 = .ok (.iadd, 1) := dk_96 (dk_at dksJ1_vectorizedMismatch_9 13 rfl rfl)
theorem dJ1_vectorizedMismatch_224 : decode cJ1_vectorizedMismatch 224 = .ok (.ishr, 1) := dk_122 (dk_at dksJ1_vectorizedMismatch_9 14 rfl rfl)
theorem dJ1_vectorizedMismatch_225 : decode cJ1_vectorizedMismatch 225 = .ok (.goto 15, 3) := dk_167 0 15 (dk_at dksJ1_vectorizedMismatch_9 15 rfl rfl)
theorem dJ1_vectorizedMismatch_228 : decode cJ1_vectorizedMismatch 228 = .ok (.iload 16, 2) := dk_21 16 (dk_at dksJ1_vectorizedMismatch_9 18 rfl rfl)
theorem dJ1_vectorizedMismatch_230 : decode cJ1_vectorizedMismatch 230 = .ok (.invokestatic 11, 3) := dk_184 0 11 (dk_at dksJ1_vectorizedMismatch_9 20 rfl rfl)
theorem dJ1_vectorizedMismatch_233 : decode cJ1_vectorizedMismatch 233 = .ok (.getstatic 46, 3) := dk_178 0 46 (dk_at dksJ1_vectorizedMismatch_10 0 rfl rfl)
theorem dJ1_vectorizedMismatch_236 : decode cJ1_vectorizedMismatch 236 = .ok (.iload 7, 2) := dk_21 7 (dk_at dksJ1_vectorizedMismatch_10 3 rfl rfl)
theorem dJ1_vectorizedMismatch_238 : decode cJ1_vectorizedMismatch 238 = .ok (.iadd, 1) := dk_96 (dk_at dksJ1_vectorizedMismatch_10 5 rfl rfl)
theorem dJ1_vectorizedMismatch_239 : decode cJ1_vectorizedMismatch 239 = .ok (.ishr, 1) := dk_122 (dk_at dksJ1_vectorizedMismatch_10 6 rfl rfl)
theorem dJ1_vectorizedMismatch_240 : decode cJ1_vectorizedMismatch 240 = .ok (.istore 17, 2) := dk_54 17 (dk_at dksJ1_vectorizedMismatch_10 7 rfl rfl)
theorem dJ1_vectorizedMismatch_242 : decode cJ1_vectorizedMismatch 242 = .ok (.iload 9, 2) := dk_21 9 (dk_at dksJ1_vectorizedMismatch_10 9 rfl rfl)
theorem dJ1_vectorizedMismatch_244 : decode cJ1_vectorizedMismatch 244 = .ok (.iload 8, 2) := dk_21 8 (dk_at dksJ1_vectorizedMismatch_10 11 rfl rfl)
theorem dJ1_vectorizedMismatch_246 : decode cJ1_vectorizedMismatch 246 = .ok (.ishl, 1) := dk_120 (dk_at dksJ1_vectorizedMismatch_10 13 rfl rfl)
theorem dJ1_vectorizedMismatch_247 : decode cJ1_vectorizedMismatch 247 = .ok (.iload 17, 2) := dk_21 17 (dk_at dksJ1_vectorizedMismatch_10 14 rfl rfl)
theorem dJ1_vectorizedMismatch_249 : decode cJ1_vectorizedMismatch 249 = .ok (.iadd, 1) := dk_96 (dk_at dksJ1_vectorizedMismatch_10 16 rfl rfl)
theorem dJ1_vectorizedMismatch_250 : decode cJ1_vectorizedMismatch 250 = .ok (.ireturn, 1) := dk_172 (dk_at dksJ1_vectorizedMismatch_10 17 rfl rfl)
theorem dJ1_vectorizedMismatch_251 : decode cJ1_vectorizedMismatch 251 = .ok (.iload 10, 2) := dk_21 10 (dk_at dksJ1_vectorizedMismatch_10 18 rfl rfl)
theorem dJ1_vectorizedMismatch_253 : decode cJ1_vectorizedMismatch 253 = .ok (.iload 11, 2) := dk_21 11 (dk_at dksJ1_vectorizedMismatch_10 20 rfl rfl)
theorem dJ1_vectorizedMismatch_255 : decode cJ1_vectorizedMismatch 255 = .ok (.isub, 1) := dk_100 (dk_at dksJ1_vectorizedMismatch_10 22 rfl rfl)
theorem dJ1_vectorizedMismatch_256 : decode cJ1_vectorizedMismatch 256 = .ok (.istore 10, 2) := dk_54 10 (dk_at dksJ1_vectorizedMismatch_11 0 rfl rfl)
theorem dJ1_vectorizedMismatch_258 : decode cJ1_vectorizedMismatch 258 = .ok (.iload 10, 2) := dk_21 10 (dk_at dksJ1_vectorizedMismatch_11 2 rfl rfl)
theorem dJ1_vectorizedMismatch_260 : decode cJ1_vectorizedMismatch 260 = .ok (.iconst (-1), 1) := dk_2 (dk_at dksJ1_vectorizedMismatch_11 4 rfl rfl)
theorem dJ1_vectorizedMismatch_261 : decode cJ1_vectorizedMismatch 261 = .ok (.ixor, 1) := dk_130 (dk_at dksJ1_vectorizedMismatch_11 5 rfl rfl)
theorem dJ1_vectorizedMismatch_262 : decode cJ1_vectorizedMismatch 262 = .ok (.ireturn, 1) := dk_172 (dk_at dksJ1_vectorizedMismatch_11 6 rfl rfl)
theorem dJ1_vectorizedMismatch_263 : decode cJ1_vectorizedMismatch 263 = .ok (.iload 10, 2) := dk_21 10 (dk_at dksJ1_vectorizedMismatch_11 7 rfl rfl)
theorem dJ1_vectorizedMismatch_265 : decode cJ1_vectorizedMismatch 265 = .ok (.iconst (-1), 1) := dk_2 (dk_at dksJ1_vectorizedMismatch_11 9 rfl rfl)
theorem dJ1_vectorizedMismatch_266 : decode cJ1_vectorizedMismatch 266 = .ok (.ixor, 1) := dk_130 (dk_at dksJ1_vectorizedMismatch_11 10 rfl rfl)
theorem dJ1_vectorizedMismatch_267 : decode cJ1_vectorizedMismatch 267 = .ok (.ireturn, 1) := dk_172 (dk_at dksJ1_vectorizedMismatch_11 11 rfl rfl)
def dkwJ1_newLength_1 : List UInt8 := [184, 0, 201, 172]
abbrev dktJ1_newLength_1 : List UInt8 := dkwJ1_newLength_1 ++ []
def dkwJ1_newLength_0 : List UInt8 := [26, 27, 28, 184, 0, 194, 96, 62, 3, 29, 162, 0, 11, 29, 18, 200, 163, 0, 5, 29, 172, 26, 27]
abbrev dktJ1_newLength_0 : List UInt8 := dkwJ1_newLength_0 ++ dktJ1_newLength_1
theorem dksJ1_newLength_0 : cJ1_newLength.data.toList.drop 0 = dktJ1_newLength_0 := by decide +kernel
theorem dksJ1_newLength_1 : cJ1_newLength.data.toList.drop 23 = dktJ1_newLength_1 := dk_seg dksJ1_newLength_0 23 rfl rfl
theorem dJ1_newLength_0 : decode cJ1_newLength 0 = .ok (.iload_n 0, 1) := dk_26 (dk_at dksJ1_newLength_0 0 rfl rfl)
theorem dJ1_newLength_1 : decode cJ1_newLength 1 = .ok (.iload_n 1, 1) := dk_27 (dk_at dksJ1_newLength_0 1 rfl rfl)
theorem dJ1_newLength_2 : decode cJ1_newLength 2 = .ok (.iload_n 2, 1) := dk_28 (dk_at dksJ1_newLength_0 2 rfl rfl)
theorem dJ1_newLength_3 : decode cJ1_newLength 3 = .ok (.invokestatic 194, 3) := dk_184 0 194 (dk_at dksJ1_newLength_0 3 rfl rfl)
theorem dJ1_newLength_6 : decode cJ1_newLength 6 = .ok (.iadd, 1) := dk_96 (dk_at dksJ1_newLength_0 6 rfl rfl)
theorem dJ1_newLength_7 : decode cJ1_newLength 7 = .ok (.istore_n 3, 1) := dk_62 (dk_at dksJ1_newLength_0 7 rfl rfl)
theorem dJ1_newLength_8 : decode cJ1_newLength 8 = .ok (.iconst 0, 1) := dk_3 (dk_at dksJ1_newLength_0 8 rfl rfl)
theorem dJ1_newLength_9 : decode cJ1_newLength 9 = .ok (.iload_n 3, 1) := dk_29 (dk_at dksJ1_newLength_0 9 rfl rfl)
theorem dJ1_newLength_10 : decode cJ1_newLength 10 = .ok (.if_icmp .ge 11, 3) := dk_162 0 11 (dk_at dksJ1_newLength_0 10 rfl rfl)
theorem dJ1_newLength_13 : decode cJ1_newLength 13 = .ok (.iload_n 3, 1) := dk_29 (dk_at dksJ1_newLength_0 13 rfl rfl)
theorem dJ1_newLength_14 : decode cJ1_newLength 14 = .ok (.ldc 200, 2) := dk_18 200 (dk_at dksJ1_newLength_0 14 rfl rfl)
theorem dJ1_newLength_16 : decode cJ1_newLength 16 = .ok (.if_icmp .gt 5, 3) := dk_163 0 5 (dk_at dksJ1_newLength_0 16 rfl rfl)
theorem dJ1_newLength_19 : decode cJ1_newLength 19 = .ok (.iload_n 3, 1) := dk_29 (dk_at dksJ1_newLength_0 19 rfl rfl)
theorem dJ1_newLength_20 : decode cJ1_newLength 20 = .ok (.ireturn, 1) := dk_172 (dk_at dksJ1_newLength_0 20 rfl rfl)
theorem dJ1_newLength_21 : decode cJ1_newLength 21 = .ok (.iload_n 0, 1) := dk_26 (dk_at dksJ1_newLength_0 21 rfl rfl)
theorem dJ1_newLength_22 : decode cJ1_newLength 22 = .ok (.iload_n 1, 1) := dk_27 (dk_at dksJ1_newLength_0 22 rfl rfl)
theorem dJ1_newLength_23 : decode cJ1_newLength 23 = .ok (.invokestatic 201, 3) := dk_184 0 201 (dk_at dksJ1_newLength_1 0 rfl rfl)
theorem dJ1_newLength_26 : decode cJ1_newLength 26 = .ok (.ireturn, 1) := dk_172 (dk_at dksJ1_newLength_1 3 rfl rfl)
def dkwJ1_hugeLength_2 : List UInt8 := [191, 28, 18, 200, 163, 0, 6, 18, 200, 172, 28, 172]
abbrev dktJ1_hugeLength_2 : List UInt8 := dkwJ1_hugeLength_2 ++ []
def dkwJ1_hugeLength_1 : List UInt8 := [26, 182, 0, 98, 18, 208, 182, 0, 94, 27, 182, 0, 98, 18, 210, 182, 0, 94, 182, 0, 101, 183, 0, 212]
abbrev dktJ1_hugeLength_1 : List UInt8 := dkwJ1_hugeLength_1 ++ dktJ1_hugeLength_2
def dkwJ1_hugeLength_0 : List UInt8 := [26, 27, 96, 61, 28, 156, 0, 44, 187, 0, 204, 89, 187, 0, 89, 89, 183, 0, 91, 18, 206, 182, 0, 94]
abbrev dktJ1_hugeLength_0 : List UInt8 := dkwJ1_hugeLength_0 ++ dktJ1_hugeLength_1
theorem dksJ1_hugeLength_0 : cJ1_hugeLength.data.toList.drop 0 = dktJ1_hugeLength_0 := by decide +kernel
theorem dksJ1_hugeLength_1 : cJ1_hugeLength.data.toList.drop 24 = dktJ1_hugeLength_1 := dk_seg dksJ1_hugeLength_0 24 rfl rfl
theorem dksJ1_hugeLength_2 : cJ1_hugeLength.data.toList.drop 48 = dktJ1_hugeLength_2 := dk_seg dksJ1_hugeLength_1 24 rfl rfl
theorem dJ1_hugeLength_0 : decode cJ1_hugeLength 0 = .ok (.iload_n 0, 1) := dk_26 (dk_at dksJ1_hugeLength_0 0 rfl rfl)
theorem dJ1_hugeLength_1 : decode cJ1_hugeLength 1 = .ok (.iload_n 1, 1) := dk_27 (dk_at dksJ1_hugeLength_0 1 rfl rfl)
theorem dJ1_hugeLength_2 : decode cJ1_hugeLength 2 = .ok (.iadd, 1) := dk_96 (dk_at dksJ1_hugeLength_0 2 rfl rfl)
theorem dJ1_hugeLength_3 : decode cJ1_hugeLength 3 = .ok (.istore_n 2, 1) := dk_61 (dk_at dksJ1_hugeLength_0 3 rfl rfl)
theorem dJ1_hugeLength_4 : decode cJ1_hugeLength 4 = .ok (.iload_n 2, 1) := dk_28 (dk_at dksJ1_hugeLength_0 4 rfl rfl)
theorem dJ1_hugeLength_5 : decode cJ1_hugeLength 5 = .ok (.ifCond .ge 44, 3) := dk_156 0 44 (dk_at dksJ1_hugeLength_0 5 rfl rfl)
theorem dJ1_hugeLength_8 : decode cJ1_hugeLength 8 = .ok (.new 204, 3) := dk_187 0 204 (dk_at dksJ1_hugeLength_0 8 rfl rfl)
theorem dJ1_hugeLength_11 : decode cJ1_hugeLength 11 = .ok (.dup, 1) := dk_89 (dk_at dksJ1_hugeLength_0 11 rfl rfl)
theorem dJ1_hugeLength_12 : decode cJ1_hugeLength 12 = .ok (.new 89, 3) := dk_187 0 89 (dk_at dksJ1_hugeLength_0 12 rfl rfl)
theorem dJ1_hugeLength_15 : decode cJ1_hugeLength 15 = .ok (.dup, 1) := dk_89 (dk_at dksJ1_hugeLength_0 15 rfl rfl)
theorem dJ1_hugeLength_16 : decode cJ1_hugeLength 16 = .ok (.invokespecial 91, 3) := dk_183 0 91 (dk_at dksJ1_hugeLength_0 16 rfl rfl)
theorem dJ1_hugeLength_19 : decode cJ1_hugeLength 19 = .ok (.ldc 206, 2) := dk_18 206 (dk_at dksJ1_hugeLength_0 19 rfl rfl)
theorem dJ1_hugeLength_21 : decode cJ1_hugeLength 21 = .ok (.invokevirtual 94, 3) := dk_182 0 94 (dk_at dksJ1_hugeLength_0 21 rfl rfl)
theorem dJ1_hugeLength_24 : decode cJ1_hugeLength 24 = .ok (.iload_n 0, 1) := dk_26 (dk_at dksJ1_hugeLength_1 0 rfl rfl)
theorem dJ1_hugeLength_25 : decode cJ1_hugeLength 25 = .ok (.invokevirtual 98, 3) := dk_182 0 98 (dk_at dksJ1_hugeLength_1 1 rfl rfl)
theorem dJ1_hugeLength_28 : decode cJ1_hugeLength 28 = .ok (.ldc 208, 2) := dk_18 208 (dk_at dksJ1_hugeLength_1 4 rfl rfl)
theorem dJ1_hugeLength_30 : decode cJ1_hugeLength 30 = .ok (.invokevirtual 94, 3) := dk_182 0 94 (dk_at dksJ1_hugeLength_1 6 rfl rfl)
theorem dJ1_hugeLength_33 : decode cJ1_hugeLength 33 = .ok (.iload_n 1, 1) := dk_27 (dk_at dksJ1_hugeLength_1 9 rfl rfl)
theorem dJ1_hugeLength_34 : decode cJ1_hugeLength 34 = .ok (.invokevirtual 98, 3) := dk_182 0 98 (dk_at dksJ1_hugeLength_1 10 rfl rfl)
theorem dJ1_hugeLength_37 : decode cJ1_hugeLength 37 = .ok (.ldc 210, 2) := dk_18 210 (dk_at dksJ1_hugeLength_1 13 rfl rfl)
theorem dJ1_hugeLength_39 : decode cJ1_hugeLength 39 = .ok (.invokevirtual 94, 3) := dk_182 0 94 (dk_at dksJ1_hugeLength_1 15 rfl rfl)
theorem dJ1_hugeLength_42 : decode cJ1_hugeLength 42 = .ok (.invokevirtual 101, 3) := dk_182 0 101 (dk_at dksJ1_hugeLength_1 18 rfl rfl)
theorem dJ1_hugeLength_45 : decode cJ1_hugeLength 45 = .ok (.invokespecial 212, 3) := dk_183 0 212 (dk_at dksJ1_hugeLength_1 21 rfl rfl)
theorem dJ1_hugeLength_48 : decode cJ1_hugeLength 48 = .ok (.athrow, 1) := dk_191 (dk_at dksJ1_hugeLength_2 0 rfl rfl)
theorem dJ1_hugeLength_49 : decode cJ1_hugeLength 49 = .ok (.iload_n 2, 1) := dk_28 (dk_at dksJ1_hugeLength_2 1 rfl rfl)
theorem dJ1_hugeLength_50 : decode cJ1_hugeLength 50 = .ok (.ldc 200, 2) := dk_18 200 (dk_at dksJ1_hugeLength_2 2 rfl rfl)
theorem dJ1_hugeLength_52 : decode cJ1_hugeLength 52 = .ok (.if_icmp .gt 6, 3) := dk_163 0 6 (dk_at dksJ1_hugeLength_2 4 rfl rfl)
theorem dJ1_hugeLength_55 : decode cJ1_hugeLength 55 = .ok (.ldc 200, 2) := dk_18 200 (dk_at dksJ1_hugeLength_2 7 rfl rfl)
theorem dJ1_hugeLength_57 : decode cJ1_hugeLength 57 = .ok (.ireturn, 1) := dk_172 (dk_at dksJ1_hugeLength_2 9 rfl rfl)
theorem dJ1_hugeLength_58 : decode cJ1_hugeLength 58 = .ok (.iload_n 2, 1) := dk_28 (dk_at dksJ1_hugeLength_2 10 rfl rfl)
theorem dJ1_hugeLength_59 : decode cJ1_hugeLength 59 = .ok (.ireturn, 1) := dk_172 (dk_at dksJ1_hugeLength_2 11 rfl rfl)
def dkwJ10_length_0 : List UInt8 := [42, 180, 0, 9, 190, 42, 182, 1, 79, 122, 172]
abbrev dktJ10_length_0 : List UInt8 := dkwJ10_length_0 ++ []
theorem dksJ10_length_0 : cJ10_length.data.toList.drop 0 = dktJ10_length_0 := by decide +kernel
theorem dJ10_length_0 : decode cJ10_length 0 = .ok (.aload_n 0, 1) := dk_42 (dk_at dksJ10_length_0 0 rfl rfl)
theorem dJ10_length_1 : decode cJ10_length 1 = .ok (.getfield 9, 3) := dk_180 0 9 (dk_at dksJ10_length_0 1 rfl rfl)
theorem dJ10_length_4 : decode cJ10_length 4 = .ok (.arraylength, 1) := dk_190 (dk_at dksJ10_length_0 4 rfl rfl)
theorem dJ10_length_5 : decode cJ10_length 5 = .ok (.aload_n 0, 1) := dk_42 (dk_at dksJ10_length_0 5 rfl rfl)
theorem dJ10_length_6 : decode cJ10_length 6 = .ok (.invokevirtual 335, 3) := dk_182 1 79 (dk_at dksJ10_length_0 6 rfl rfl)
theorem dJ10_length_9 : decode cJ10_length 9 = .ok (.ishr, 1) := dk_122 (dk_at dksJ10_length_0 9 rfl rfl)
theorem dJ10_length_10 : decode cJ10_length 10 = .ok (.ireturn, 1) := dk_172 (dk_at dksJ10_length_0 10 rfl rfl)
def dkwJ10_coder_0 : List UInt8 := [178, 0, 38, 153, 0, 10, 42, 180, 0, 15, 167, 0, 4, 4, 172]
abbrev dktJ10_coder_0 : List UInt8 := dkwJ10_coder_0 ++ []
theorem dksJ10_coder_0 : cJ10_coder.data.toList.drop 0 = dktJ10_coder_0 := by decide +kernel
theorem dJ10_coder_0 : decode cJ10_coder 0 = .ok (.getstatic 38, 3) := dk_178 0 38 (dk_at dksJ10_coder_0 0 rfl rfl)
theorem dJ10_coder_3 : decode cJ10_coder 3 = .ok (.ifCond .eq 10, 3) := dk_153 0 10 (dk_at dksJ10_coder_0 3 rfl rfl)
theorem dJ10_coder_6 : decode cJ10_coder 6 = .ok (.aload_n 0, 1) := dk_42 (dk_at dksJ10_coder_0 6 rfl rfl)
theorem dJ10_coder_7 : decode cJ10_coder 7 = .ok (.getfield 15, 3) := dk_180 0 15 (dk_at dksJ10_coder_0 7 rfl rfl)
theorem dJ10_coder_10 : decode cJ10_coder 10 = .ok (.goto 4, 3) := dk_167 0 4 (dk_at dksJ10_coder_0 10 rfl rfl)
theorem dJ10_coder_13 : decode cJ10_coder 13 = .ok (.iconst 1, 1) := dk_4 (dk_at dksJ10_coder_0 13 rfl rfl)
theorem dJ10_coder_14 : decode cJ10_coder 14 = .ok (.ireturn, 1) := dk_172 (dk_at dksJ10_coder_0 14 rfl rfl)
def dkwJ10_charAt_1 : List UInt8 := [172]
abbrev dktJ10_charAt_1 : List UInt8 := dkwJ10_charAt_1 ++ []
def dkwJ10_charAt_0 : List UInt8 := [42, 182, 1, 236, 153, 0, 12, 42, 180, 0, 9, 27, 184, 1, 239, 172, 42, 180, 0, 9, 27, 184, 1, 242]
abbrev dktJ10_charAt_0 : List UInt8 := dkwJ10_charAt_0 ++ dktJ10_charAt_1
theorem dksJ10_charAt_0 : cJ10_charAt.data.toList.drop 0 = dktJ10_charAt_0 := by decide +kernel
theorem dksJ10_charAt_1 : cJ10_charAt.data.toList.drop 24 = dktJ10_charAt_1 := dk_seg dksJ10_charAt_0 24 rfl rfl
theorem dJ10_charAt_0 : decode cJ10_charAt 0 = .ok (.aload_n 0, 1) := dk_42 (dk_at dksJ10_charAt_0 0 rfl rfl)
theorem dJ10_charAt_1 : decode cJ10_charAt 1 = .ok (.invokevirtual 492, 3) := dk_182 1 236 (dk_at dksJ10_charAt_0 1 rfl rfl)
theorem dJ10_charAt_4 : decode cJ10_charAt 4 = .ok (.ifCond .eq 12, 3) := dk_153 0 12 (dk_at dksJ10_charAt_0 4 rfl rfl)
theorem dJ10_charAt_7 : decode cJ10_charAt 7 = .ok (.aload_n 0, 1) := dk_42 (dk_at dksJ10_charAt_0 7 rfl rfl)
theorem dJ10_charAt_8 : decode cJ10_charAt 8 = .ok (.getfield 9, 3) := dk_180 0 9 (dk_at dksJ10_charAt_0 8 rfl rfl)
theorem dJ10_charAt_11 : decode cJ10_charAt 11 = .ok (.iload_n 1, 1) := dk_27 (dk_at dksJ10_charAt_0 11 rfl rfl)
theorem dJ10_charAt_12 : decode cJ10_charAt 12 = .ok (.invokestatic 495, 3) := dk_184 1 239 (dk_at dksJ10_charAt_0 12 rfl rfl)
theorem dJ10_charAt_15 : decode cJ10_charAt 15 = .ok (.ireturn, 1) := dk_172 (dk_at dksJ10_charAt_0 15 rfl rfl)
theorem dJ10_charAt_16 : decode cJ10_charAt 16 = .ok (.aload_n 0, 1) := dk_42 (dk_at dksJ10_charAt_0 16 rfl rfl)
theorem dJ10_charAt_17 : decode cJ10_charAt 17 = .ok (.getfield 9, 3) := dk_180 0 9 (dk_at dksJ10_charAt_0 17 rfl rfl)
theorem dJ10_charAt_20 : decode cJ10_charAt 20 = .ok (.iload_n 1, 1) := dk_27 (dk_at dksJ10_charAt_0 20 rfl rfl)
theorem dJ10_charAt_21 : decode cJ10_charAt 21 = .ok (.invokestatic 498, 3) := dk_184 1 242 (dk_at dksJ10_charAt_0 21 rfl rfl)
theorem dJ10_charAt_24 : decode cJ10_charAt 24 = .ok (.ireturn, 1) := dk_172 (dk_at dksJ10_charAt_1 0 rfl rfl)
def dkwJ10_isLatin1_0 : List UInt8 := [178, 0, 38, 153, 0, 14, 42, 180, 0, 15, 154, 0, 7, 4, 167, 0, 4, 3, 172]
abbrev dktJ10_isLatin1_0 : List UInt8 := dkwJ10_isLatin1_0 ++ []
theorem dksJ10_isLatin1_0 : cJ10_isLatin1.data.toList.drop 0 = dktJ10_isLatin1_0 := by decide +kernel
theorem dJ10_isLatin1_0 : decode cJ10_isLatin1 0 = .ok (.getstatic 38, 3) := dk_178 0 38 (dk_at dksJ10_isLatin1_0 0 rfl rfl)
theorem dJ10_isLatin1_3 : decode cJ10_isLatin1 3 = .ok (.ifCond .eq 14, 3) := dk_153 0 14 (dk_at dksJ10_isLatin1_0 3 rfl rfl)
theorem dJ10_isLatin1_6 : decode cJ10_isLatin1 6 = .ok (.aload_n 0, 1) := dk_42 (dk_at dksJ10_isLatin1_0 6 rfl rfl)
theorem dJ10_isLatin1_7 : decode cJ10_isLatin1 7 = .ok (.getfield 15, 3) := dk_180 0 15 (dk_at dksJ10_isLatin1_0 7 rfl rfl)
theorem dJ10_isLatin1_10 : decode cJ10_isLatin1 10 = .ok (.ifCond .ne 7, 3) := dk_154 0 7 (dk_at dksJ10_isLatin1_0 10 rfl rfl)
theorem dJ10_isLatin1_13 : decode cJ10_isLatin1 13 = .ok (.iconst 1, 1) := dk_4 (dk_at dksJ10_isLatin1_0 13 rfl rfl)
theorem dJ10_isLatin1_14 : decode cJ10_isLatin1 14 = .ok (.goto 4, 3) := dk_167 0 4 (dk_at dksJ10_isLatin1_0 14 rfl rfl)
theorem dJ10_isLatin1_17 : decode cJ10_isLatin1 17 = .ok (.iconst 0, 1) := dk_3 (dk_at dksJ10_isLatin1_0 17 rfl rfl)
theorem dJ10_isLatin1_18 : decode cJ10_isLatin1 18 = .ok (.ireturn, 1) := dk_172 (dk_at dksJ10_isLatin1_0 18 rfl rfl)
def dkwJ10_checkIndex_0 : List UInt8 := [26, 27, 178, 4, 29, 184, 4, 35, 87, 177]
abbrev dktJ10_checkIndex_0 : List UInt8 := dkwJ10_checkIndex_0 ++ []
theorem dksJ10_checkIndex_0 : cJ10_checkIndex.data.toList.drop 0 = dktJ10_checkIndex_0 := by decide +kernel
theorem dJ10_checkIndex_0 : decode cJ10_checkIndex 0 = .ok (.iload_n 0, 1) := dk_26 (dk_at dksJ10_checkIndex_0 0 rfl rfl)
theorem dJ10_checkIndex_1 : decode cJ10_checkIndex 1 = .ok (.iload_n 1, 1) := dk_27 (dk_at dksJ10_checkIndex_0 1 rfl rfl)
theorem dJ10_checkIndex_2 : decode cJ10_checkIndex 2 = .ok (.getstatic 1053, 3) := dk_178 4 29 (dk_at dksJ10_checkIndex_0 2 rfl rfl)
theorem dJ10_checkIndex_5 : decode cJ10_checkIndex 5 = .ok (.invokestatic 1059, 3) := dk_184 4 35 (dk_at dksJ10_checkIndex_0 5 rfl rfl)
theorem dJ10_checkIndex_8 : decode cJ10_checkIndex 8 = .ok (.pop, 1) := dk_87 (dk_at dksJ10_checkIndex_0 8 rfl rfl)
theorem dJ10_checkIndex_9 : decode cJ10_checkIndex 9 = .ok (.return_, 1) := dk_177 (dk_at dksJ10_checkIndex_0 9 rfl rfl)
def dkwJ11_charAt_0 : List UInt8 := [27, 42, 190, 184, 0, 9, 42, 27, 51, 17, 0, 255, 126, 146, 172]
abbrev dktJ11_charAt_0 : List UInt8 := dkwJ11_charAt_0 ++ []
theorem dksJ11_charAt_0 : cJ11_charAt.data.toList.drop 0 = dktJ11_charAt_0 := by decide +kernel
theorem dJ11_charAt_0 : decode cJ11_charAt 0 = .ok (.iload_n 1, 1) := dk_27 (dk_at dksJ11_charAt_0 0 rfl rfl)
theorem dJ11_charAt_1 : decode cJ11_charAt 1 = .ok (.aload_n 0, 1) := dk_42 (dk_at dksJ11_charAt_0 1 rfl rfl)
theorem dJ11_charAt_2 : decode cJ11_charAt 2 = .ok (.arraylength, 1) := dk_190 (dk_at dksJ11_charAt_0 2 rfl rfl)
theorem dJ11_charAt_3 : decode cJ11_charAt 3 = .ok (.invokestatic 9, 3) := dk_184 0 9 (dk_at dksJ11_charAt_0 3 rfl rfl)
theorem dJ11_charAt_6 : decode cJ11_charAt 6 = .ok (.aload_n 0, 1) := dk_42 (dk_at dksJ11_charAt_0 6 rfl rfl)
theorem dJ11_charAt_7 : decode cJ11_charAt 7 = .ok (.iload_n 1, 1) := dk_27 (dk_at dksJ11_charAt_0 7 rfl rfl)
theorem dJ11_charAt_8 : decode cJ11_charAt 8 = .ok (.baload, 1) := dk_51 (dk_at dksJ11_charAt_0 8 rfl rfl)
theorem dJ11_charAt_9 : decode cJ11_charAt 9 = .ok (.sipush 255, 3) := dk_17 0 255 (dk_at dksJ11_charAt_0 9 rfl rfl)
theorem dJ11_charAt_12 : decode cJ11_charAt 12 = .ok (.iand, 1) := dk_126 (dk_at dksJ11_charAt_0 12 rfl rfl)
theorem dJ11_charAt_13 : decode cJ11_charAt 13 = .ok (.i2c, 1) := dk_146 (dk_at dksJ11_charAt_0 13 rfl rfl)
theorem dJ11_charAt_14 : decode cJ11_charAt 14 = .ok (.ireturn, 1) := dk_172 (dk_at dksJ11_charAt_0 14 rfl rfl)
def dkwJ12_checkIndex_0 : List UInt8 := [26, 155, 0, 8, 26, 27, 161, 0, 10, 44, 26, 27, 184, 0, 95, 191, 26, 172]
abbrev dktJ12_checkIndex_0 : List UInt8 := dkwJ12_checkIndex_0 ++ []
theorem dksJ12_checkIndex_0 : cJ12_checkIndex.data.toList.drop 0 = dktJ12_checkIndex_0 := by decide +kernel
theorem dJ12_checkIndex_0 : decode cJ12_checkIndex 0 = .ok (.iload_n 0, 1) := dk_26 (dk_at dksJ12_checkIndex_0 0 rfl rfl)
theorem dJ12_checkIndex_1 : decode cJ12_checkIndex 1 = .ok (.ifCond .lt 8, 3) := dk_155 0 8 (dk_at dksJ12_checkIndex_0 1 rfl rfl)
theorem dJ12_checkIndex_4 : decode cJ12_checkIndex 4 = .ok (.iload_n 0, 1) := dk_26 (dk_at dksJ12_checkIndex_0 4 rfl rfl)
theorem dJ12_checkIndex_5 : decode cJ12_checkIndex 5 = .ok (.iload_n 1, 1) := dk_27 (dk_at dksJ12_checkIndex_0 5 rfl rfl)
theorem dJ12_checkIndex_6 : decode cJ12_checkIndex 6 = .ok (.if_icmp .lt 10, 3) := dk_161 0 10 (dk_at dksJ12_checkIndex_0 6 rfl rfl)
theorem dJ12_checkIndex_9 : decode cJ12_checkIndex 9 = .ok (.aload_n 2, 1) := dk_44 (dk_at dksJ12_checkIndex_0 9 rfl rfl)
theorem dJ12_checkIndex_10 : decode cJ12_checkIndex 10 = .ok (.iload_n 0, 1) := dk_26 (dk_at dksJ12_checkIndex_0 10 rfl rfl)
theorem dJ12_checkIndex_11 : decode cJ12_checkIndex 11 = .ok (.iload_n 1, 1) := dk_27 (dk_at dksJ12_checkIndex_0 11 rfl rfl)
theorem dJ12_checkIndex_12 : decode cJ12_checkIndex 12 = .ok (.invokestatic 95, 3) := dk_184 0 95 (dk_at dksJ12_checkIndex_0 12 rfl rfl)
theorem dJ12_checkIndex_15 : decode cJ12_checkIndex 15 = .ok (.athrow, 1) := dk_191 (dk_at dksJ12_checkIndex_0 15 rfl rfl)
theorem dJ12_checkIndex_16 : decode cJ12_checkIndex 16 = .ok (.iload_n 0, 1) := dk_26 (dk_at dksJ12_checkIndex_0 16 rfl rfl)
theorem dJ12_checkIndex_17 : decode cJ12_checkIndex 17 = .ok (.ireturn, 1) := dk_172 (dk_at dksJ12_checkIndex_0 17 rfl rfl)
def dkwJ13_charAt_0 : List UInt8 := [27, 42, 184, 0, 67, 42, 27, 184, 0, 71, 172]
abbrev dktJ13_charAt_0 : List UInt8 := dkwJ13_charAt_0 ++ []
theorem dksJ13_charAt_0 : cJ13_charAt.data.toList.drop 0 = dktJ13_charAt_0 := by decide +kernel
theorem dJ13_charAt_0 : decode cJ13_charAt 0 = .ok (.iload_n 1, 1) := dk_27 (dk_at dksJ13_charAt_0 0 rfl rfl)
theorem dJ13_charAt_1 : decode cJ13_charAt 1 = .ok (.aload_n 0, 1) := dk_42 (dk_at dksJ13_charAt_0 1 rfl rfl)
theorem dJ13_charAt_2 : decode cJ13_charAt 2 = .ok (.invokestatic 67, 3) := dk_184 0 67 (dk_at dksJ13_charAt_0 2 rfl rfl)
theorem dJ13_charAt_5 : decode cJ13_charAt 5 = .ok (.aload_n 0, 1) := dk_42 (dk_at dksJ13_charAt_0 5 rfl rfl)
theorem dJ13_charAt_6 : decode cJ13_charAt 6 = .ok (.iload_n 1, 1) := dk_27 (dk_at dksJ13_charAt_0 6 rfl rfl)
theorem dJ13_charAt_7 : decode cJ13_charAt 7 = .ok (.invokestatic 71, 3) := dk_184 0 71 (dk_at dksJ13_charAt_0 7 rfl rfl)
theorem dJ13_charAt_10 : decode cJ13_charAt 10 = .ok (.ireturn, 1) := dk_172 (dk_at dksJ13_charAt_0 10 rfl rfl)
def dkwJ13_checkIndex_0 : List UInt8 := [26, 43, 184, 0, 48, 184, 1, 158, 177]
abbrev dktJ13_checkIndex_0 : List UInt8 := dkwJ13_checkIndex_0 ++ []
theorem dksJ13_checkIndex_0 : cJ13_checkIndex.data.toList.drop 0 = dktJ13_checkIndex_0 := by decide +kernel
theorem dJ13_checkIndex_0 : decode cJ13_checkIndex 0 = .ok (.iload_n 0, 1) := dk_26 (dk_at dksJ13_checkIndex_0 0 rfl rfl)
theorem dJ13_checkIndex_1 : decode cJ13_checkIndex 1 = .ok (.aload_n 1, 1) := dk_43 (dk_at dksJ13_checkIndex_0 1 rfl rfl)
theorem dJ13_checkIndex_2 : decode cJ13_checkIndex 2 = .ok (.invokestatic 48, 3) := dk_184 0 48 (dk_at dksJ13_checkIndex_0 2 rfl rfl)
theorem dJ13_checkIndex_5 : decode cJ13_checkIndex 5 = .ok (.invokestatic 414, 3) := dk_184 1 158 (dk_at dksJ13_checkIndex_0 5 rfl rfl)
theorem dJ13_checkIndex_8 : decode cJ13_checkIndex 8 = .ok (.return_, 1) := dk_177 (dk_at dksJ13_checkIndex_0 8 rfl rfl)
def dkwJ13_length_0 : List UInt8 := [42, 190, 4, 122, 172]
abbrev dktJ13_length_0 : List UInt8 := dkwJ13_length_0 ++ []
theorem dksJ13_length_0 : cJ13_length.data.toList.drop 0 = dktJ13_length_0 := by decide +kernel
theorem dJ13_length_0 : decode cJ13_length 0 = .ok (.aload_n 0, 1) := dk_42 (dk_at dksJ13_length_0 0 rfl rfl)
theorem dJ13_length_1 : decode cJ13_length 1 = .ok (.arraylength, 1) := dk_190 (dk_at dksJ13_length_0 1 rfl rfl)
theorem dJ13_length_2 : decode cJ13_length 2 = .ok (.iconst 1, 1) := dk_4 (dk_at dksJ13_length_0 2 rfl rfl)
theorem dJ13_length_3 : decode cJ13_length 3 = .ok (.ishr, 1) := dk_122 (dk_at dksJ13_length_0 3 rfl rfl)
theorem dJ13_length_4 : decode cJ13_length 4 = .ok (.ireturn, 1) := dk_172 (dk_at dksJ13_length_0 4 rfl rfl)
def dkwJ13_getChar_2 : List UInt8 := [51, 17, 0, 255, 126, 178, 0, 63, 120, 128, 146, 172]
abbrev dktJ13_getChar_2 : List UInt8 := dkwJ13_getChar_2 ++ []
def dkwJ13_getChar_1 : List UInt8 := [183, 0, 56, 191, 27, 4, 120, 60, 42, 27, 132, 1, 1, 51, 17, 0, 255, 126, 178, 0, 59, 120, 42, 27]
abbrev dktJ13_getChar_1 : List UInt8 := dkwJ13_getChar_1 ++ dktJ13_getChar_2
def dkwJ13_getChar_0 : List UInt8 := [178, 0, 44, 154, 0, 25, 27, 155, 0, 11, 27, 42, 184, 0, 48, 161, 0, 13, 187, 0, 52, 89, 18, 54]
abbrev dktJ13_getChar_0 : List UInt8 := dkwJ13_getChar_0 ++ dktJ13_getChar_1
theorem dksJ13_getChar_0 : cJ13_getChar.data.toList.drop 0 = dktJ13_getChar_0 := by decide +kernel
theorem dksJ13_getChar_1 : cJ13_getChar.data.toList.drop 24 = dktJ13_getChar_1 := dk_seg dksJ13_getChar_0 24 rfl rfl
theorem dksJ13_getChar_2 : cJ13_getChar.data.toList.drop 48 = dktJ13_getChar_2 := dk_seg dksJ13_getChar_1 24 rfl rfl
theorem dJ13_getChar_0 : decode cJ13_getChar 0 = .ok (.getstatic 44, 3) := dk_178 0 44 (dk_at dksJ13_getChar_0 0 rfl rfl)
theorem dJ13_getChar_3 : decode cJ13_getChar 3 = .ok (.ifCond .ne 25, 3) := dk_154 0 25 (dk_at dksJ13_getChar_0 3 rfl rfl)
theorem dJ13_getChar_6 : decode cJ13_getChar 6 = .ok (.iload_n 1, 1) := dk_27 (dk_at dksJ13_getChar_0 6 rfl rfl)
theorem dJ13_getChar_7 : decode cJ13_getChar 7 = .ok (.ifCond .lt 11, 3) := dk_155 0 11 (dk_at dksJ13_getChar_0 7 rfl rfl)
theorem dJ13_getChar_10 : decode cJ13_getChar 10 = .ok (.iload_n 1, 1) := dk_27 (dk_at dksJ13_getChar_0 10 rfl rfl)
theorem dJ13_getChar_11 : decode cJ13_getChar 11 = .ok (.aload_n 0, 1) := dk_42 (dk_at dksJ13_getChar_0 11 rfl rfl)
theorem dJ13_getChar_12 : decode cJ13_getChar 12 = .ok (.invokestatic 48, 3) := dk_184 0 48 (dk_at dksJ13_getChar_0 12 rfl rfl)
theorem dJ13_getChar_15 : decode cJ13_getChar 15 = .ok (.if_icmp .lt 13, 3) := dk_161 0 13 (dk_at dksJ13_getChar_0 15 rfl rfl)
theorem dJ13_getChar_18 : decode cJ13_getChar 18 = .ok (.new 52, 3) := dk_187 0 52 (dk_at dksJ13_getChar_0 18 rfl rfl)
theorem dJ13_getChar_21 : decode cJ13_getChar 21 = .ok (.dup, 1) := dk_89 (dk_at dksJ13_getChar_0 21 rfl rfl)
theorem dJ13_getChar_22 : decode cJ13_getChar 22 = .ok (.ldc 54, 2) := dk_18 54 (dk_at dksJ13_getChar_0 22 rfl rfl)
theorem dJ13_getChar_24 : decode cJ13_getChar 24 = .ok (.invokespecial 56, 3) := dk_183 0 56 (dk_at dksJ13_getChar_1 0 rfl rfl)
theorem dJ13_getChar_27 : decode cJ13_getChar 27 = .ok (.athrow, 1) := dk_191 (dk_at dksJ13_getChar_1 3 rfl rfl)
theorem dJ13_getChar_28 : decode cJ13_getChar 28 = .ok (.iload_n 1, 1) := dk_27 (dk_at dksJ13_getChar_1 4 rfl rfl)
theorem dJ13_getChar_29 : decode cJ13_getChar 29 = .ok (.iconst 1, 1) := dk_4 (dk_at dksJ13_getChar_1 5 rfl rfl)
theorem dJ13_getChar_30 : decode cJ13_getChar 30 = .ok (.ishl, 1) := dk_120 (dk_at dksJ13_getChar_1 6 rfl rfl)
theorem dJ13_getChar_31 : decode cJ13_getChar 31 = .ok (.istore_n 1, 1) := dk_60 (dk_at dksJ13_getChar_1 7 rfl rfl)
theorem dJ13_getChar_32 : decode cJ13_getChar 32 = .ok (.aload_n 0, 1) := dk_42 (dk_at dksJ13_getChar_1 8 rfl rfl)
theorem dJ13_getChar_33 : decode cJ13_getChar 33 = .ok (.iload_n 1, 1) := dk_27 (dk_at dksJ13_getChar_1 9 rfl rfl)
theorem dJ13_getChar_34 : decode cJ13_getChar 34 = .ok (.iinc 1 1, 3) := dk_132 1 1 (dk_at dksJ13_getChar_1 10 rfl rfl)
theorem dJ13_getChar_37 : decode cJ13_getChar 37 = .ok (.baload, 1) := dk_51 (dk_at dksJ13_getChar_1 13 rfl rfl)
theorem dJ13_getChar_38 : decode cJ13_getChar 38 = .ok (.sipush 255, 3) := dk_17 0 255 (dk_at dksJ13_getChar_1 14 rfl rfl)
theorem dJ13_getChar_41 : decode cJ13_getChar 41 = .ok (.iand, 1) := dk_126 (dk_at dksJ13_getChar_1 17 rfl rfl)
theorem dJ13_getChar_42 : decode cJ13_getChar 42 = .ok (.getstatic 59, 3) := dk_178 0 59 (dk_at dksJ13_getChar_1 18 rfl rfl)
theorem dJ13_getChar_45 : decode cJ13_getChar 45 = .ok (.ishl, 1) := dk_120 (dk_at dksJ13_getChar_1 21 rfl rfl)
theorem dJ13_getChar_46 : decode cJ13_getChar 46 = .ok (.aload_n 0, 1) := dk_42 (dk_at dksJ13_getChar_1 22 rfl rfl)
theorem dJ13_getChar_47 : decode cJ13_getChar 47 = .ok (.iload_n 1, 1) := dk_27 (dk_at dksJ13_getChar_1 23 rfl rfl)
theorem dJ13_getChar_48 : decode cJ13_getChar 48 = .ok (.baload, 1) := dk_51 (dk_at dksJ13_getChar_2 0 rfl rfl)
theorem dJ13_getChar_49 : decode cJ13_getChar 49 = .ok (.sipush 255, 3) := dk_17 0 255 (dk_at dksJ13_getChar_2 1 rfl rfl)
theorem dJ13_getChar_52 : decode cJ13_getChar 52 = .ok (.iand, 1) := dk_126 (dk_at dksJ13_getChar_2 4 rfl rfl)
theorem dJ13_getChar_53 : decode cJ13_getChar 53 = .ok (.getstatic 63, 3) := dk_178 0 63 (dk_at dksJ13_getChar_2 5 rfl rfl)
theorem dJ13_getChar_56 : decode cJ13_getChar 56 = .ok (.ishl, 1) := dk_120 (dk_at dksJ13_getChar_2 8 rfl rfl)
theorem dJ13_getChar_57 : decode cJ13_getChar 57 = .ok (.ior, 1) := dk_128 (dk_at dksJ13_getChar_2 9 rfl rfl)
theorem dJ13_getChar_58 : decode cJ13_getChar 58 = .ok (.i2c, 1) := dk_146 (dk_at dksJ13_getChar_2 10 rfl rfl)
theorem dJ13_getChar_59 : decode cJ13_getChar 59 = .ok (.ireturn, 1) := dk_172 (dk_at dksJ13_getChar_2 11 rfl rfl)
def dkwJ14_min_0 : List UInt8 := [26, 27, 163, 0, 7, 26, 167, 0, 4, 27, 172]
abbrev dktJ14_min_0 : List UInt8 := dkwJ14_min_0 ++ []
theorem dksJ14_min_0 : cJ14_min.data.toList.drop 0 = dktJ14_min_0 := by decide +kernel
theorem dJ14_min_0 : decode cJ14_min 0 = .ok (.iload_n 0, 1) := dk_26 (dk_at dksJ14_min_0 0 rfl rfl)
theorem dJ14_min_1 : decode cJ14_min 1 = .ok (.iload_n 1, 1) := dk_27 (dk_at dksJ14_min_0 1 rfl rfl)
theorem dJ14_min_2 : decode cJ14_min 2 = .ok (.if_icmp .gt 7, 3) := dk_163 0 7 (dk_at dksJ14_min_0 2 rfl rfl)
theorem dJ14_min_5 : decode cJ14_min 5 = .ok (.iload_n 0, 1) := dk_26 (dk_at dksJ14_min_0 5 rfl rfl)
theorem dJ14_min_6 : decode cJ14_min 6 = .ok (.goto 4, 3) := dk_167 0 4 (dk_at dksJ14_min_0 6 rfl rfl)
theorem dJ14_min_9 : decode cJ14_min 9 = .ok (.iload_n 1, 1) := dk_27 (dk_at dksJ14_min_0 9 rfl rfl)
theorem dJ14_min_10 : decode cJ14_min 10 = .ok (.ireturn, 1) := dk_172 (dk_at dksJ14_min_0 10 rfl rfl)
def dkwJ14_max_0 : List UInt8 := [26, 27, 161, 0, 7, 26, 167, 0, 4, 27, 172]
abbrev dktJ14_max_0 : List UInt8 := dkwJ14_max_0 ++ []
theorem dksJ14_max_0 : cJ14_max.data.toList.drop 0 = dktJ14_max_0 := by decide +kernel
theorem dJ14_max_0 : decode cJ14_max 0 = .ok (.iload_n 0, 1) := dk_26 (dk_at dksJ14_max_0 0 rfl rfl)
theorem dJ14_max_1 : decode cJ14_max 1 = .ok (.iload_n 1, 1) := dk_27 (dk_at dksJ14_max_0 1 rfl rfl)
theorem dJ14_max_2 : decode cJ14_max 2 = .ok (.if_icmp .lt 7, 3) := dk_161 0 7 (dk_at dksJ14_max_0 2 rfl rfl)
theorem dJ14_max_5 : decode cJ14_max 5 = .ok (.iload_n 0, 1) := dk_26 (dk_at dksJ14_max_0 5 rfl rfl)
theorem dJ14_max_6 : decode cJ14_max 6 = .ok (.goto 4, 3) := dk_167 0 4 (dk_at dksJ14_max_0 6 rfl rfl)
theorem dJ14_max_9 : decode cJ14_max 9 = .ok (.iload_n 1, 1) := dk_27 (dk_at dksJ14_max_0 9 rfl rfl)
theorem dJ14_max_10 : decode cJ14_max 10 = .ok (.ireturn, 1) := dk_172 (dk_at dksJ14_max_0 10 rfl rfl)
def dkwJ14_min_2_0 : List UInt8 := [30, 32, 148, 157, 0, 7, 30, 167, 0, 4, 32, 173]
abbrev dktJ14_min_2_0 : List UInt8 := dkwJ14_min_2_0 ++ []
theorem dksJ14_min_2_0 : cJ14_min_2.data.toList.drop 0 = dktJ14_min_2_0 := by decide +kernel
theorem dJ14_min_2_0 : decode cJ14_min_2 0 = .ok (.lload_n 0, 1) := dk_30 (dk_at dksJ14_min_2_0 0 rfl rfl)
theorem dJ14_min_2_1 : decode cJ14_min_2 1 = .ok (.lload_n 2, 1) := dk_32 (dk_at dksJ14_min_2_0 1 rfl rfl)
theorem dJ14_min_2_2 : decode cJ14_min_2 2 = .ok (.lcmp, 1) := dk_148 (dk_at dksJ14_min_2_0 2 rfl rfl)
theorem dJ14_min_2_3 : decode cJ14_min_2 3 = .ok (.ifCond .gt 7, 3) := dk_157 0 7 (dk_at dksJ14_min_2_0 3 rfl rfl)
theorem dJ14_min_2_6 : decode cJ14_min_2 6 = .ok (.lload_n 0, 1) := dk_30 (dk_at dksJ14_min_2_0 6 rfl rfl)
theorem dJ14_min_2_7 : decode cJ14_min_2 7 = .ok (.goto 4, 3) := dk_167 0 4 (dk_at dksJ14_min_2_0 7 rfl rfl)
theorem dJ14_min_2_10 : decode cJ14_min_2 10 = .ok (.lload_n 2, 1) := dk_32 (dk_at dksJ14_min_2_0 10 rfl rfl)
theorem dJ14_min_2_11 : decode cJ14_min_2 11 = .ok (.lreturn, 1) := dk_173 (dk_at dksJ14_min_2_0 11 rfl rfl)
def dkwJ14_max_2_0 : List UInt8 := [30, 32, 148, 155, 0, 7, 30, 167, 0, 4, 32, 173]
abbrev dktJ14_max_2_0 : List UInt8 := dkwJ14_max_2_0 ++ []
theorem dksJ14_max_2_0 : cJ14_max_2.data.toList.drop 0 = dktJ14_max_2_0 := by decide +kernel
theorem dJ14_max_2_0 : decode cJ14_max_2 0 = .ok (.lload_n 0, 1) := dk_30 (dk_at dksJ14_max_2_0 0 rfl rfl)
theorem dJ14_max_2_1 : decode cJ14_max_2 1 = .ok (.lload_n 2, 1) := dk_32 (dk_at dksJ14_max_2_0 1 rfl rfl)
theorem dJ14_max_2_2 : decode cJ14_max_2 2 = .ok (.lcmp, 1) := dk_148 (dk_at dksJ14_max_2_0 2 rfl rfl)
theorem dJ14_max_2_3 : decode cJ14_max_2 3 = .ok (.ifCond .lt 7, 3) := dk_155 0 7 (dk_at dksJ14_max_2_0 3 rfl rfl)
theorem dJ14_max_2_6 : decode cJ14_max_2 6 = .ok (.lload_n 0, 1) := dk_30 (dk_at dksJ14_max_2_0 6 rfl rfl)
theorem dJ14_max_2_7 : decode cJ14_max_2 7 = .ok (.goto 4, 3) := dk_167 0 4 (dk_at dksJ14_max_2_0 7 rfl rfl)
theorem dJ14_max_2_10 : decode cJ14_max_2 10 = .ok (.lload_n 2, 1) := dk_32 (dk_at dksJ14_max_2_0 10 rfl rfl)
theorem dJ14_max_2_11 : decode cJ14_max_2 11 = .ok (.lreturn, 1) := dk_173 (dk_at dksJ14_max_2_0 11 rfl rfl)
def dkwJ15_init_1 : List UInt8 := [182, 0, 27, 87, 177]
abbrev dktJ15_init_1 : List UInt8 := dkwJ15_init_1 ++ []
def dkwJ15_init_0 : List UInt8 := [42, 183, 0, 1, 42, 42, 181, 0, 7, 42, 178, 0, 13, 181, 0, 17, 42, 178, 0, 20, 181, 0, 24, 42]
abbrev dktJ15_init_0 : List UInt8 := dkwJ15_init_0 ++ dktJ15_init_1
theorem dksJ15_init_0 : cJ15_init.data.toList.drop 0 = dktJ15_init_0 := by decide +kernel
theorem dksJ15_init_1 : cJ15_init.data.toList.drop 24 = dktJ15_init_1 := dk_seg dksJ15_init_0 24 rfl rfl
theorem dJ15_init_0 : decode cJ15_init 0 = .ok (.aload_n 0, 1) := dk_42 (dk_at dksJ15_init_0 0 rfl rfl)
theorem dJ15_init_1 : decode cJ15_init 1 = .ok (.invokespecial 1, 3) := dk_183 0 1 (dk_at dksJ15_init_0 1 rfl rfl)
theorem dJ15_init_4 : decode cJ15_init 4 = .ok (.aload_n 0, 1) := dk_42 (dk_at dksJ15_init_0 4 rfl rfl)
theorem dJ15_init_5 : decode cJ15_init 5 = .ok (.aload_n 0, 1) := dk_42 (dk_at dksJ15_init_0 5 rfl rfl)
theorem dJ15_init_6 : decode cJ15_init 6 = .ok (.putfield 7, 3) := dk_181 0 7 (dk_at dksJ15_init_0 6 rfl rfl)
theorem dJ15_init_9 : decode cJ15_init 9 = .ok (.aload_n 0, 1) := dk_42 (dk_at dksJ15_init_0 9 rfl rfl)
theorem dJ15_init_10 : decode cJ15_init 10 = .ok (.getstatic 13, 3) := dk_178 0 13 (dk_at dksJ15_init_0 10 rfl rfl)
theorem dJ15_init_13 : decode cJ15_init 13 = .ok (.putfield 17, 3) := dk_181 0 17 (dk_at dksJ15_init_0 13 rfl rfl)
theorem dJ15_init_16 : decode cJ15_init 16 = .ok (.aload_n 0, 1) := dk_42 (dk_at dksJ15_init_0 16 rfl rfl)
theorem dJ15_init_17 : decode cJ15_init 17 = .ok (.getstatic 20, 3) := dk_178 0 20 (dk_at dksJ15_init_0 17 rfl rfl)
theorem dJ15_init_20 : decode cJ15_init 20 = .ok (.putfield 24, 3) := dk_181 0 24 (dk_at dksJ15_init_0 20 rfl rfl)
theorem dJ15_init_23 : decode cJ15_init 23 = .ok (.aload_n 0, 1) := dk_42 (dk_at dksJ15_init_0 23 rfl rfl)
theorem dJ15_init_24 : decode cJ15_init 24 = .ok (.invokevirtual 27, 3) := dk_182 0 27 (dk_at dksJ15_init_1 0 rfl rfl)
theorem dJ15_init_27 : decode cJ15_init 27 = .ok (.pop, 1) := dk_87 (dk_at dksJ15_init_1 3 rfl rfl)
theorem dJ15_init_28 : decode cJ15_init 28 = .ok (.return_, 1) := dk_177 (dk_at dksJ15_init_1 4 rfl rfl)
theorem dJ16_init_0 : decode cJ16_init 0 = .ok (.aload_n 0, 1) := by decide +kernel
theorem dJ16_init_1 : decode cJ16_init 1 = .ok (.invokespecial 1, 3) := by decide +kernel
theorem dJ16_init_4 : decode cJ16_init 4 = .ok (.return_, 1) := by decide +kernel
def dkwJ17_checkIndex_0 : List UInt8 := [26, 27, 1, 184, 0, 105, 172]
abbrev dktJ17_checkIndex_0 : List UInt8 := dkwJ17_checkIndex_0 ++ []
theorem dksJ17_checkIndex_0 : cJ17_checkIndex.data.toList.drop 0 = dktJ17_checkIndex_0 := by decide +kernel
theorem dJ17_checkIndex_0 : decode cJ17_checkIndex 0 = .ok (.iload_n 0, 1) := dk_26 (dk_at dksJ17_checkIndex_0 0 rfl rfl)
theorem dJ17_checkIndex_1 : decode cJ17_checkIndex 1 = .ok (.iload_n 1, 1) := dk_27 (dk_at dksJ17_checkIndex_0 1 rfl rfl)
theorem dJ17_checkIndex_2 : decode cJ17_checkIndex 2 = .ok (.aconst_null, 1) := dk_1 (dk_at dksJ17_checkIndex_0 2 rfl rfl)
theorem dJ17_checkIndex_3 : decode cJ17_checkIndex 3 = .ok (.invokestatic 105, 3) := dk_184 0 105 (dk_at dksJ17_checkIndex_0 3 rfl rfl)
theorem dJ17_checkIndex_6 : decode cJ17_checkIndex 6 = .ok (.ireturn, 1) := dk_172 (dk_at dksJ17_checkIndex_0 6 rfl rfl)
theorem dJ18_init_0 : decode cJ18_init 0 = .ok (.return_, 1) := by decide +kernel
def dkwJ2_getLongUnaligned_7 : List UInt8 := [182, 0, 39, 184, 2, 197, 173]
abbrev dktJ2_getLongUnaligned_7 : List UInt8 := dkwJ2_getLongUnaligned_7 ++ []
def dkwJ2_getLongUnaligned_6 : List UInt8 := [20, 2, 195, 97, 182, 0, 39, 42, 43, 32, 20, 2, 190, 97, 182, 0, 39, 42, 43, 32, 20, 2, 184, 97]
abbrev dktJ2_getLongUnaligned_6 : List UInt8 := dkwJ2_getLongUnaligned_6 ++ dktJ2_getLongUnaligned_7
def dkwJ2_getLongUnaligned_5 : List UInt8 := [43, 32, 20, 1, 93, 97, 182, 0, 39, 42, 43, 32, 20, 0, 205, 97, 182, 0, 39, 42, 43, 32]
abbrev dktJ2_getLongUnaligned_5 : List UInt8 := dkwJ2_getLongUnaligned_5 ++ dktJ2_getLongUnaligned_6
def dkwJ2_getLongUnaligned_4 : List UInt8 := [43, 32, 182, 0, 39, 42, 43, 32, 10, 97, 182, 0, 39, 42, 43, 32, 20, 0, 203, 97, 182, 0, 39, 42]
abbrev dktJ2_getLongUnaligned_4 : List UInt8 := dkwJ2_getLongUnaligned_4 ++ dktJ2_getLongUnaligned_5
def dkwJ2_getLongUnaligned_3 : List UInt8 := [43, 32, 20, 0, 205, 97, 182, 0, 47, 42, 43, 32, 20, 2, 190, 97, 182, 0, 47, 184, 2, 192, 173, 42]
abbrev dktJ2_getLongUnaligned_3 : List UInt8 := dkwJ2_getLongUnaligned_3 ++ dktJ2_getLongUnaligned_4
def dkwJ2_getLongUnaligned_2 : List UInt8 := [10, 127, 9, 148, 154, 0, 43, 42, 43, 32, 182, 0, 47, 42, 43, 32, 20, 0, 203, 97, 182, 0, 47, 42]
abbrev dktJ2_getLongUnaligned_2 : List UInt8 := dkwJ2_getLongUnaligned_2 ++ dktJ2_getLongUnaligned_3
def dkwJ2_getLongUnaligned_1 : List UInt8 := [154, 0, 23, 42, 43, 32, 182, 0, 17, 42, 43, 32, 20, 0, 205, 97, 182, 0, 17, 184, 2, 186, 173, 32]
abbrev dktJ2_getLongUnaligned_1 : List UInt8 := dkwJ2_getLongUnaligned_1 ++ dktJ2_getLongUnaligned_2
def dkwJ2_getLongUnaligned_0 : List UInt8 := [32, 20, 2, 184, 127, 9, 148, 154, 0, 10, 42, 43, 32, 182, 0, 27, 173, 32, 20, 1, 93, 127, 9, 148]
abbrev dktJ2_getLongUnaligned_0 : List UInt8 := dkwJ2_getLongUnaligned_0 ++ dktJ2_getLongUnaligned_1
theorem dksJ2_getLongUnaligned_0 : cJ2_getLongUnaligned.data.toList.drop 0 = dktJ2_getLongUnaligned_0 := by decide +kernel
theorem dksJ2_getLongUnaligned_1 : cJ2_getLongUnaligned.data.toList.drop 24 = dktJ2_getLongUnaligned_1 := dk_seg dksJ2_getLongUnaligned_0 24 rfl rfl
theorem dksJ2_getLongUnaligned_2 : cJ2_getLongUnaligned.data.toList.drop 48 = dktJ2_getLongUnaligned_2 := dk_seg dksJ2_getLongUnaligned_1 24 rfl rfl
theorem dksJ2_getLongUnaligned_3 : cJ2_getLongUnaligned.data.toList.drop 72 = dktJ2_getLongUnaligned_3 := dk_seg dksJ2_getLongUnaligned_2 24 rfl rfl
theorem dksJ2_getLongUnaligned_4 : cJ2_getLongUnaligned.data.toList.drop 96 = dktJ2_getLongUnaligned_4 := dk_seg dksJ2_getLongUnaligned_3 24 rfl rfl
theorem dksJ2_getLongUnaligned_5 : cJ2_getLongUnaligned.data.toList.drop 120 = dktJ2_getLongUnaligned_5 := dk_seg dksJ2_getLongUnaligned_4 24 rfl rfl
theorem dksJ2_getLongUnaligned_6 : cJ2_getLongUnaligned.data.toList.drop 142 = dktJ2_getLongUnaligned_6 := dk_seg dksJ2_getLongUnaligned_5 22 rfl rfl
theorem dksJ2_getLongUnaligned_7 : cJ2_getLongUnaligned.data.toList.drop 166 = dktJ2_getLongUnaligned_7 := dk_seg dksJ2_getLongUnaligned_6 24 rfl rfl
theorem dJ2_getLongUnaligned_0 : decode cJ2_getLongUnaligned 0 = .ok (.lload_n 2, 1) := dk_32 (dk_at dksJ2_getLongUnaligned_0 0 rfl rfl)
theorem dJ2_getLongUnaligned_1 : decode cJ2_getLongUnaligned 1 = .ok (.ldc2_w 696, 3) := dk_20 2 184 (dk_at dksJ2_getLongUnaligned_0 1 rfl rfl)
theorem dJ2_getLongUnaligned_4 : decode cJ2_getLongUnaligned 4 = .ok (.land, 1) := dk_127 (dk_at dksJ2_getLongUnaligned_0 4 rfl rfl)
theorem dJ2_getLongUnaligned_5 : decode cJ2_getLongUnaligned 5 = .ok (.lconst 0, 1) := dk_9 (dk_at dksJ2_getLongUnaligned_0 5 rfl rfl)
theorem dJ2_getLongUnaligned_6 : decode cJ2_getLongUnaligned 6 = .ok (.lcmp, 1) := dk_148 (dk_at dksJ2_getLongUnaligned_0 6 rfl rfl)
theorem dJ2_getLongUnaligned_7 : decode cJ2_getLongUnaligned 7 = .ok (.ifCond .ne 10, 3) := dk_154 0 10 (dk_at dksJ2_getLongUnaligned_0 7 rfl rfl)
theorem dJ2_getLongUnaligned_10 : decode cJ2_getLongUnaligned 10 = .ok (.aload_n 0, 1) := dk_42 (dk_at dksJ2_getLongUnaligned_0 10 rfl rfl)
theorem dJ2_getLongUnaligned_11 : decode cJ2_getLongUnaligned 11 = .ok (.aload_n 1, 1) := dk_43 (dk_at dksJ2_getLongUnaligned_0 11 rfl rfl)
theorem dJ2_getLongUnaligned_12 : decode cJ2_getLongUnaligned 12 = .ok (.lload_n 2, 1) := dk_32 (dk_at dksJ2_getLongUnaligned_0 12 rfl rfl)
theorem dJ2_getLongUnaligned_13 : decode cJ2_getLongUnaligned 13 = .ok (.invokevirtual 27, 3) := dk_182 0 27 (dk_at dksJ2_getLongUnaligned_0 13 rfl rfl)
theorem dJ2_getLongUnaligned_16 : decode cJ2_getLongUnaligned 16 = .ok (.lreturn, 1) := dk_173 (dk_at dksJ2_getLongUnaligned_0 16 rfl rfl)
theorem dJ2_getLongUnaligned_17 : decode cJ2_getLongUnaligned 17 = .ok (.lload_n 2, 1) := dk_32 (dk_at dksJ2_getLongUnaligned_0 17 rfl rfl)
theorem dJ2_getLongUnaligned_18 : decode cJ2_getLongUnaligned 18 = .ok (.ldc2_w 349, 3) := dk_20 1 93 (dk_at dksJ2_getLongUnaligned_0 18 rfl rfl)
theorem dJ2_getLongUnaligned_21 : decode cJ2_getLongUnaligned 21 = .ok (.land, 1) := dk_127 (dk_at dksJ2_getLongUnaligned_0 21 rfl rfl)
theorem dJ2_getLongUnaligned_22 : decode cJ2_getLongUnaligned 22 = .ok (.lconst 0, 1) := dk_9 (dk_at dksJ2_getLongUnaligned_0 22 rfl rfl)
theorem dJ2_getLongUnaligned_23 : decode cJ2_getLongUnaligned 23 = .ok (.lcmp, 1) := dk_148 (dk_at dksJ2_getLongUnaligned_0 23 rfl rfl)
theorem dJ2_getLongUnaligned_24 : decode cJ2_getLongUnaligned 24 = .ok (.ifCond .ne 23, 3) := dk_154 0 23 (dk_at dksJ2_getLongUnaligned_1 0 rfl rfl)
theorem dJ2_getLongUnaligned_27 : decode cJ2_getLongUnaligned 27 = .ok (.aload_n 0, 1) := dk_42 (dk_at dksJ2_getLongUnaligned_1 3 rfl rfl)
theorem dJ2_getLongUnaligned_28 : decode cJ2_getLongUnaligned 28 = .ok (.aload_n 1, 1) := dk_43 (dk_at dksJ2_getLongUnaligned_1 4 rfl rfl)
theorem dJ2_getLongUnaligned_29 : decode cJ2_getLongUnaligned 29 = .ok (.lload_n 2, 1) := dk_32 (dk_at dksJ2_getLongUnaligned_1 5 rfl rfl)
theorem dJ2_getLongUnaligned_30 : decode cJ2_getLongUnaligned 30 = .ok (.invokevirtual 17, 3) := dk_182 0 17 (dk_at dksJ2_getLongUnaligned_1 6 rfl rfl)
theorem dJ2_getLongUnaligned_33 : decode cJ2_getLongUnaligned 33 = .ok (.aload_n 0, 1) := dk_42 (dk_at dksJ2_getLongUnaligned_1 9 rfl rfl)
theorem dJ2_getLongUnaligned_34 : decode cJ2_getLongUnaligned 34 = .ok (.aload_n 1, 1) := dk_43 (dk_at dksJ2_getLongUnaligned_1 10 rfl rfl)
theorem dJ2_getLongUnaligned_35 : decode cJ2_getLongUnaligned 35 = .ok (.lload_n 2, 1) := dk_32 (dk_at dksJ2_getLongUnaligned_1 11 rfl rfl)
theorem dJ2_getLongUnaligned_36 : decode cJ2_getLongUnaligned 36 = .ok (.ldc2_w 205, 3) := dk_20 0 205 (dk_at dksJ2_getLongUnaligned_1 12 rfl rfl)
theorem dJ2_getLongUnaligned_39 : decode cJ2_getLongUnaligned 39 = .ok (.ladd, 1) := dk_97 (dk_at dksJ2_getLongUnaligned_1 15 rfl rfl)
theorem dJ2_getLongUnaligned_40 : decode cJ2_getLongUnaligned 40 = .ok (.invokevirtual 17, 3) := dk_182 0 17 (dk_at dksJ2_getLongUnaligned_1 16 rfl rfl)
theorem dJ2_getLongUnaligned_43 : decode cJ2_getLongUnaligned 43 = .ok (.invokestatic 698, 3) := dk_184 2 186 (dk_at dksJ2_getLongUnaligned_1 19 rfl rfl)
theorem dJ2_getLongUnaligned_46 : decode cJ2_getLongUnaligned 46 = .ok (.lreturn, 1) := dk_173 (dk_at dksJ2_getLongUnaligned_1 22 rfl rfl)
theorem dJ2_getLongUnaligned_47 : decode cJ2_getLongUnaligned 47 = .ok (.lload_n 2, 1) := dk_32 (dk_at dksJ2_getLongUnaligned_1 23 rfl rfl)
theorem dJ2_getLongUnaligned_48 : decode cJ2_getLongUnaligned 48 = .ok (.lconst 1, 1) := dk_10 (dk_at dksJ2_getLongUnaligned_2 0 rfl rfl)
theorem dJ2_getLongUnaligned_49 : decode cJ2_getLongUnaligned 49 = .ok (.land, 1) := dk_127 (dk_at dksJ2_getLongUnaligned_2 1 rfl rfl)
theorem dJ2_getLongUnaligned_50 : decode cJ2_getLongUnaligned 50 = .ok (.lconst 0, 1) := dk_9 (dk_at dksJ2_getLongUnaligned_2 2 rfl rfl)
theorem dJ2_getLongUnaligned_51 : decode cJ2_getLongUnaligned 51 = .ok (.lcmp, 1) := dk_148 (dk_at dksJ2_getLongUnaligned_2 3 rfl rfl)
theorem dJ2_getLongUnaligned_52 : decode cJ2_getLongUnaligned 52 = .ok (.ifCond .ne 43, 3) := dk_154 0 43 (dk_at dksJ2_getLongUnaligned_2 4 rfl rfl)
theorem dJ2_getLongUnaligned_55 : decode cJ2_getLongUnaligned 55 = .ok (.aload_n 0, 1) := dk_42 (dk_at dksJ2_getLongUnaligned_2 7 rfl rfl)
theorem dJ2_getLongUnaligned_56 : decode cJ2_getLongUnaligned 56 = .ok (.aload_n 1, 1) := dk_43 (dk_at dksJ2_getLongUnaligned_2 8 rfl rfl)
theorem dJ2_getLongUnaligned_57 : decode cJ2_getLongUnaligned 57 = .ok (.lload_n 2, 1) := dk_32 (dk_at dksJ2_getLongUnaligned_2 9 rfl rfl)
theorem dJ2_getLongUnaligned_58 : decode cJ2_getLongUnaligned 58 = .ok (.invokevirtual 47, 3) := dk_182 0 47 (dk_at dksJ2_getLongUnaligned_2 10 rfl rfl)
theorem dJ2_getLongUnaligned_61 : decode cJ2_getLongUnaligned 61 = .ok (.aload_n 0, 1) := dk_42 (dk_at dksJ2_getLongUnaligned_2 13 rfl rfl)
theorem dJ2_getLongUnaligned_62 : decode cJ2_getLongUnaligned 62 = .ok (.aload_n 1, 1) := dk_43 (dk_at dksJ2_getLongUnaligned_2 14 rfl rfl)
theorem dJ2_getLongUnaligned_63 : decode cJ2_getLongUnaligned 63 = .ok (.lload_n 2, 1) := dk_32 (dk_at dksJ2_getLongUnaligned_2 15 rfl rfl)
theorem dJ2_getLongUnaligned_64 : decode cJ2_getLongUnaligned 64 = .ok (.ldc2_w 203, 3) := dk_20 0 203 (dk_at dksJ2_getLongUnaligned_2 16 rfl rfl)
theorem dJ2_getLongUnaligned_67 : decode cJ2_getLongUnaligned 67 = .ok (.ladd, 1) := dk_97 (dk_at dksJ2_getLongUnaligned_2 19 rfl rfl)
theorem dJ2_getLongUnaligned_68 : decode cJ2_getLongUnaligned 68 = .ok (.invokevirtual 47, 3) := dk_182 0 47 (dk_at dksJ2_getLongUnaligned_2 20 rfl rfl)
theorem dJ2_getLongUnaligned_71 : decode cJ2_getLongUnaligned 71 = .ok (.aload_n 0, 1) := dk_42 (dk_at dksJ2_getLongUnaligned_2 23 rfl rfl)
theorem dJ2_getLongUnaligned_72 : decode cJ2_getLongUnaligned 72 = .ok (.aload_n 1, 1) := dk_43 (dk_at dksJ2_getLongUnaligned_3 0 rfl rfl)
theorem dJ2_getLongUnaligned_73 : decode cJ2_getLongUnaligned 73 = .ok (.lload_n 2, 1) := dk_32 (dk_at dksJ2_getLongUnaligned_3 1 rfl rfl)
theorem dJ2_getLongUnaligned_74 : decode cJ2_getLongUnaligned 74 = .ok (.ldc2_w 205, 3) := dk_20 0 205 (dk_at dksJ2_getLongUnaligned_3 2 rfl rfl)
theorem dJ2_getLongUnaligned_77 : decode cJ2_getLongUnaligned 77 = .ok (.ladd, 1) := dk_97 (dk_at dksJ2_getLongUnaligned_3 5 rfl rfl)
theorem dJ2_getLongUnaligned_78 : decode cJ2_getLongUnaligned 78 = .ok (.invokevirtual 47, 3) := dk_182 0 47 (dk_at dksJ2_getLongUnaligned_3 6 rfl rfl)
theorem dJ2_getLongUnaligned_81 : decode cJ2_getLongUnaligned 81 = .ok (.aload_n 0, 1) := dk_42 (dk_at dksJ2_getLongUnaligned_3 9 rfl rfl)
theorem dJ2_getLongUnaligned_82 : decode cJ2_getLongUnaligned 82 = .ok (.aload_n 1, 1) := dk_43 (dk_at dksJ2_getLongUnaligned_3 10 rfl rfl)
theorem dJ2_getLongUnaligned_83 : decode cJ2_getLongUnaligned 83 = .ok (.lload_n 2, 1) := dk_32 (dk_at dksJ2_getLongUnaligned_3 11 rfl rfl)
theorem dJ2_getLongUnaligned_84 : decode cJ2_getLongUnaligned 84 = .ok (.ldc2_w 702, 3) := dk_20 2 190 (dk_at dksJ2_getLongUnaligned_3 12 rfl rfl)
theorem dJ2_getLongUnaligned_87 : decode cJ2_getLongUnaligned 87 = .ok (.ladd, 1) := dk_97 (dk_at dksJ2_getLongUnaligned_3 15 rfl rfl)
theorem dJ2_getLongUnaligned_88 : decode cJ2_getLongUnaligned 88 = .ok (.invokevirtual 47, 3) := dk_182 0 47 (dk_at dksJ2_getLongUnaligned_3 16 rfl rfl)
theorem dJ2_getLongUnaligned_91 : decode cJ2_getLongUnaligned 91 = .ok (.invokestatic 704, 3) := dk_184 2 192 (dk_at dksJ2_getLongUnaligned_3 19 rfl rfl)
theorem dJ2_getLongUnaligned_94 : decode cJ2_getLongUnaligned 94 = .ok (.lreturn, 1) := dk_173 (dk_at dksJ2_getLongUnaligned_3 22 rfl rfl)
theorem dJ2_getLongUnaligned_95 : decode cJ2_getLongUnaligned 95 = .ok (.aload_n 0, 1) := dk_42 (dk_at dksJ2_getLongUnaligned_3 23 rfl rfl)
theorem dJ2_getLongUnaligned_96 : decode cJ2_getLongUnaligned 96 = .ok (.aload_n 1, 1) := dk_43 (dk_at dksJ2_getLongUnaligned_4 0 rfl rfl)
theorem dJ2_getLongUnaligned_97 : decode cJ2_getLongUnaligned 97 = .ok (.lload_n 2, 1) := dk_32 (dk_at dksJ2_getLongUnaligned_4 1 rfl rfl)
theorem dJ2_getLongUnaligned_98 : decode cJ2_getLongUnaligned 98 = .ok (.invokevirtual 39, 3) := dk_182 0 39 (dk_at dksJ2_getLongUnaligned_4 2 rfl rfl)
theorem dJ2_getLongUnaligned_101 : decode cJ2_getLongUnaligned 101 = .ok (.aload_n 0, 1) := dk_42 (dk_at dksJ2_getLongUnaligned_4 5 rfl rfl)
theorem dJ2_getLongUnaligned_102 : decode cJ2_getLongUnaligned 102 = .ok (.aload_n 1, 1) := dk_43 (dk_at dksJ2_getLongUnaligned_4 6 rfl rfl)
theorem dJ2_getLongUnaligned_103 : decode cJ2_getLongUnaligned 103 = .ok (.lload_n 2, 1) := dk_32 (dk_at dksJ2_getLongUnaligned_4 7 rfl rfl)
theorem dJ2_getLongUnaligned_104 : decode cJ2_getLongUnaligned 104 = .ok (.lconst 1, 1) := dk_10 (dk_at dksJ2_getLongUnaligned_4 8 rfl rfl)
theorem dJ2_getLongUnaligned_105 : decode cJ2_getLongUnaligned 105 = .ok (.ladd, 1) := dk_97 (dk_at dksJ2_getLongUnaligned_4 9 rfl rfl)
theorem dJ2_getLongUnaligned_106 : decode cJ2_getLongUnaligned 106 = .ok (.invokevirtual 39, 3) := dk_182 0 39 (dk_at dksJ2_getLongUnaligned_4 10 rfl rfl)
theorem dJ2_getLongUnaligned_109 : decode cJ2_getLongUnaligned 109 = .ok (.aload_n 0, 1) := dk_42 (dk_at dksJ2_getLongUnaligned_4 13 rfl rfl)
theorem dJ2_getLongUnaligned_110 : decode cJ2_getLongUnaligned 110 = .ok (.aload_n 1, 1) := dk_43 (dk_at dksJ2_getLongUnaligned_4 14 rfl rfl)
theorem dJ2_getLongUnaligned_111 : decode cJ2_getLongUnaligned 111 = .ok (.lload_n 2, 1) := dk_32 (dk_at dksJ2_getLongUnaligned_4 15 rfl rfl)
theorem dJ2_getLongUnaligned_112 : decode cJ2_getLongUnaligned 112 = .ok (.ldc2_w 203, 3) := dk_20 0 203 (dk_at dksJ2_getLongUnaligned_4 16 rfl rfl)
theorem dJ2_getLongUnaligned_115 : decode cJ2_getLongUnaligned 115 = .ok (.ladd, 1) := dk_97 (dk_at dksJ2_getLongUnaligned_4 19 rfl rfl)
theorem dJ2_getLongUnaligned_116 : decode cJ2_getLongUnaligned 116 = .ok (.invokevirtual 39, 3) := dk_182 0 39 (dk_at dksJ2_getLongUnaligned_4 20 rfl rfl)
theorem dJ2_getLongUnaligned_119 : decode cJ2_getLongUnaligned 119 = .ok (.aload_n 0, 1) := dk_42 (dk_at dksJ2_getLongUnaligned_4 23 rfl rfl)
theorem dJ2_getLongUnaligned_120 : decode cJ2_getLongUnaligned 120 = .ok (.aload_n 1, 1) := dk_43 (dk_at dksJ2_getLongUnaligned_5 0 rfl rfl)
theorem dJ2_getLongUnaligned_121 : decode cJ2_getLongUnaligned 121 = .ok (.lload_n 2, 1) := dk_32 (dk_at dksJ2_getLongUnaligned_5 1 rfl rfl)
theorem dJ2_getLongUnaligned_122 : decode cJ2_getLongUnaligned 122 = .ok (.ldc2_w 349, 3) := dk_20 1 93 (dk_at dksJ2_getLongUnaligned_5 2 rfl rfl)
theorem dJ2_getLongUnaligned_125 : decode cJ2_getLongUnaligned 125 = .ok (.ladd, 1) := dk_97 (dk_at dksJ2_getLongUnaligned_5 5 rfl rfl)
theorem dJ2_getLongUnaligned_126 : decode cJ2_getLongUnaligned 126 = .ok (.invokevirtual 39, 3) := dk_182 0 39 (dk_at dksJ2_getLongUnaligned_5 6 rfl rfl)
theorem dJ2_getLongUnaligned_129 : decode cJ2_getLongUnaligned 129 = .ok (.aload_n 0, 1) := dk_42 (dk_at dksJ2_getLongUnaligned_5 9 rfl rfl)
theorem dJ2_getLongUnaligned_130 : decode cJ2_getLongUnaligned 130 = .ok (.aload_n 1, 1) := dk_43 (dk_at dksJ2_getLongUnaligned_5 10 rfl rfl)
theorem dJ2_getLongUnaligned_131 : decode cJ2_getLongUnaligned 131 = .ok (.lload_n 2, 1) := dk_32 (dk_at dksJ2_getLongUnaligned_5 11 rfl rfl)
theorem dJ2_getLongUnaligned_132 : decode cJ2_getLongUnaligned 132 = .ok (.ldc2_w 205, 3) := dk_20 0 205 (dk_at dksJ2_getLongUnaligned_5 12 rfl rfl)
theorem dJ2_getLongUnaligned_135 : decode cJ2_getLongUnaligned 135 = .ok (.ladd, 1) := dk_97 (dk_at dksJ2_getLongUnaligned_5 15 rfl rfl)
theorem dJ2_getLongUnaligned_136 : decode cJ2_getLongUnaligned 136 = .ok (.invokevirtual 39, 3) := dk_182 0 39 (dk_at dksJ2_getLongUnaligned_5 16 rfl rfl)
theorem dJ2_getLongUnaligned_139 : decode cJ2_getLongUnaligned 139 = .ok (.aload_n 0, 1) := dk_42 (dk_at dksJ2_getLongUnaligned_5 19 rfl rfl)
theorem dJ2_getLongUnaligned_140 : decode cJ2_getLongUnaligned 140 = .ok (.aload_n 1, 1) := dk_43 (dk_at dksJ2_getLongUnaligned_5 20 rfl rfl)
theorem dJ2_getLongUnaligned_141 : decode cJ2_getLongUnaligned 141 = .ok (.lload_n 2, 1) := dk_32 (dk_at dksJ2_getLongUnaligned_5 21 rfl rfl)
theorem dJ2_getLongUnaligned_142 : decode cJ2_getLongUnaligned 142 = .ok (.ldc2_w 707, 3) := dk_20 2 195 (dk_at dksJ2_getLongUnaligned_6 0 rfl rfl)
theorem dJ2_getLongUnaligned_145 : decode cJ2_getLongUnaligned 145 = .ok (.ladd, 1) := dk_97 (dk_at dksJ2_getLongUnaligned_6 3 rfl rfl)
theorem dJ2_getLongUnaligned_146 : decode cJ2_getLongUnaligned 146 = .ok (.invokevirtual 39, 3) := dk_182 0 39 (dk_at dksJ2_getLongUnaligned_6 4 rfl rfl)
theorem dJ2_getLongUnaligned_149 : decode cJ2_getLongUnaligned 149 = .ok (.aload_n 0, 1) := dk_42 (dk_at dksJ2_getLongUnaligned_6 7 rfl rfl)
theorem dJ2_getLongUnaligned_150 : decode cJ2_getLongUnaligned 150 = .ok (.aload_n 1, 1) := dk_43 (dk_at dksJ2_getLongUnaligned_6 8 rfl rfl)
theorem dJ2_getLongUnaligned_151 : decode cJ2_getLongUnaligned 151 = .ok (.lload_n 2, 1) := dk_32 (dk_at dksJ2_getLongUnaligned_6 9 rfl rfl)
theorem dJ2_getLongUnaligned_152 : decode cJ2_getLongUnaligned 152 = .ok (.ldc2_w 702, 3) := dk_20 2 190 (dk_at dksJ2_getLongUnaligned_6 10 rfl rfl)
theorem dJ2_getLongUnaligned_155 : decode cJ2_getLongUnaligned 155 = .ok (.ladd, 1) := dk_97 (dk_at dksJ2_getLongUnaligned_6 13 rfl rfl)
theorem dJ2_getLongUnaligned_156 : decode cJ2_getLongUnaligned 156 = .ok (.invokevirtual 39, 3) := dk_182 0 39 (dk_at dksJ2_getLongUnaligned_6 14 rfl rfl)
theorem dJ2_getLongUnaligned_159 : decode cJ2_getLongUnaligned 159 = .ok (.aload_n 0, 1) := dk_42 (dk_at dksJ2_getLongUnaligned_6 17 rfl rfl)
theorem dJ2_getLongUnaligned_160 : decode cJ2_getLongUnaligned 160 = .ok (.aload_n 1, 1) := dk_43 (dk_at dksJ2_getLongUnaligned_6 18 rfl rfl)
theorem dJ2_getLongUnaligned_161 : decode cJ2_getLongUnaligned 161 = .ok (.lload_n 2, 1) := dk_32 (dk_at dksJ2_getLongUnaligned_6 19 rfl rfl)
theorem dJ2_getLongUnaligned_162 : decode cJ2_getLongUnaligned 162 = .ok (.ldc2_w 696, 3) := dk_20 2 184 (dk_at dksJ2_getLongUnaligned_6 20 rfl rfl)
theorem dJ2_getLongUnaligned_165 : decode cJ2_getLongUnaligned 165 = .ok (.ladd, 1) := dk_97 (dk_at dksJ2_getLongUnaligned_6 23 rfl rfl)
theorem dJ2_getLongUnaligned_166 : decode cJ2_getLongUnaligned 166 = .ok (.invokevirtual 39, 3) := dk_182 0 39 (dk_at dksJ2_getLongUnaligned_7 0 rfl rfl)
theorem dJ2_getLongUnaligned_169 : decode cJ2_getLongUnaligned 169 = .ok (.invokestatic 709, 3) := dk_184 2 197 (dk_at dksJ2_getLongUnaligned_7 3 rfl rfl)
theorem dJ2_getLongUnaligned_172 : decode cJ2_getLongUnaligned 172 = .ok (.lreturn, 1) := dk_173 (dk_at dksJ2_getLongUnaligned_7 6 rfl rfl)
def dkwJ2_makeLong_1 : List UInt8 := [173]
abbrev dktJ2_makeLong_1 : List UInt8 := dkwJ2_makeLong_1 ++ []
def dkwJ2_makeLong_0 : List UInt8 := [26, 184, 3, 23, 16, 32, 3, 184, 3, 16, 121, 27, 184, 3, 23, 16, 32, 16, 32, 184, 3, 16, 121, 129]
abbrev dktJ2_makeLong_0 : List UInt8 := dkwJ2_makeLong_0 ++ dktJ2_makeLong_1
theorem dksJ2_makeLong_0 : cJ2_makeLong.data.toList.drop 0 = dktJ2_makeLong_0 := by decide +kernel
theorem dksJ2_makeLong_1 : cJ2_makeLong.data.toList.drop 24 = dktJ2_makeLong_1 := dk_seg dksJ2_makeLong_0 24 rfl rfl
theorem dJ2_makeLong_0 : decode cJ2_makeLong 0 = .ok (.iload_n 0, 1) := dk_26 (dk_at dksJ2_makeLong_0 0 rfl rfl)
theorem dJ2_makeLong_1 : decode cJ2_makeLong 1 = .ok (.invokestatic 791, 3) := dk_184 3 23 (dk_at dksJ2_makeLong_0 1 rfl rfl)
theorem dJ2_makeLong_4 : decode cJ2_makeLong 4 = .ok (.bipush 32, 2) := dk_16 32 (dk_at dksJ2_makeLong_0 4 rfl rfl)
theorem dJ2_makeLong_6 : decode cJ2_makeLong 6 = .ok (.iconst 0, 1) := dk_3 (dk_at dksJ2_makeLong_0 6 rfl rfl)
theorem dJ2_makeLong_7 : decode cJ2_makeLong 7 = .ok (.invokestatic 784, 3) := dk_184 3 16 (dk_at dksJ2_makeLong_0 7 rfl rfl)
theorem dJ2_makeLong_10 : decode cJ2_makeLong 10 = .ok (.lshl, 1) := dk_121 (dk_at dksJ2_makeLong_0 10 rfl rfl)
theorem dJ2_makeLong_11 : decode cJ2_makeLong 11 = .ok (.iload_n 1, 1) := dk_27 (dk_at dksJ2_makeLong_0 11 rfl rfl)
theorem dJ2_makeLong_12 : decode cJ2_makeLong 12 = .ok (.invokestatic 791, 3) := dk_184 3 23 (dk_at dksJ2_makeLong_0 12 rfl rfl)
theorem dJ2_makeLong_15 : decode cJ2_makeLong 15 = .ok (.bipush 32, 2) := dk_16 32 (dk_at dksJ2_makeLong_0 15 rfl rfl)
theorem dJ2_makeLong_17 : decode cJ2_makeLong 17 = .ok (.bipush 32, 2) := dk_16 32 (dk_at dksJ2_makeLong_0 17 rfl rfl)
theorem dJ2_makeLong_19 : decode cJ2_makeLong 19 = .ok (.invokestatic 784, 3) := dk_184 3 16 (dk_at dksJ2_makeLong_0 19 rfl rfl)
theorem dJ2_makeLong_22 : decode cJ2_makeLong 22 = .ok (.lshl, 1) := dk_121 (dk_at dksJ2_makeLong_0 22 rfl rfl)
theorem dJ2_makeLong_23 : decode cJ2_makeLong 23 = .ok (.lor, 1) := dk_129 (dk_at dksJ2_makeLong_0 23 rfl rfl)
theorem dJ2_makeLong_24 : decode cJ2_makeLong 24 = .ok (.lreturn, 1) := dk_173 (dk_at dksJ2_makeLong_1 0 rfl rfl)
def dkwJ2_toUnsignedLong_0 : List UInt8 := [26, 133, 20, 3, 44, 127, 173]
abbrev dktJ2_toUnsignedLong_0 : List UInt8 := dkwJ2_toUnsignedLong_0 ++ []
theorem dksJ2_toUnsignedLong_0 : cJ2_toUnsignedLong.data.toList.drop 0 = dktJ2_toUnsignedLong_0 := by decide +kernel
theorem dJ2_toUnsignedLong_0 : decode cJ2_toUnsignedLong 0 = .ok (.iload_n 0, 1) := dk_26 (dk_at dksJ2_toUnsignedLong_0 0 rfl rfl)
theorem dJ2_toUnsignedLong_1 : decode cJ2_toUnsignedLong 1 = .ok (.i2l, 1) := dk_133 (dk_at dksJ2_toUnsignedLong_0 1 rfl rfl)
theorem dJ2_toUnsignedLong_2 : decode cJ2_toUnsignedLong 2 = .ok (.ldc2_w 812, 3) := dk_20 3 44 (dk_at dksJ2_toUnsignedLong_0 2 rfl rfl)
theorem dJ2_toUnsignedLong_5 : decode cJ2_toUnsignedLong 5 = .ok (.land, 1) := dk_127 (dk_at dksJ2_toUnsignedLong_0 5 rfl rfl)
theorem dJ2_toUnsignedLong_6 : decode cJ2_toUnsignedLong 6 = .ok (.lreturn, 1) := dk_173 (dk_at dksJ2_toUnsignedLong_0 6 rfl rfl)
def dkwJ2_pickPos_0 : List UInt8 := [178, 1, 95, 153, 0, 9, 26, 27, 100, 167, 0, 4, 27, 172]
abbrev dktJ2_pickPos_0 : List UInt8 := dkwJ2_pickPos_0 ++ []
theorem dksJ2_pickPos_0 : cJ2_pickPos.data.toList.drop 0 = dktJ2_pickPos_0 := by decide +kernel
theorem dJ2_pickPos_0 : decode cJ2_pickPos 0 = .ok (.getstatic 351, 3) := dk_178 1 95 (dk_at dksJ2_pickPos_0 0 rfl rfl)
theorem dJ2_pickPos_3 : decode cJ2_pickPos 3 = .ok (.ifCond .eq 9, 3) := dk_153 0 9 (dk_at dksJ2_pickPos_0 3 rfl rfl)
theorem dJ2_pickPos_6 : decode cJ2_pickPos 6 = .ok (.iload_n 0, 1) := dk_26 (dk_at dksJ2_pickPos_0 6 rfl rfl)
theorem dJ2_pickPos_7 : decode cJ2_pickPos 7 = .ok (.iload_n 1, 1) := dk_27 (dk_at dksJ2_pickPos_0 7 rfl rfl)
theorem dJ2_pickPos_8 : decode cJ2_pickPos 8 = .ok (.isub, 1) := dk_100 (dk_at dksJ2_pickPos_0 8 rfl rfl)
theorem dJ2_pickPos_9 : decode cJ2_pickPos 9 = .ok (.goto 4, 3) := dk_167 0 4 (dk_at dksJ2_pickPos_0 9 rfl rfl)
theorem dJ2_pickPos_12 : decode cJ2_pickPos 12 = .ok (.iload_n 1, 1) := dk_27 (dk_at dksJ2_pickPos_0 12 rfl rfl)
theorem dJ2_pickPos_13 : decode cJ2_pickPos 13 = .ok (.ireturn, 1) := dk_172 (dk_at dksJ2_pickPos_0 13 rfl rfl)
def dkwJ2_makeLong_2_2 : List UInt8 := [121, 129, 173]
abbrev dktJ2_makeLong_2_2 : List UInt8 := dkwJ2_makeLong_2_2 ++ []
def dkwJ2_makeLong_2_1 : List UInt8 := [28, 184, 3, 20, 16, 48, 16, 32, 184, 3, 16, 121, 129, 29, 184, 3, 20, 16, 48, 16, 48, 184, 3, 16]
abbrev dktJ2_makeLong_2_1 : List UInt8 := dkwJ2_makeLong_2_1 ++ dktJ2_makeLong_2_2
def dkwJ2_makeLong_2_0 : List UInt8 := [26, 184, 3, 20, 16, 48, 3, 184, 3, 16, 121, 27, 184, 3, 20, 16, 48, 16, 16, 184, 3, 16, 121, 129]
abbrev dktJ2_makeLong_2_0 : List UInt8 := dkwJ2_makeLong_2_0 ++ dktJ2_makeLong_2_1
theorem dksJ2_makeLong_2_0 : cJ2_makeLong_2.data.toList.drop 0 = dktJ2_makeLong_2_0 := by decide +kernel
theorem dksJ2_makeLong_2_1 : cJ2_makeLong_2.data.toList.drop 24 = dktJ2_makeLong_2_1 := dk_seg dksJ2_makeLong_2_0 24 rfl rfl
theorem dksJ2_makeLong_2_2 : cJ2_makeLong_2.data.toList.drop 48 = dktJ2_makeLong_2_2 := dk_seg dksJ2_makeLong_2_1 24 rfl rfl
theorem dJ2_makeLong_2_0 : decode cJ2_makeLong_2 0 = .ok (.iload_n 0, 1) := dk_26 (dk_at dksJ2_makeLong_2_0 0 rfl rfl)
theorem dJ2_makeLong_2_1 : decode cJ2_makeLong_2 1 = .ok (.invokestatic 788, 3) := dk_184 3 20 (dk_at dksJ2_makeLong_2_0 1 rfl rfl)
theorem dJ2_makeLong_2_4 : decode cJ2_makeLong_2 4 = .ok (.bipush 48, 2) := dk_16 48 (dk_at dksJ2_makeLong_2_0 4 rfl rfl)
theorem dJ2_makeLong_2_6 : decode cJ2_makeLong_2 6 = .ok (.iconst 0, 1) := dk_3 (dk_at dksJ2_makeLong_2_0 6 rfl rfl)
theorem dJ2_makeLong_2_7 : decode cJ2_makeLong_2 7 = .ok (.invokestatic 784, 3) := dk_184 3 16 (dk_at dksJ2_makeLong_2_0 7 rfl rfl)
theorem dJ2_makeLong_2_10 : decode cJ2_makeLong_2 10 = .ok (.lshl, 1) := dk_121 (dk_at dksJ2_makeLong_2_0 10 rfl rfl)
theorem dJ2_makeLong_2_11 : decode cJ2_makeLong_2 11 = .ok (.iload_n 1, 1) := dk_27 (dk_at dksJ2_makeLong_2_0 11 rfl rfl)
theorem dJ2_makeLong_2_12 : decode cJ2_makeLong_2 12 = .ok (.invokestatic 788, 3) := dk_184 3 20 (dk_at dksJ2_makeLong_2_0 12 rfl rfl)
theorem dJ2_makeLong_2_15 : decode cJ2_makeLong_2 15 = .ok (.bipush 48, 2) := dk_16 48 (dk_at dksJ2_makeLong_2_0 15 rfl rfl)
theorem dJ2_makeLong_2_17 : decode cJ2_makeLong_2 17 = .ok (.bipush 16, 2) := dk_16 16 (dk_at dksJ2_makeLong_2_0 17 rfl rfl)
theorem dJ2_makeLong_2_19 : decode cJ2_makeLong_2 19 = .ok (.invokestatic 784, 3) := dk_184 3 16 (dk_at dksJ2_makeLong_2_0 19 rfl rfl)
theorem dJ2_makeLong_2_22 : decode cJ2_makeLong_2 22 = .ok (.lshl, 1) := dk_121 (dk_at dksJ2_makeLong_2_0 22 rfl rfl)
theorem dJ2_makeLong_2_23 : decode cJ2_makeLong_2 23 = .ok (.lor, 1) := dk_129 (dk_at dksJ2_makeLong_2_0 23 rfl rfl)
theorem dJ2_makeLong_2_24 : decode cJ2_makeLong_2 24 = .ok (.iload_n 2, 1) := dk_28 (dk_at dksJ2_makeLong_2_1 0 rfl rfl)
theorem dJ2_makeLong_2_25 : decode cJ2_makeLong_2 25 = .ok (.invokestatic 788, 3) := dk_184 3 20 (dk_at dksJ2_makeLong_2_1 1 rfl rfl)
theorem dJ2_makeLong_2_28 : decode cJ2_makeLong_2 28 = .ok (.bipush 48, 2) := dk_16 48 (dk_at dksJ2_makeLong_2_1 4 rfl rfl)
theorem dJ2_makeLong_2_30 : decode cJ2_makeLong_2 30 = .ok (.bipush 32, 2) := dk_16 32 (dk_at dksJ2_makeLong_2_1 6 rfl rfl)
theorem dJ2_makeLong_2_32 : decode cJ2_makeLong_2 32 = .ok (.invokestatic 784, 3) := dk_184 3 16 (dk_at dksJ2_makeLong_2_1 8 rfl rfl)
theorem dJ2_makeLong_2_35 : decode cJ2_makeLong_2 35 = .ok (.lshl, 1) := dk_121 (dk_at dksJ2_makeLong_2_1 11 rfl rfl)
theorem dJ2_makeLong_2_36 : decode cJ2_makeLong_2 36 = .ok (.lor, 1) := dk_129 (dk_at dksJ2_makeLong_2_1 12 rfl rfl)
theorem dJ2_makeLong_2_37 : decode cJ2_makeLong_2 37 = .ok (.iload_n 3, 1) := dk_29 (dk_at dksJ2_makeLong_2_1 13 rfl rfl)
theorem dJ2_makeLong_2_38 : decode cJ2_makeLong_2 38 = .ok (.invokestatic 788, 3) := dk_184 3 20 (dk_at dksJ2_makeLong_2_1 14 rfl rfl)
theorem dJ2_makeLong_2_41 : decode cJ2_makeLong_2 41 = .ok (.bipush 48, 2) := dk_16 48 (dk_at dksJ2_makeLong_2_1 17 rfl rfl)
theorem dJ2_makeLong_2_43 : decode cJ2_makeLong_2 43 = .ok (.bipush 48, 2) := dk_16 48 (dk_at dksJ2_makeLong_2_1 19 rfl rfl)
theorem dJ2_makeLong_2_45 : decode cJ2_makeLong_2 45 = .ok (.invokestatic 784, 3) := dk_184 3 16 (dk_at dksJ2_makeLong_2_1 21 rfl rfl)
theorem dJ2_makeLong_2_48 : decode cJ2_makeLong_2 48 = .ok (.lshl, 1) := dk_121 (dk_at dksJ2_makeLong_2_2 0 rfl rfl)
theorem dJ2_makeLong_2_49 : decode cJ2_makeLong_2 49 = .ok (.lor, 1) := dk_129 (dk_at dksJ2_makeLong_2_2 1 rfl rfl)
theorem dJ2_makeLong_2_50 : decode cJ2_makeLong_2 50 = .ok (.lreturn, 1) := dk_173 (dk_at dksJ2_makeLong_2_2 2 rfl rfl)
def dkwJ2_toUnsignedLong_2_0 : List UInt8 := [26, 133, 20, 3, 42, 127, 173]
abbrev dktJ2_toUnsignedLong_2_0 : List UInt8 := dkwJ2_toUnsignedLong_2_0 ++ []
theorem dksJ2_toUnsignedLong_2_0 : cJ2_toUnsignedLong_2.data.toList.drop 0 = dktJ2_toUnsignedLong_2_0 := by decide +kernel
theorem dJ2_toUnsignedLong_2_0 : decode cJ2_toUnsignedLong_2 0 = .ok (.iload_n 0, 1) := dk_26 (dk_at dksJ2_toUnsignedLong_2_0 0 rfl rfl)
theorem dJ2_toUnsignedLong_2_1 : decode cJ2_toUnsignedLong_2 1 = .ok (.i2l, 1) := dk_133 (dk_at dksJ2_toUnsignedLong_2_0 1 rfl rfl)
theorem dJ2_toUnsignedLong_2_2 : decode cJ2_toUnsignedLong_2 2 = .ok (.ldc2_w 810, 3) := dk_20 3 42 (dk_at dksJ2_toUnsignedLong_2_0 2 rfl rfl)
theorem dJ2_toUnsignedLong_2_5 : decode cJ2_toUnsignedLong_2 5 = .ok (.land, 1) := dk_127 (dk_at dksJ2_toUnsignedLong_2_0 5 rfl rfl)
theorem dJ2_toUnsignedLong_2_6 : decode cJ2_toUnsignedLong_2 6 = .ok (.lreturn, 1) := dk_173 (dk_at dksJ2_toUnsignedLong_2_0 6 rfl rfl)
def dkwJ2_makeLong_3_4 : List UInt8 := [184, 3, 13, 16, 56, 16, 56, 184, 3, 16, 121, 129, 173]
abbrev dktJ2_makeLong_3_4 : List UInt8 := dkwJ2_makeLong_3_4 ++ []
def dkwJ2_makeLong_3_3 : List UInt8 := [16, 40, 184, 3, 16, 121, 129, 21, 6, 184, 3, 13, 16, 56, 16, 48, 184, 3, 16, 121, 129, 21, 7]
abbrev dktJ2_makeLong_3_3 : List UInt8 := dkwJ2_makeLong_3_3 ++ dktJ2_makeLong_3_4
def dkwJ2_makeLong_3_2 : List UInt8 := [121, 129, 21, 4, 184, 3, 13, 16, 56, 16, 32, 184, 3, 16, 121, 129, 21, 5, 184, 3, 13, 16, 56]
abbrev dktJ2_makeLong_3_2 : List UInt8 := dkwJ2_makeLong_3_2 ++ dktJ2_makeLong_3_3
def dkwJ2_makeLong_3_1 : List UInt8 := [28, 184, 3, 13, 16, 56, 16, 16, 184, 3, 16, 121, 129, 29, 184, 3, 13, 16, 56, 16, 24, 184, 3, 16]
abbrev dktJ2_makeLong_3_1 : List UInt8 := dkwJ2_makeLong_3_1 ++ dktJ2_makeLong_3_2
def dkwJ2_makeLong_3_0 : List UInt8 := [26, 184, 3, 13, 16, 56, 3, 184, 3, 16, 121, 27, 184, 3, 13, 16, 56, 16, 8, 184, 3, 16, 121, 129]
abbrev dktJ2_makeLong_3_0 : List UInt8 := dkwJ2_makeLong_3_0 ++ dktJ2_makeLong_3_1
theorem dksJ2_makeLong_3_0 : cJ2_makeLong_3.data.toList.drop 0 = dktJ2_makeLong_3_0 := by decide +kernel
theorem dksJ2_makeLong_3_1 : cJ2_makeLong_3.data.toList.drop 24 = dktJ2_makeLong_3_1 := dk_seg dksJ2_makeLong_3_0 24 rfl rfl
theorem dksJ2_makeLong_3_2 : cJ2_makeLong_3.data.toList.drop 48 = dktJ2_makeLong_3_2 := dk_seg dksJ2_makeLong_3_1 24 rfl rfl
theorem dksJ2_makeLong_3_3 : cJ2_makeLong_3.data.toList.drop 71 = dktJ2_makeLong_3_3 := dk_seg dksJ2_makeLong_3_2 23 rfl rfl
theorem dksJ2_makeLong_3_4 : cJ2_makeLong_3.data.toList.drop 94 = dktJ2_makeLong_3_4 := dk_seg dksJ2_makeLong_3_3 23 rfl rfl
theorem dJ2_makeLong_3_0 : decode cJ2_makeLong_3 0 = .ok (.iload_n 0, 1) := dk_26 (dk_at dksJ2_makeLong_3_0 0 rfl rfl)
theorem dJ2_makeLong_3_1 : decode cJ2_makeLong_3 1 = .ok (.invokestatic 781, 3) := dk_184 3 13 (dk_at dksJ2_makeLong_3_0 1 rfl rfl)
theorem dJ2_makeLong_3_4 : decode cJ2_makeLong_3 4 = .ok (.bipush 56, 2) := dk_16 56 (dk_at dksJ2_makeLong_3_0 4 rfl rfl)
theorem dJ2_makeLong_3_6 : decode cJ2_makeLong_3 6 = .ok (.iconst 0, 1) := dk_3 (dk_at dksJ2_makeLong_3_0 6 rfl rfl)
theorem dJ2_makeLong_3_7 : decode cJ2_makeLong_3 7 = .ok (.invokestatic 784, 3) := dk_184 3 16 (dk_at dksJ2_makeLong_3_0 7 rfl rfl)
theorem dJ2_makeLong_3_10 : decode cJ2_makeLong_3 10 = .ok (.lshl, 1) := dk_121 (dk_at dksJ2_makeLong_3_0 10 rfl rfl)
theorem dJ2_makeLong_3_11 : decode cJ2_makeLong_3 11 = .ok (.iload_n 1, 1) := dk_27 (dk_at dksJ2_makeLong_3_0 11 rfl rfl)
theorem dJ2_makeLong_3_12 : decode cJ2_makeLong_3 12 = .ok (.invokestatic 781, 3) := dk_184 3 13 (dk_at dksJ2_makeLong_3_0 12 rfl rfl)
theorem dJ2_makeLong_3_15 : decode cJ2_makeLong_3 15 = .ok (.bipush 56, 2) := dk_16 56 (dk_at dksJ2_makeLong_3_0 15 rfl rfl)
theorem dJ2_makeLong_3_17 : decode cJ2_makeLong_3 17 = .ok (.bipush 8, 2) := dk_16 8 (dk_at dksJ2_makeLong_3_0 17 rfl rfl)
theorem dJ2_makeLong_3_19 : decode cJ2_makeLong_3 19 = .ok (.invokestatic 784, 3) := dk_184 3 16 (dk_at dksJ2_makeLong_3_0 19 rfl rfl)
theorem dJ2_makeLong_3_22 : decode cJ2_makeLong_3 22 = .ok (.lshl, 1) := dk_121 (dk_at dksJ2_makeLong_3_0 22 rfl rfl)
theorem dJ2_makeLong_3_23 : decode cJ2_makeLong_3 23 = .ok (.lor, 1) := dk_129 (dk_at dksJ2_makeLong_3_0 23 rfl rfl)
theorem dJ2_makeLong_3_24 : decode cJ2_makeLong_3 24 = .ok (.iload_n 2, 1) := dk_28 (dk_at dksJ2_makeLong_3_1 0 rfl rfl)
theorem dJ2_makeLong_3_25 : decode cJ2_makeLong_3 25 = .ok (.invokestatic 781, 3) := dk_184 3 13 (dk_at dksJ2_makeLong_3_1 1 rfl rfl)
theorem dJ2_makeLong_3_28 : decode cJ2_makeLong_3 28 = .ok (.bipush 56, 2) := dk_16 56 (dk_at dksJ2_makeLong_3_1 4 rfl rfl)
theorem dJ2_makeLong_3_30 : decode cJ2_makeLong_3 30 = .ok (.bipush 16, 2) := dk_16 16 (dk_at dksJ2_makeLong_3_1 6 rfl rfl)
theorem dJ2_makeLong_3_32 : decode cJ2_makeLong_3 32 = .ok (.invokestatic 784, 3) := dk_184 3 16 (dk_at dksJ2_makeLong_3_1 8 rfl rfl)
theorem dJ2_makeLong_3_35 : decode cJ2_makeLong_3 35 = .ok (.lshl, 1) := dk_121 (dk_at dksJ2_makeLong_3_1 11 rfl rfl)
theorem dJ2_makeLong_3_36 : decode cJ2_makeLong_3 36 = .ok (.lor, 1) := dk_129 (dk_at dksJ2_makeLong_3_1 12 rfl rfl)
theorem dJ2_makeLong_3_37 : decode cJ2_makeLong_3 37 = .ok (.iload_n 3, 1) := dk_29 (dk_at dksJ2_makeLong_3_1 13 rfl rfl)
theorem dJ2_makeLong_3_38 : decode cJ2_makeLong_3 38 = .ok (.invokestatic 781, 3) := dk_184 3 13 (dk_at dksJ2_makeLong_3_1 14 rfl rfl)
theorem dJ2_makeLong_3_41 : decode cJ2_makeLong_3 41 = .ok (.bipush 56, 2) := dk_16 56 (dk_at dksJ2_makeLong_3_1 17 rfl rfl)
theorem dJ2_makeLong_3_43 : decode cJ2_makeLong_3 43 = .ok (.bipush 24, 2) := dk_16 24 (dk_at dksJ2_makeLong_3_1 19 rfl rfl)
theorem dJ2_makeLong_3_45 : decode cJ2_makeLong_3 45 = .ok (.invokestatic 784, 3) := dk_184 3 16 (dk_at dksJ2_makeLong_3_1 21 rfl rfl)
theorem dJ2_makeLong_3_48 : decode cJ2_makeLong_3 48 = .ok (.lshl, 1) := dk_121 (dk_at dksJ2_makeLong_3_2 0 rfl rfl)
theorem dJ2_makeLong_3_49 : decode cJ2_makeLong_3 49 = .ok (.lor, 1) := dk_129 (dk_at dksJ2_makeLong_3_2 1 rfl rfl)
theorem dJ2_makeLong_3_50 : decode cJ2_makeLong_3 50 = .ok (.iload 4, 2) := dk_21 4 (dk_at dksJ2_makeLong_3_2 2 rfl rfl)
theorem dJ2_makeLong_3_52 : decode cJ2_makeLong_3 52 = .ok (.invokestatic 781, 3) := dk_184 3 13 (dk_at dksJ2_makeLong_3_2 4 rfl rfl)
theorem dJ2_makeLong_3_55 : decode cJ2_makeLong_3 55 = .ok (.bipush 56, 2) := dk_16 56 (dk_at dksJ2_makeLong_3_2 7 rfl rfl)
theorem dJ2_makeLong_3_57 : decode cJ2_makeLong_3 57 = .ok (.bipush 32, 2) := dk_16 32 (dk_at dksJ2_makeLong_3_2 9 rfl rfl)
theorem dJ2_makeLong_3_59 : decode cJ2_makeLong_3 59 = .ok (.invokestatic 784, 3) := dk_184 3 16 (dk_at dksJ2_makeLong_3_2 11 rfl rfl)
theorem dJ2_makeLong_3_62 : decode cJ2_makeLong_3 62 = .ok (.lshl, 1) := dk_121 (dk_at dksJ2_makeLong_3_2 14 rfl rfl)
theorem dJ2_makeLong_3_63 : decode cJ2_makeLong_3 63 = .ok (.lor, 1) := dk_129 (dk_at dksJ2_makeLong_3_2 15 rfl rfl)
theorem dJ2_makeLong_3_64 : decode cJ2_makeLong_3 64 = .ok (.iload 5, 2) := dk_21 5 (dk_at dksJ2_makeLong_3_2 16 rfl rfl)
theorem dJ2_makeLong_3_66 : decode cJ2_makeLong_3 66 = .ok (.invokestatic 781, 3) := dk_184 3 13 (dk_at dksJ2_makeLong_3_2 18 rfl rfl)
theorem dJ2_makeLong_3_69 : decode cJ2_makeLong_3 69 = .ok (.bipush 56, 2) := dk_16 56 (dk_at dksJ2_makeLong_3_2 21 rfl rfl)
theorem dJ2_makeLong_3_71 : decode cJ2_makeLong_3 71 = .ok (.bipush 40, 2) := dk_16 40 (dk_at dksJ2_makeLong_3_3 0 rfl rfl)
theorem dJ2_makeLong_3_73 : decode cJ2_makeLong_3 73 = .ok (.invokestatic 784, 3) := dk_184 3 16 (dk_at dksJ2_makeLong_3_3 2 rfl rfl)
theorem dJ2_makeLong_3_76 : decode cJ2_makeLong_3 76 = .ok (.lshl, 1) := dk_121 (dk_at dksJ2_makeLong_3_3 5 rfl rfl)
theorem dJ2_makeLong_3_77 : decode cJ2_makeLong_3 77 = .ok (.lor, 1) := dk_129 (dk_at dksJ2_makeLong_3_3 6 rfl rfl)
theorem dJ2_makeLong_3_78 : decode cJ2_makeLong_3 78 = .ok (.iload 6, 2) := dk_21 6 (dk_at dksJ2_makeLong_3_3 7 rfl rfl)
theorem dJ2_makeLong_3_80 : decode cJ2_makeLong_3 80 = .ok (.invokestatic 781, 3) := dk_184 3 13 (dk_at dksJ2_makeLong_3_3 9 rfl rfl)
theorem dJ2_makeLong_3_83 : decode cJ2_makeLong_3 83 = .ok (.bipush 56, 2) := dk_16 56 (dk_at dksJ2_makeLong_3_3 12 rfl rfl)
theorem dJ2_makeLong_3_85 : decode cJ2_makeLong_3 85 = .ok (.bipush 48, 2) := dk_16 48 (dk_at dksJ2_makeLong_3_3 14 rfl rfl)
theorem dJ2_makeLong_3_87 : decode cJ2_makeLong_3 87 = .ok (.invokestatic 784, 3) := dk_184 3 16 (dk_at dksJ2_makeLong_3_3 16 rfl rfl)
theorem dJ2_makeLong_3_90 : decode cJ2_makeLong_3 90 = .ok (.lshl, 1) := dk_121 (dk_at dksJ2_makeLong_3_3 19 rfl rfl)
theorem dJ2_makeLong_3_91 : decode cJ2_makeLong_3 91 = .ok (.lor, 1) := dk_129 (dk_at dksJ2_makeLong_3_3 20 rfl rfl)
theorem dJ2_makeLong_3_92 : decode cJ2_makeLong_3 92 = .ok (.iload 7, 2) := dk_21 7 (dk_at dksJ2_makeLong_3_3 21 rfl rfl)
theorem dJ2_makeLong_3_94 : decode cJ2_makeLong_3 94 = .ok (.invokestatic 781, 3) := dk_184 3 13 (dk_at dksJ2_makeLong_3_4 0 rfl rfl)
theorem dJ2_makeLong_3_97 : decode cJ2_makeLong_3 97 = .ok (.bipush 56, 2) := dk_16 56 (dk_at dksJ2_makeLong_3_4 3 rfl rfl)
theorem dJ2_makeLong_3_99 : decode cJ2_makeLong_3 99 = .ok (.bipush 56, 2) := dk_16 56 (dk_at dksJ2_makeLong_3_4 5 rfl rfl)
theorem dJ2_makeLong_3_101 : decode cJ2_makeLong_3 101 = .ok (.invokestatic 784, 3) := dk_184 3 16 (dk_at dksJ2_makeLong_3_4 7 rfl rfl)
theorem dJ2_makeLong_3_104 : decode cJ2_makeLong_3 104 = .ok (.lshl, 1) := dk_121 (dk_at dksJ2_makeLong_3_4 10 rfl rfl)
theorem dJ2_makeLong_3_105 : decode cJ2_makeLong_3 105 = .ok (.lor, 1) := dk_129 (dk_at dksJ2_makeLong_3_4 11 rfl rfl)
theorem dJ2_makeLong_3_106 : decode cJ2_makeLong_3 106 = .ok (.lreturn, 1) := dk_173 (dk_at dksJ2_makeLong_3_4 12 rfl rfl)
def dkwJ2_toUnsignedLong_3_0 : List UInt8 := [26, 133, 20, 3, 40, 127, 173]
abbrev dktJ2_toUnsignedLong_3_0 : List UInt8 := dkwJ2_toUnsignedLong_3_0 ++ []
theorem dksJ2_toUnsignedLong_3_0 : cJ2_toUnsignedLong_3.data.toList.drop 0 = dktJ2_toUnsignedLong_3_0 := by decide +kernel
theorem dJ2_toUnsignedLong_3_0 : decode cJ2_toUnsignedLong_3 0 = .ok (.iload_n 0, 1) := dk_26 (dk_at dksJ2_toUnsignedLong_3_0 0 rfl rfl)
theorem dJ2_toUnsignedLong_3_1 : decode cJ2_toUnsignedLong_3 1 = .ok (.i2l, 1) := dk_133 (dk_at dksJ2_toUnsignedLong_3_0 1 rfl rfl)
theorem dJ2_toUnsignedLong_3_2 : decode cJ2_toUnsignedLong_3 2 = .ok (.ldc2_w 808, 3) := dk_20 3 40 (dk_at dksJ2_toUnsignedLong_3_0 2 rfl rfl)
theorem dJ2_toUnsignedLong_3_5 : decode cJ2_toUnsignedLong_3 5 = .ok (.land, 1) := dk_127 (dk_at dksJ2_toUnsignedLong_3_0 5 rfl rfl)
theorem dJ2_toUnsignedLong_3_6 : decode cJ2_toUnsignedLong_3 6 = .ok (.lreturn, 1) := dk_173 (dk_at dksJ2_toUnsignedLong_3_0 6 rfl rfl)
def dkwJ2_getIntUnaligned_3 : List UInt8 := [43, 32, 20, 1, 93, 97, 182, 0, 39, 184, 2, 211, 172]
abbrev dktJ2_getIntUnaligned_3 : List UInt8 := dkwJ2_getIntUnaligned_3 ++ []
def dkwJ2_getIntUnaligned_2 : List UInt8 := [43, 32, 182, 0, 39, 42, 43, 32, 10, 97, 182, 0, 39, 42, 43, 32, 20, 0, 203, 97, 182, 0, 39, 42]
abbrev dktJ2_getIntUnaligned_2 : List UInt8 := dkwJ2_getIntUnaligned_2 ++ dktJ2_getIntUnaligned_3
def dkwJ2_getIntUnaligned_1 : List UInt8 := [154, 0, 23, 42, 43, 32, 182, 0, 47, 42, 43, 32, 20, 0, 203, 97, 182, 0, 47, 184, 2, 207, 172, 42]
abbrev dktJ2_getIntUnaligned_1 : List UInt8 := dkwJ2_getIntUnaligned_1 ++ dktJ2_getIntUnaligned_2
def dkwJ2_getIntUnaligned_0 : List UInt8 := [32, 20, 1, 93, 127, 9, 148, 154, 0, 10, 42, 43, 32, 182, 0, 17, 172, 32, 10, 127, 9, 148]
abbrev dktJ2_getIntUnaligned_0 : List UInt8 := dkwJ2_getIntUnaligned_0 ++ dktJ2_getIntUnaligned_1
theorem dksJ2_getIntUnaligned_0 : cJ2_getIntUnaligned.data.toList.drop 0 = dktJ2_getIntUnaligned_0 := by decide +kernel
theorem dksJ2_getIntUnaligned_1 : cJ2_getIntUnaligned.data.toList.drop 22 = dktJ2_getIntUnaligned_1 := dk_seg dksJ2_getIntUnaligned_0 22 rfl rfl
theorem dksJ2_getIntUnaligned_2 : cJ2_getIntUnaligned.data.toList.drop 46 = dktJ2_getIntUnaligned_2 := dk_seg dksJ2_getIntUnaligned_1 24 rfl rfl
theorem dksJ2_getIntUnaligned_3 : cJ2_getIntUnaligned.data.toList.drop 70 = dktJ2_getIntUnaligned_3 := dk_seg dksJ2_getIntUnaligned_2 24 rfl rfl
theorem dJ2_getIntUnaligned_0 : decode cJ2_getIntUnaligned 0 = .ok (.lload_n 2, 1) := dk_32 (dk_at dksJ2_getIntUnaligned_0 0 rfl rfl)
theorem dJ2_getIntUnaligned_1 : decode cJ2_getIntUnaligned 1 = .ok (.ldc2_w 349, 3) := dk_20 1 93 (dk_at dksJ2_getIntUnaligned_0 1 rfl rfl)
theorem dJ2_getIntUnaligned_4 : decode cJ2_getIntUnaligned 4 = .ok (.land, 1) := dk_127 (dk_at dksJ2_getIntUnaligned_0 4 rfl rfl)
theorem dJ2_getIntUnaligned_5 : decode cJ2_getIntUnaligned 5 = .ok (.lconst 0, 1) := dk_9 (dk_at dksJ2_getIntUnaligned_0 5 rfl rfl)
theorem dJ2_getIntUnaligned_6 : decode cJ2_getIntUnaligned 6 = .ok (.lcmp, 1) := dk_148 (dk_at dksJ2_getIntUnaligned_0 6 rfl rfl)
theorem dJ2_getIntUnaligned_7 : decode cJ2_getIntUnaligned 7 = .ok (.ifCond .ne 10, 3) := dk_154 0 10 (dk_at dksJ2_getIntUnaligned_0 7 rfl rfl)
theorem dJ2_getIntUnaligned_10 : decode cJ2_getIntUnaligned 10 = .ok (.aload_n 0, 1) := dk_42 (dk_at dksJ2_getIntUnaligned_0 10 rfl rfl)
theorem dJ2_getIntUnaligned_11 : decode cJ2_getIntUnaligned 11 = .ok (.aload_n 1, 1) := dk_43 (dk_at dksJ2_getIntUnaligned_0 11 rfl rfl)
theorem dJ2_getIntUnaligned_12 : decode cJ2_getIntUnaligned 12 = .ok (.lload_n 2, 1) := dk_32 (dk_at dksJ2_getIntUnaligned_0 12 rfl rfl)
theorem dJ2_getIntUnaligned_13 : decode cJ2_getIntUnaligned 13 = .ok (.invokevirtual 17, 3) := dk_182 0 17 (dk_at dksJ2_getIntUnaligned_0 13 rfl rfl)
theorem dJ2_getIntUnaligned_16 : decode cJ2_getIntUnaligned 16 = .ok (.ireturn, 1) := dk_172 (dk_at dksJ2_getIntUnaligned_0 16 rfl rfl)
theorem dJ2_getIntUnaligned_17 : decode cJ2_getIntUnaligned 17 = .ok (.lload_n 2, 1) := dk_32 (dk_at dksJ2_getIntUnaligned_0 17 rfl rfl)
theorem dJ2_getIntUnaligned_18 : decode cJ2_getIntUnaligned 18 = .ok (.lconst 1, 1) := dk_10 (dk_at dksJ2_getIntUnaligned_0 18 rfl rfl)
theorem dJ2_getIntUnaligned_19 : decode cJ2_getIntUnaligned 19 = .ok (.land, 1) := dk_127 (dk_at dksJ2_getIntUnaligned_0 19 rfl rfl)
theorem dJ2_getIntUnaligned_20 : decode cJ2_getIntUnaligned 20 = .ok (.lconst 0, 1) := dk_9 (dk_at dksJ2_getIntUnaligned_0 20 rfl rfl)
theorem dJ2_getIntUnaligned_21 : decode cJ2_getIntUnaligned 21 = .ok (.lcmp, 1) := dk_148 (dk_at dksJ2_getIntUnaligned_0 21 rfl rfl)
theorem dJ2_getIntUnaligned_22 : decode cJ2_getIntUnaligned 22 = .ok (.ifCond .ne 23, 3) := dk_154 0 23 (dk_at dksJ2_getIntUnaligned_1 0 rfl rfl)
theorem dJ2_getIntUnaligned_25 : decode cJ2_getIntUnaligned 25 = .ok (.aload_n 0, 1) := dk_42 (dk_at dksJ2_getIntUnaligned_1 3 rfl rfl)
theorem dJ2_getIntUnaligned_26 : decode cJ2_getIntUnaligned 26 = .ok (.aload_n 1, 1) := dk_43 (dk_at dksJ2_getIntUnaligned_1 4 rfl rfl)
theorem dJ2_getIntUnaligned_27 : decode cJ2_getIntUnaligned 27 = .ok (.lload_n 2, 1) := dk_32 (dk_at dksJ2_getIntUnaligned_1 5 rfl rfl)
theorem dJ2_getIntUnaligned_28 : decode cJ2_getIntUnaligned 28 = .ok (.invokevirtual 47, 3) := dk_182 0 47 (dk_at dksJ2_getIntUnaligned_1 6 rfl rfl)
theorem dJ2_getIntUnaligned_31 : decode cJ2_getIntUnaligned 31 = .ok (.aload_n 0, 1) := dk_42 (dk_at dksJ2_getIntUnaligned_1 9 rfl rfl)
theorem dJ2_getIntUnaligned_32 : decode cJ2_getIntUnaligned 32 = .ok (.aload_n 1, 1) := dk_43 (dk_at dksJ2_getIntUnaligned_1 10 rfl rfl)
theorem dJ2_getIntUnaligned_33 : decode cJ2_getIntUnaligned 33 = .ok (.lload_n 2, 1) := dk_32 (dk_at dksJ2_getIntUnaligned_1 11 rfl rfl)
theorem dJ2_getIntUnaligned_34 : decode cJ2_getIntUnaligned 34 = .ok (.ldc2_w 203, 3) := dk_20 0 203 (dk_at dksJ2_getIntUnaligned_1 12 rfl rfl)
theorem dJ2_getIntUnaligned_37 : decode cJ2_getIntUnaligned 37 = .ok (.ladd, 1) := dk_97 (dk_at dksJ2_getIntUnaligned_1 15 rfl rfl)
theorem dJ2_getIntUnaligned_38 : decode cJ2_getIntUnaligned 38 = .ok (.invokevirtual 47, 3) := dk_182 0 47 (dk_at dksJ2_getIntUnaligned_1 16 rfl rfl)
theorem dJ2_getIntUnaligned_41 : decode cJ2_getIntUnaligned 41 = .ok (.invokestatic 719, 3) := dk_184 2 207 (dk_at dksJ2_getIntUnaligned_1 19 rfl rfl)
theorem dJ2_getIntUnaligned_44 : decode cJ2_getIntUnaligned 44 = .ok (.ireturn, 1) := dk_172 (dk_at dksJ2_getIntUnaligned_1 22 rfl rfl)
theorem dJ2_getIntUnaligned_45 : decode cJ2_getIntUnaligned 45 = .ok (.aload_n 0, 1) := dk_42 (dk_at dksJ2_getIntUnaligned_1 23 rfl rfl)
theorem dJ2_getIntUnaligned_46 : decode cJ2_getIntUnaligned 46 = .ok (.aload_n 1, 1) := dk_43 (dk_at dksJ2_getIntUnaligned_2 0 rfl rfl)
theorem dJ2_getIntUnaligned_47 : decode cJ2_getIntUnaligned 47 = .ok (.lload_n 2, 1) := dk_32 (dk_at dksJ2_getIntUnaligned_2 1 rfl rfl)
theorem dJ2_getIntUnaligned_48 : decode cJ2_getIntUnaligned 48 = .ok (.invokevirtual 39, 3) := dk_182 0 39 (dk_at dksJ2_getIntUnaligned_2 2 rfl rfl)
theorem dJ2_getIntUnaligned_51 : decode cJ2_getIntUnaligned 51 = .ok (.aload_n 0, 1) := dk_42 (dk_at dksJ2_getIntUnaligned_2 5 rfl rfl)
theorem dJ2_getIntUnaligned_52 : decode cJ2_getIntUnaligned 52 = .ok (.aload_n 1, 1) := dk_43 (dk_at dksJ2_getIntUnaligned_2 6 rfl rfl)
theorem dJ2_getIntUnaligned_53 : decode cJ2_getIntUnaligned 53 = .ok (.lload_n 2, 1) := dk_32 (dk_at dksJ2_getIntUnaligned_2 7 rfl rfl)
theorem dJ2_getIntUnaligned_54 : decode cJ2_getIntUnaligned 54 = .ok (.lconst 1, 1) := dk_10 (dk_at dksJ2_getIntUnaligned_2 8 rfl rfl)
theorem dJ2_getIntUnaligned_55 : decode cJ2_getIntUnaligned 55 = .ok (.ladd, 1) := dk_97 (dk_at dksJ2_getIntUnaligned_2 9 rfl rfl)
theorem dJ2_getIntUnaligned_56 : decode cJ2_getIntUnaligned 56 = .ok (.invokevirtual 39, 3) := dk_182 0 39 (dk_at dksJ2_getIntUnaligned_2 10 rfl rfl)
theorem dJ2_getIntUnaligned_59 : decode cJ2_getIntUnaligned 59 = .ok (.aload_n 0, 1) := dk_42 (dk_at dksJ2_getIntUnaligned_2 13 rfl rfl)
theorem dJ2_getIntUnaligned_60 : decode cJ2_getIntUnaligned 60 = .ok (.aload_n 1, 1) := dk_43 (dk_at dksJ2_getIntUnaligned_2 14 rfl rfl)
theorem dJ2_getIntUnaligned_61 : decode cJ2_getIntUnaligned 61 = .ok (.lload_n 2, 1) := dk_32 (dk_at dksJ2_getIntUnaligned_2 15 rfl rfl)
theorem dJ2_getIntUnaligned_62 : decode cJ2_getIntUnaligned 62 = .ok (.ldc2_w 203, 3) := dk_20 0 203 (dk_at dksJ2_getIntUnaligned_2 16 rfl rfl)
theorem dJ2_getIntUnaligned_65 : decode cJ2_getIntUnaligned 65 = .ok (.ladd, 1) := dk_97 (dk_at dksJ2_getIntUnaligned_2 19 rfl rfl)
theorem dJ2_getIntUnaligned_66 : decode cJ2_getIntUnaligned 66 = .ok (.invokevirtual 39, 3) := dk_182 0 39 (dk_at dksJ2_getIntUnaligned_2 20 rfl rfl)
theorem dJ2_getIntUnaligned_69 : decode cJ2_getIntUnaligned 69 = .ok (.aload_n 0, 1) := dk_42 (dk_at dksJ2_getIntUnaligned_2 23 rfl rfl)
theorem dJ2_getIntUnaligned_70 : decode cJ2_getIntUnaligned 70 = .ok (.aload_n 1, 1) := dk_43 (dk_at dksJ2_getIntUnaligned_3 0 rfl rfl)
theorem dJ2_getIntUnaligned_71 : decode cJ2_getIntUnaligned 71 = .ok (.lload_n 2, 1) := dk_32 (dk_at dksJ2_getIntUnaligned_3 1 rfl rfl)
theorem dJ2_getIntUnaligned_72 : decode cJ2_getIntUnaligned 72 = .ok (.ldc2_w 349, 3) := dk_20 1 93 (dk_at dksJ2_getIntUnaligned_3 2 rfl rfl)
theorem dJ2_getIntUnaligned_75 : decode cJ2_getIntUnaligned 75 = .ok (.ladd, 1) := dk_97 (dk_at dksJ2_getIntUnaligned_3 5 rfl rfl)
theorem dJ2_getIntUnaligned_76 : decode cJ2_getIntUnaligned 76 = .ok (.invokevirtual 39, 3) := dk_182 0 39 (dk_at dksJ2_getIntUnaligned_3 6 rfl rfl)
theorem dJ2_getIntUnaligned_79 : decode cJ2_getIntUnaligned 79 = .ok (.invokestatic 723, 3) := dk_184 2 211 (dk_at dksJ2_getIntUnaligned_3 9 rfl rfl)
theorem dJ2_getIntUnaligned_82 : decode cJ2_getIntUnaligned 82 = .ok (.ireturn, 1) := dk_172 (dk_at dksJ2_getIntUnaligned_3 12 rfl rfl)
def dkwJ2_makeInt_1 : List UInt8 := [172]
abbrev dktJ2_makeInt_1 : List UInt8 := dkwJ2_makeInt_1 ++ []
def dkwJ2_makeInt_0 : List UInt8 := [26, 184, 3, 24, 16, 16, 3, 184, 3, 16, 120, 27, 184, 3, 24, 16, 16, 16, 16, 184, 3, 16, 120, 128]
abbrev dktJ2_makeInt_0 : List UInt8 := dkwJ2_makeInt_0 ++ dktJ2_makeInt_1
theorem dksJ2_makeInt_0 : cJ2_makeInt.data.toList.drop 0 = dktJ2_makeInt_0 := by decide +kernel
theorem dksJ2_makeInt_1 : cJ2_makeInt.data.toList.drop 24 = dktJ2_makeInt_1 := dk_seg dksJ2_makeInt_0 24 rfl rfl
theorem dJ2_makeInt_0 : decode cJ2_makeInt 0 = .ok (.iload_n 0, 1) := dk_26 (dk_at dksJ2_makeInt_0 0 rfl rfl)
theorem dJ2_makeInt_1 : decode cJ2_makeInt 1 = .ok (.invokestatic 792, 3) := dk_184 3 24 (dk_at dksJ2_makeInt_0 1 rfl rfl)
theorem dJ2_makeInt_4 : decode cJ2_makeInt 4 = .ok (.bipush 16, 2) := dk_16 16 (dk_at dksJ2_makeInt_0 4 rfl rfl)
theorem dJ2_makeInt_6 : decode cJ2_makeInt 6 = .ok (.iconst 0, 1) := dk_3 (dk_at dksJ2_makeInt_0 6 rfl rfl)
theorem dJ2_makeInt_7 : decode cJ2_makeInt 7 = .ok (.invokestatic 784, 3) := dk_184 3 16 (dk_at dksJ2_makeInt_0 7 rfl rfl)
theorem dJ2_makeInt_10 : decode cJ2_makeInt 10 = .ok (.ishl, 1) := dk_120 (dk_at dksJ2_makeInt_0 10 rfl rfl)
theorem dJ2_makeInt_11 : decode cJ2_makeInt 11 = .ok (.iload_n 1, 1) := dk_27 (dk_at dksJ2_makeInt_0 11 rfl rfl)
theorem dJ2_makeInt_12 : decode cJ2_makeInt 12 = .ok (.invokestatic 792, 3) := dk_184 3 24 (dk_at dksJ2_makeInt_0 12 rfl rfl)
theorem dJ2_makeInt_15 : decode cJ2_makeInt 15 = .ok (.bipush 16, 2) := dk_16 16 (dk_at dksJ2_makeInt_0 15 rfl rfl)
theorem dJ2_makeInt_17 : decode cJ2_makeInt 17 = .ok (.bipush 16, 2) := dk_16 16 (dk_at dksJ2_makeInt_0 17 rfl rfl)
theorem dJ2_makeInt_19 : decode cJ2_makeInt 19 = .ok (.invokestatic 784, 3) := dk_184 3 16 (dk_at dksJ2_makeInt_0 19 rfl rfl)
theorem dJ2_makeInt_22 : decode cJ2_makeInt 22 = .ok (.ishl, 1) := dk_120 (dk_at dksJ2_makeInt_0 22 rfl rfl)
theorem dJ2_makeInt_23 : decode cJ2_makeInt 23 = .ok (.ior, 1) := dk_128 (dk_at dksJ2_makeInt_0 23 rfl rfl)
theorem dJ2_makeInt_24 : decode cJ2_makeInt 24 = .ok (.ireturn, 1) := dk_172 (dk_at dksJ2_makeInt_1 0 rfl rfl)
def dkwJ2_toUnsignedInt_0 : List UInt8 := [26, 19, 1, 118, 126, 172]
abbrev dktJ2_toUnsignedInt_0 : List UInt8 := dkwJ2_toUnsignedInt_0 ++ []
theorem dksJ2_toUnsignedInt_0 : cJ2_toUnsignedInt.data.toList.drop 0 = dktJ2_toUnsignedInt_0 := by decide +kernel
theorem dJ2_toUnsignedInt_0 : decode cJ2_toUnsignedInt 0 = .ok (.iload_n 0, 1) := dk_26 (dk_at dksJ2_toUnsignedInt_0 0 rfl rfl)
theorem dJ2_toUnsignedInt_1 : decode cJ2_toUnsignedInt 1 = .ok (.ldc_w 374, 3) := dk_19 1 118 (dk_at dksJ2_toUnsignedInt_0 1 rfl rfl)
theorem dJ2_toUnsignedInt_4 : decode cJ2_toUnsignedInt 4 = .ok (.iand, 1) := dk_126 (dk_at dksJ2_toUnsignedInt_0 4 rfl rfl)
theorem dJ2_toUnsignedInt_5 : decode cJ2_toUnsignedInt 5 = .ok (.ireturn, 1) := dk_172 (dk_at dksJ2_toUnsignedInt_0 5 rfl rfl)
def dkwJ2_makeInt_2_2 : List UInt8 := [120, 128, 172]
abbrev dktJ2_makeInt_2_2 : List UInt8 := dkwJ2_makeInt_2_2 ++ []
def dkwJ2_makeInt_2_1 : List UInt8 := [28, 184, 3, 28, 16, 24, 16, 16, 184, 3, 16, 120, 128, 29, 184, 3, 28, 16, 24, 16, 24, 184, 3, 16]
abbrev dktJ2_makeInt_2_1 : List UInt8 := dkwJ2_makeInt_2_1 ++ dktJ2_makeInt_2_2
def dkwJ2_makeInt_2_0 : List UInt8 := [26, 184, 3, 28, 16, 24, 3, 184, 3, 16, 120, 27, 184, 3, 28, 16, 24, 16, 8, 184, 3, 16, 120, 128]
abbrev dktJ2_makeInt_2_0 : List UInt8 := dkwJ2_makeInt_2_0 ++ dktJ2_makeInt_2_1
theorem dksJ2_makeInt_2_0 : cJ2_makeInt_2.data.toList.drop 0 = dktJ2_makeInt_2_0 := by decide +kernel
theorem dksJ2_makeInt_2_1 : cJ2_makeInt_2.data.toList.drop 24 = dktJ2_makeInt_2_1 := dk_seg dksJ2_makeInt_2_0 24 rfl rfl
theorem dksJ2_makeInt_2_2 : cJ2_makeInt_2.data.toList.drop 48 = dktJ2_makeInt_2_2 := dk_seg dksJ2_makeInt_2_1 24 rfl rfl
theorem dJ2_makeInt_2_0 : decode cJ2_makeInt_2 0 = .ok (.iload_n 0, 1) := dk_26 (dk_at dksJ2_makeInt_2_0 0 rfl rfl)
theorem dJ2_makeInt_2_1 : decode cJ2_makeInt_2 1 = .ok (.invokestatic 796, 3) := dk_184 3 28 (dk_at dksJ2_makeInt_2_0 1 rfl rfl)
theorem dJ2_makeInt_2_4 : decode cJ2_makeInt_2 4 = .ok (.bipush 24, 2) := dk_16 24 (dk_at dksJ2_makeInt_2_0 4 rfl rfl)
theorem dJ2_makeInt_2_6 : decode cJ2_makeInt_2 6 = .ok (.iconst 0, 1) := dk_3 (dk_at dksJ2_makeInt_2_0 6 rfl rfl)
theorem dJ2_makeInt_2_7 : decode cJ2_makeInt_2 7 = .ok (.invokestatic 784, 3) := dk_184 3 16 (dk_at dksJ2_makeInt_2_0 7 rfl rfl)
theorem dJ2_makeInt_2_10 : decode cJ2_makeInt_2 10 = .ok (.ishl, 1) := dk_120 (dk_at dksJ2_makeInt_2_0 10 rfl rfl)
theorem dJ2_makeInt_2_11 : decode cJ2_makeInt_2 11 = .ok (.iload_n 1, 1) := dk_27 (dk_at dksJ2_makeInt_2_0 11 rfl rfl)
theorem dJ2_makeInt_2_12 : decode cJ2_makeInt_2 12 = .ok (.invokestatic 796, 3) := dk_184 3 28 (dk_at dksJ2_makeInt_2_0 12 rfl rfl)
theorem dJ2_makeInt_2_15 : decode cJ2_makeInt_2 15 = .ok (.bipush 24, 2) := dk_16 24 (dk_at dksJ2_makeInt_2_0 15 rfl rfl)
theorem dJ2_makeInt_2_17 : decode cJ2_makeInt_2 17 = .ok (.bipush 8, 2) := dk_16 8 (dk_at dksJ2_makeInt_2_0 17 rfl rfl)
theorem dJ2_makeInt_2_19 : decode cJ2_makeInt_2 19 = .ok (.invokestatic 784, 3) := dk_184 3 16 (dk_at dksJ2_makeInt_2_0 19 rfl rfl)
theorem dJ2_makeInt_2_22 : decode cJ2_makeInt_2 22 = .ok (.ishl, 1) := dk_120 (dk_at dksJ2_makeInt_2_0 22 rfl rfl)
theorem dJ2_makeInt_2_23 : decode cJ2_makeInt_2 23 = .ok (.ior, 1) := dk_128 (dk_at dksJ2_makeInt_2_0 23 rfl rfl)
theorem dJ2_makeInt_2_24 : decode cJ2_makeInt_2 24 = .ok (.iload_n 2, 1) := dk_28 (dk_at dksJ2_makeInt_2_1 0 rfl rfl)
theorem dJ2_makeInt_2_25 : decode cJ2_makeInt_2 25 = .ok (.invokestatic 796, 3) := dk_184 3 28 (dk_at dksJ2_makeInt_2_1 1 rfl rfl)
theorem dJ2_makeInt_2_28 : decode cJ2_makeInt_2 28 = .ok (.bipush 24, 2) := dk_16 24 (dk_at dksJ2_makeInt_2_1 4 rfl rfl)
theorem dJ2_makeInt_2_30 : decode cJ2_makeInt_2 30 = .ok (.bipush 16, 2) := dk_16 16 (dk_at dksJ2_makeInt_2_1 6 rfl rfl)
theorem dJ2_makeInt_2_32 : decode cJ2_makeInt_2 32 = .ok (.invokestatic 784, 3) := dk_184 3 16 (dk_at dksJ2_makeInt_2_1 8 rfl rfl)
theorem dJ2_makeInt_2_35 : decode cJ2_makeInt_2 35 = .ok (.ishl, 1) := dk_120 (dk_at dksJ2_makeInt_2_1 11 rfl rfl)
theorem dJ2_makeInt_2_36 : decode cJ2_makeInt_2 36 = .ok (.ior, 1) := dk_128 (dk_at dksJ2_makeInt_2_1 12 rfl rfl)
theorem dJ2_makeInt_2_37 : decode cJ2_makeInt_2 37 = .ok (.iload_n 3, 1) := dk_29 (dk_at dksJ2_makeInt_2_1 13 rfl rfl)
theorem dJ2_makeInt_2_38 : decode cJ2_makeInt_2 38 = .ok (.invokestatic 796, 3) := dk_184 3 28 (dk_at dksJ2_makeInt_2_1 14 rfl rfl)
theorem dJ2_makeInt_2_41 : decode cJ2_makeInt_2 41 = .ok (.bipush 24, 2) := dk_16 24 (dk_at dksJ2_makeInt_2_1 17 rfl rfl)
theorem dJ2_makeInt_2_43 : decode cJ2_makeInt_2 43 = .ok (.bipush 24, 2) := dk_16 24 (dk_at dksJ2_makeInt_2_1 19 rfl rfl)
theorem dJ2_makeInt_2_45 : decode cJ2_makeInt_2 45 = .ok (.invokestatic 784, 3) := dk_184 3 16 (dk_at dksJ2_makeInt_2_1 21 rfl rfl)
theorem dJ2_makeInt_2_48 : decode cJ2_makeInt_2 48 = .ok (.ishl, 1) := dk_120 (dk_at dksJ2_makeInt_2_2 0 rfl rfl)
theorem dJ2_makeInt_2_49 : decode cJ2_makeInt_2 49 = .ok (.ior, 1) := dk_128 (dk_at dksJ2_makeInt_2_2 1 rfl rfl)
theorem dJ2_makeInt_2_50 : decode cJ2_makeInt_2 50 = .ok (.ireturn, 1) := dk_172 (dk_at dksJ2_makeInt_2_2 2 rfl rfl)
def dkwJ2_toUnsignedInt_2_0 : List UInt8 := [26, 17, 0, 255, 126, 172]
abbrev dktJ2_toUnsignedInt_2_0 : List UInt8 := dkwJ2_toUnsignedInt_2_0 ++ []
theorem dksJ2_toUnsignedInt_2_0 : cJ2_toUnsignedInt_2.data.toList.drop 0 = dktJ2_toUnsignedInt_2_0 := by decide +kernel
theorem dJ2_toUnsignedInt_2_0 : decode cJ2_toUnsignedInt_2 0 = .ok (.iload_n 0, 1) := dk_26 (dk_at dksJ2_toUnsignedInt_2_0 0 rfl rfl)
theorem dJ2_toUnsignedInt_2_1 : decode cJ2_toUnsignedInt_2 1 = .ok (.sipush 255, 3) := dk_17 0 255 (dk_at dksJ2_toUnsignedInt_2_0 1 rfl rfl)
theorem dJ2_toUnsignedInt_2_4 : decode cJ2_toUnsignedInt_2 4 = .ok (.iand, 1) := dk_126 (dk_at dksJ2_toUnsignedInt_2_0 4 rfl rfl)
theorem dJ2_toUnsignedInt_2_5 : decode cJ2_toUnsignedInt_2 5 = .ok (.ireturn, 1) := dk_172 (dk_at dksJ2_toUnsignedInt_2_0 5 rfl rfl)
theorem dJ3_init_0 : decode cJ3_init 0 = .ok (.aload_n 0, 1) := by decide +kernel
theorem dJ3_init_1 : decode cJ3_init 1 = .ok (.invokespecial 1, 3) := by decide +kernel
theorem dJ3_init_4 : decode cJ3_init 4 = .ok (.return_, 1) := by decide +kernel
def dkwJ4_numberOfLeadingZeros_1 : List UInt8 := [184, 1, 52, 172]
abbrev dktJ4_numberOfLeadingZeros_1 : List UInt8 := dkwJ4_numberOfLeadingZeros_1 ++ []
def dkwJ4_numberOfLeadingZeros_0 : List UInt8 := [30, 16, 32, 125, 136, 61, 28, 154, 0, 14, 16, 32, 30, 136, 184, 1, 52, 96, 167, 0, 7, 28]
abbrev dktJ4_numberOfLeadingZeros_0 : List UInt8 := dkwJ4_numberOfLeadingZeros_0 ++ dktJ4_numberOfLeadingZeros_1
theorem dksJ4_numberOfLeadingZeros_0 : cJ4_numberOfLeadingZeros.data.toList.drop 0 = dktJ4_numberOfLeadingZeros_0 := by decide +kernel
theorem dksJ4_numberOfLeadingZeros_1 : cJ4_numberOfLeadingZeros.data.toList.drop 22 = dktJ4_numberOfLeadingZeros_1 := dk_seg dksJ4_numberOfLeadingZeros_0 22 rfl rfl
theorem dJ4_numberOfLeadingZeros_0 : decode cJ4_numberOfLeadingZeros 0 = .ok (.lload_n 0, 1) := dk_30 (dk_at dksJ4_numberOfLeadingZeros_0 0 rfl rfl)
theorem dJ4_numberOfLeadingZeros_1 : decode cJ4_numberOfLeadingZeros 1 = .ok (.bipush 32, 2) := dk_16 32 (dk_at dksJ4_numberOfLeadingZeros_0 1 rfl rfl)
theorem dJ4_numberOfLeadingZeros_3 : decode cJ4_numberOfLeadingZeros 3 = .ok (.lushr, 1) := dk_125 (dk_at dksJ4_numberOfLeadingZeros_0 3 rfl rfl)
theorem dJ4_numberOfLeadingZeros_4 : decode cJ4_numberOfLeadingZeros 4 = .ok (.l2i, 1) := dk_136 (dk_at dksJ4_numberOfLeadingZeros_0 4 rfl rfl)
theorem dJ4_numberOfLeadingZeros_5 : decode cJ4_numberOfLeadingZeros 5 = .ok (.istore_n 2, 1) := dk_61 (dk_at dksJ4_numberOfLeadingZeros_0 5 rfl rfl)
theorem dJ4_numberOfLeadingZeros_6 : decode cJ4_numberOfLeadingZeros 6 = .ok (.iload_n 2, 1) := dk_28 (dk_at dksJ4_numberOfLeadingZeros_0 6 rfl rfl)
theorem dJ4_numberOfLeadingZeros_7 : decode cJ4_numberOfLeadingZeros 7 = .ok (.ifCond .ne 14, 3) := dk_154 0 14 (dk_at dksJ4_numberOfLeadingZeros_0 7 rfl rfl)
theorem dJ4_numberOfLeadingZeros_10 : decode cJ4_numberOfLeadingZeros 10 = .ok (.bipush 32, 2) := dk_16 32 (dk_at dksJ4_numberOfLeadingZeros_0 10 rfl rfl)
theorem dJ4_numberOfLeadingZeros_12 : decode cJ4_numberOfLeadingZeros 12 = .ok (.lload_n 0, 1) := dk_30 (dk_at dksJ4_numberOfLeadingZeros_0 12 rfl rfl)
theorem dJ4_numberOfLeadingZeros_13 : decode cJ4_numberOfLeadingZeros 13 = .ok (.l2i, 1) := dk_136 (dk_at dksJ4_numberOfLeadingZeros_0 13 rfl rfl)
theorem dJ4_numberOfLeadingZeros_14 : decode cJ4_numberOfLeadingZeros 14 = .ok (.invokestatic 308, 3) := dk_184 1 52 (dk_at dksJ4_numberOfLeadingZeros_0 14 rfl rfl)
theorem dJ4_numberOfLeadingZeros_17 : decode cJ4_numberOfLeadingZeros 17 = .ok (.iadd, 1) := dk_96 (dk_at dksJ4_numberOfLeadingZeros_0 17 rfl rfl)
theorem dJ4_numberOfLeadingZeros_18 : decode cJ4_numberOfLeadingZeros 18 = .ok (.goto 7, 3) := dk_167 0 7 (dk_at dksJ4_numberOfLeadingZeros_0 18 rfl rfl)
theorem dJ4_numberOfLeadingZeros_21 : decode cJ4_numberOfLeadingZeros 21 = .ok (.iload_n 2, 1) := dk_28 (dk_at dksJ4_numberOfLeadingZeros_0 21 rfl rfl)
theorem dJ4_numberOfLeadingZeros_22 : decode cJ4_numberOfLeadingZeros 22 = .ok (.invokestatic 308, 3) := dk_184 1 52 (dk_at dksJ4_numberOfLeadingZeros_1 0 rfl rfl)
theorem dJ4_numberOfLeadingZeros_25 : decode cJ4_numberOfLeadingZeros 25 = .ok (.ireturn, 1) := dk_172 (dk_at dksJ4_numberOfLeadingZeros_1 3 rfl rfl)
def dkwJ4_numberOfTrailingZeros_1 : List UInt8 := [184, 1, 55, 172]
abbrev dktJ4_numberOfTrailingZeros_1 : List UInt8 := dkwJ4_numberOfTrailingZeros_1 ++ []
def dkwJ4_numberOfTrailingZeros_0 : List UInt8 := [30, 136, 61, 28, 154, 0, 17, 16, 32, 30, 16, 32, 125, 136, 184, 1, 55, 96, 167, 0, 7, 28]
abbrev dktJ4_numberOfTrailingZeros_0 : List UInt8 := dkwJ4_numberOfTrailingZeros_0 ++ dktJ4_numberOfTrailingZeros_1
theorem dksJ4_numberOfTrailingZeros_0 : cJ4_numberOfTrailingZeros.data.toList.drop 0 = dktJ4_numberOfTrailingZeros_0 := by decide +kernel
theorem dksJ4_numberOfTrailingZeros_1 : cJ4_numberOfTrailingZeros.data.toList.drop 22 = dktJ4_numberOfTrailingZeros_1 := dk_seg dksJ4_numberOfTrailingZeros_0 22 rfl rfl
theorem dJ4_numberOfTrailingZeros_0 : decode cJ4_numberOfTrailingZeros 0 = .ok (.lload_n 0, 1) := dk_30 (dk_at dksJ4_numberOfTrailingZeros_0 0 rfl rfl)
theorem dJ4_numberOfTrailingZeros_1 : decode cJ4_numberOfTrailingZeros 1 = .ok (.l2i, 1) := dk_136 (dk_at dksJ4_numberOfTrailingZeros_0 1 rfl rfl)
theorem dJ4_numberOfTrailingZeros_2 : decode cJ4_numberOfTrailingZeros 2 = .ok (.istore_n 2, 1) := dk_61 (dk_at dksJ4_numberOfTrailingZeros_0 2 rfl rfl)
theorem dJ4_numberOfTrailingZeros_3 : decode cJ4_numberOfTrailingZeros 3 = .ok (.iload_n 2, 1) := dk_28 (dk_at dksJ4_numberOfTrailingZeros_0 3 rfl rfl)
theorem dJ4_numberOfTrailingZeros_4 : decode cJ4_numberOfTrailingZeros 4 = .ok (.ifCond .ne 17, 3) := dk_154 0 17 (dk_at dksJ4_numberOfTrailingZeros_0 4 rfl rfl)
theorem dJ4_numberOfTrailingZeros_7 : decode cJ4_numberOfTrailingZeros 7 = .ok (.bipush 32, 2) := dk_16 32 (dk_at dksJ4_numberOfTrailingZeros_0 7 rfl rfl)
theorem dJ4_numberOfTrailingZeros_9 : decode cJ4_numberOfTrailingZeros 9 = .ok (.lload_n 0, 1) := dk_30 (dk_at dksJ4_numberOfTrailingZeros_0 9 rfl rfl)
theorem dJ4_numberOfTrailingZeros_10 : decode cJ4_numberOfTrailingZeros 10 = .ok (.bipush 32, 2) := dk_16 32 (dk_at dksJ4_numberOfTrailingZeros_0 10 rfl rfl)
theorem dJ4_numberOfTrailingZeros_12 : decode cJ4_numberOfTrailingZeros 12 = .ok (.lushr, 1) := dk_125 (dk_at dksJ4_numberOfTrailingZeros_0 12 rfl rfl)
theorem dJ4_numberOfTrailingZeros_13 : decode cJ4_numberOfTrailingZeros 13 = .ok (.l2i, 1) := dk_136 (dk_at dksJ4_numberOfTrailingZeros_0 13 rfl rfl)
theorem dJ4_numberOfTrailingZeros_14 : decode cJ4_numberOfTrailingZeros 14 = .ok (.invokestatic 311, 3) := dk_184 1 55 (dk_at dksJ4_numberOfTrailingZeros_0 14 rfl rfl)
theorem dJ4_numberOfTrailingZeros_17 : decode cJ4_numberOfTrailingZeros 17 = .ok (.iadd, 1) := dk_96 (dk_at dksJ4_numberOfTrailingZeros_0 17 rfl rfl)
theorem dJ4_numberOfTrailingZeros_18 : decode cJ4_numberOfTrailingZeros 18 = .ok (.goto 7, 3) := dk_167 0 7 (dk_at dksJ4_numberOfTrailingZeros_0 18 rfl rfl)
theorem dJ4_numberOfTrailingZeros_21 : decode cJ4_numberOfTrailingZeros 21 = .ok (.iload_n 2, 1) := dk_28 (dk_at dksJ4_numberOfTrailingZeros_0 21 rfl rfl)
theorem dJ4_numberOfTrailingZeros_22 : decode cJ4_numberOfTrailingZeros 22 = .ok (.invokestatic 311, 3) := dk_184 1 55 (dk_at dksJ4_numberOfTrailingZeros_1 0 rfl rfl)
theorem dJ4_numberOfTrailingZeros_25 : decode cJ4_numberOfTrailingZeros 25 = .ok (.ireturn, 1) := dk_172 (dk_at dksJ4_numberOfTrailingZeros_1 3 rfl rfl)
def dkwJ5_numberOfLeadingZeros_3 : List UInt8 := [5, 124, 59, 27, 26, 4, 124, 100, 172]
abbrev dktJ5_numberOfLeadingZeros_3 : List UInt8 := dkwJ5_numberOfLeadingZeros_3 ++ []
def dkwJ5_numberOfLeadingZeros_2 : List UInt8 := [124, 59, 26, 16, 16, 161, 0, 10, 132, 1, 252, 26, 7, 124, 59, 26, 7, 161, 0, 10, 132, 1, 254, 26]
abbrev dktJ5_numberOfLeadingZeros_2 : List UInt8 := dkwJ5_numberOfLeadingZeros_2 ++ dktJ5_numberOfLeadingZeros_3
def dkwJ5_numberOfLeadingZeros_1 : List UInt8 := [161, 0, 11, 132, 1, 240, 26, 16, 16, 124, 59, 26, 17, 1, 0, 161, 0, 11, 132, 1, 248, 26, 16, 8]
abbrev dktJ5_numberOfLeadingZeros_1 : List UInt8 := dkwJ5_numberOfLeadingZeros_1 ++ dktJ5_numberOfLeadingZeros_2
def dkwJ5_numberOfLeadingZeros_0 : List UInt8 := [26, 157, 0, 14, 26, 154, 0, 8, 16, 32, 167, 0, 4, 3, 172, 16, 31, 60, 26, 19, 1, 8]
abbrev dktJ5_numberOfLeadingZeros_0 : List UInt8 := dkwJ5_numberOfLeadingZeros_0 ++ dktJ5_numberOfLeadingZeros_1
theorem dksJ5_numberOfLeadingZeros_0 : cJ5_numberOfLeadingZeros.data.toList.drop 0 = dktJ5_numberOfLeadingZeros_0 := by decide +kernel
theorem dksJ5_numberOfLeadingZeros_1 : cJ5_numberOfLeadingZeros.data.toList.drop 22 = dktJ5_numberOfLeadingZeros_1 := dk_seg dksJ5_numberOfLeadingZeros_0 22 rfl rfl
theorem dksJ5_numberOfLeadingZeros_2 : cJ5_numberOfLeadingZeros.data.toList.drop 46 = dktJ5_numberOfLeadingZeros_2 := dk_seg dksJ5_numberOfLeadingZeros_1 24 rfl rfl
theorem dksJ5_numberOfLeadingZeros_3 : cJ5_numberOfLeadingZeros.data.toList.drop 70 = dktJ5_numberOfLeadingZeros_3 := dk_seg dksJ5_numberOfLeadingZeros_2 24 rfl rfl
theorem dJ5_numberOfLeadingZeros_0 : decode cJ5_numberOfLeadingZeros 0 = .ok (.iload_n 0, 1) := dk_26 (dk_at dksJ5_numberOfLeadingZeros_0 0 rfl rfl)
theorem dJ5_numberOfLeadingZeros_1 : decode cJ5_numberOfLeadingZeros 1 = .ok (.ifCond .gt 14, 3) := dk_157 0 14 (dk_at dksJ5_numberOfLeadingZeros_0 1 rfl rfl)
theorem dJ5_numberOfLeadingZeros_4 : decode cJ5_numberOfLeadingZeros 4 = .ok (.iload_n 0, 1) := dk_26 (dk_at dksJ5_numberOfLeadingZeros_0 4 rfl rfl)
theorem dJ5_numberOfLeadingZeros_5 : decode cJ5_numberOfLeadingZeros 5 = .ok (.ifCond .ne 8, 3) := dk_154 0 8 (dk_at dksJ5_numberOfLeadingZeros_0 5 rfl rfl)
theorem dJ5_numberOfLeadingZeros_8 : decode cJ5_numberOfLeadingZeros 8 = .ok (.bipush 32, 2) := dk_16 32 (dk_at dksJ5_numberOfLeadingZeros_0 8 rfl rfl)
theorem dJ5_numberOfLeadingZeros_10 : decode cJ5_numberOfLeadingZeros 10 = .ok (.goto 4, 3) := dk_167 0 4 (dk_at dksJ5_numberOfLeadingZeros_0 10 rfl rfl)
theorem dJ5_numberOfLeadingZeros_13 : decode cJ5_numberOfLeadingZeros 13 = .ok (.iconst 0, 1) := dk_3 (dk_at dksJ5_numberOfLeadingZeros_0 13 rfl rfl)
theorem dJ5_numberOfLeadingZeros_14 : decode cJ5_numberOfLeadingZeros 14 = .ok (.ireturn, 1) := dk_172 (dk_at dksJ5_numberOfLeadingZeros_0 14 rfl rfl)
theorem dJ5_numberOfLeadingZeros_15 : decode cJ5_numberOfLeadingZeros 15 = .ok (.bipush 31, 2) := dk_16 31 (dk_at dksJ5_numberOfLeadingZeros_0 15 rfl rfl)
theorem dJ5_numberOfLeadingZeros_17 : decode cJ5_numberOfLeadingZeros 17 = .ok (.istore_n 1, 1) := dk_60 (dk_at dksJ5_numberOfLeadingZeros_0 17 rfl rfl)
theorem dJ5_numberOfLeadingZeros_18 : decode cJ5_numberOfLeadingZeros 18 = .ok (.iload_n 0, 1) := dk_26 (dk_at dksJ5_numberOfLeadingZeros_0 18 rfl rfl)
theorem dJ5_numberOfLeadingZeros_19 : decode cJ5_numberOfLeadingZeros 19 = .ok (.ldc_w 264, 3) := dk_19 1 8 (dk_at dksJ5_numberOfLeadingZeros_0 19 rfl rfl)
theorem dJ5_numberOfLeadingZeros_22 : decode cJ5_numberOfLeadingZeros 22 = .ok (.if_icmp .lt 11, 3) := dk_161 0 11 (dk_at dksJ5_numberOfLeadingZeros_1 0 rfl rfl)
theorem dJ5_numberOfLeadingZeros_25 : decode cJ5_numberOfLeadingZeros 25 = .ok (.iinc 1 (-16), 3) := dk_132 1 240 (dk_at dksJ5_numberOfLeadingZeros_1 3 rfl rfl)
theorem dJ5_numberOfLeadingZeros_28 : decode cJ5_numberOfLeadingZeros 28 = .ok (.iload_n 0, 1) := dk_26 (dk_at dksJ5_numberOfLeadingZeros_1 6 rfl rfl)
theorem dJ5_numberOfLeadingZeros_29 : decode cJ5_numberOfLeadingZeros 29 = .ok (.bipush 16, 2) := dk_16 16 (dk_at dksJ5_numberOfLeadingZeros_1 7 rfl rfl)
theorem dJ5_numberOfLeadingZeros_31 : decode cJ5_numberOfLeadingZeros 31 = .ok (.iushr, 1) := dk_124 (dk_at dksJ5_numberOfLeadingZeros_1 9 rfl rfl)
theorem dJ5_numberOfLeadingZeros_32 : decode cJ5_numberOfLeadingZeros 32 = .ok (.istore_n 0, 1) := dk_59 (dk_at dksJ5_numberOfLeadingZeros_1 10 rfl rfl)
theorem dJ5_numberOfLeadingZeros_33 : decode cJ5_numberOfLeadingZeros 33 = .ok (.iload_n 0, 1) := dk_26 (dk_at dksJ5_numberOfLeadingZeros_1 11 rfl rfl)
theorem dJ5_numberOfLeadingZeros_34 : decode cJ5_numberOfLeadingZeros 34 = .ok (.sipush 256, 3) := dk_17 1 0 (dk_at dksJ5_numberOfLeadingZeros_1 12 rfl rfl)
theorem dJ5_numberOfLeadingZeros_37 : decode cJ5_numberOfLeadingZeros 37 = .ok (.if_icmp .lt 11, 3) := dk_161 0 11 (dk_at dksJ5_numberOfLeadingZeros_1 15 rfl rfl)
theorem dJ5_numberOfLeadingZeros_40 : decode cJ5_numberOfLeadingZeros 40 = .ok (.iinc 1 (-8), 3) := dk_132 1 248 (dk_at dksJ5_numberOfLeadingZeros_1 18 rfl rfl)
theorem dJ5_numberOfLeadingZeros_43 : decode cJ5_numberOfLeadingZeros 43 = .ok (.iload_n 0, 1) := dk_26 (dk_at dksJ5_numberOfLeadingZeros_1 21 rfl rfl)
theorem dJ5_numberOfLeadingZeros_44 : decode cJ5_numberOfLeadingZeros 44 = .ok (.bipush 8, 2) := dk_16 8 (dk_at dksJ5_numberOfLeadingZeros_1 22 rfl rfl)
theorem dJ5_numberOfLeadingZeros_46 : decode cJ5_numberOfLeadingZeros 46 = .ok (.iushr, 1) := dk_124 (dk_at dksJ5_numberOfLeadingZeros_2 0 rfl rfl)
theorem dJ5_numberOfLeadingZeros_47 : decode cJ5_numberOfLeadingZeros 47 = .ok (.istore_n 0, 1) := dk_59 (dk_at dksJ5_numberOfLeadingZeros_2 1 rfl rfl)
theorem dJ5_numberOfLeadingZeros_48 : decode cJ5_numberOfLeadingZeros 48 = .ok (.iload_n 0, 1) := dk_26 (dk_at dksJ5_numberOfLeadingZeros_2 2 rfl rfl)
theorem dJ5_numberOfLeadingZeros_49 : decode cJ5_numberOfLeadingZeros 49 = .ok (.bipush 16, 2) := dk_16 16 (dk_at dksJ5_numberOfLeadingZeros_2 3 rfl rfl)
theorem dJ5_numberOfLeadingZeros_51 : decode cJ5_numberOfLeadingZeros 51 = .ok (.if_icmp .lt 10, 3) := dk_161 0 10 (dk_at dksJ5_numberOfLeadingZeros_2 5 rfl rfl)
theorem dJ5_numberOfLeadingZeros_54 : decode cJ5_numberOfLeadingZeros 54 = .ok (.iinc 1 (-4), 3) := dk_132 1 252 (dk_at dksJ5_numberOfLeadingZeros_2 8 rfl rfl)
theorem dJ5_numberOfLeadingZeros_57 : decode cJ5_numberOfLeadingZeros 57 = .ok (.iload_n 0, 1) := dk_26 (dk_at dksJ5_numberOfLeadingZeros_2 11 rfl rfl)
theorem dJ5_numberOfLeadingZeros_58 : decode cJ5_numberOfLeadingZeros 58 = .ok (.iconst 4, 1) := dk_7 (dk_at dksJ5_numberOfLeadingZeros_2 12 rfl rfl)
theorem dJ5_numberOfLeadingZeros_59 : decode cJ5_numberOfLeadingZeros 59 = .ok (.iushr, 1) := dk_124 (dk_at dksJ5_numberOfLeadingZeros_2 13 rfl rfl)
theorem dJ5_numberOfLeadingZeros_60 : decode cJ5_numberOfLeadingZeros 60 = .ok (.istore_n 0, 1) := dk_59 (dk_at dksJ5_numberOfLeadingZeros_2 14 rfl rfl)
theorem dJ5_numberOfLeadingZeros_61 : decode cJ5_numberOfLeadingZeros 61 = .ok (.iload_n 0, 1) := dk_26 (dk_at dksJ5_numberOfLeadingZeros_2 15 rfl rfl)
theorem dJ5_numberOfLeadingZeros_62 : decode cJ5_numberOfLeadingZeros 62 = .ok (.iconst 4, 1) := dk_7 (dk_at dksJ5_numberOfLeadingZeros_2 16 rfl rfl)
theorem dJ5_numberOfLeadingZeros_63 : decode cJ5_numberOfLeadingZeros 63 = .ok (.if_icmp .lt 10, 3) := dk_161 0 10 (dk_at dksJ5_numberOfLeadingZeros_2 17 rfl rfl)
theorem dJ5_numberOfLeadingZeros_66 : decode cJ5_numberOfLeadingZeros 66 = .ok (.iinc 1 (-2), 3) := dk_132 1 254 (dk_at dksJ5_numberOfLeadingZeros_2 20 rfl rfl)
theorem dJ5_numberOfLeadingZeros_69 : decode cJ5_numberOfLeadingZeros 69 = .ok (.iload_n 0, 1) := dk_26 (dk_at dksJ5_numberOfLeadingZeros_2 23 rfl rfl)
theorem dJ5_numberOfLeadingZeros_70 : decode cJ5_numberOfLeadingZeros 70 = .ok (.iconst 2, 1) := dk_5 (dk_at dksJ5_numberOfLeadingZeros_3 0 rfl rfl)
theorem dJ5_numberOfLeadingZeros_71 : decode cJ5_numberOfLeadingZeros 71 = .ok (.iushr, 1) := dk_124 (dk_at dksJ5_numberOfLeadingZeros_3 1 rfl rfl)
theorem dJ5_numberOfLeadingZeros_72 : decode cJ5_numberOfLeadingZeros 72 = .ok (.istore_n 0, 1) := dk_59 (dk_at dksJ5_numberOfLeadingZeros_3 2 rfl rfl)
theorem dJ5_numberOfLeadingZeros_73 : decode cJ5_numberOfLeadingZeros 73 = .ok (.iload_n 1, 1) := dk_27 (dk_at dksJ5_numberOfLeadingZeros_3 3 rfl rfl)
theorem dJ5_numberOfLeadingZeros_74 : decode cJ5_numberOfLeadingZeros 74 = .ok (.iload_n 0, 1) := dk_26 (dk_at dksJ5_numberOfLeadingZeros_3 4 rfl rfl)
theorem dJ5_numberOfLeadingZeros_75 : decode cJ5_numberOfLeadingZeros 75 = .ok (.iconst 1, 1) := dk_4 (dk_at dksJ5_numberOfLeadingZeros_3 5 rfl rfl)
theorem dJ5_numberOfLeadingZeros_76 : decode cJ5_numberOfLeadingZeros 76 = .ok (.iushr, 1) := dk_124 (dk_at dksJ5_numberOfLeadingZeros_3 6 rfl rfl)
theorem dJ5_numberOfLeadingZeros_77 : decode cJ5_numberOfLeadingZeros 77 = .ok (.isub, 1) := dk_100 (dk_at dksJ5_numberOfLeadingZeros_3 7 rfl rfl)
theorem dJ5_numberOfLeadingZeros_78 : decode cJ5_numberOfLeadingZeros 78 = .ok (.ireturn, 1) := dk_172 (dk_at dksJ5_numberOfLeadingZeros_3 8 rfl rfl)
def dkwJ5_numberOfTrailingZeros_3 : List UInt8 := [5, 124, 59, 27, 26, 4, 124, 96, 172]
abbrev dktJ5_numberOfTrailingZeros_3 : List UInt8 := dkwJ5_numberOfTrailingZeros_3 ++ []
def dkwJ5_numberOfTrailingZeros_2 : List UInt8 := [124, 59, 26, 16, 16, 164, 0, 10, 132, 1, 4, 26, 7, 124, 59, 26, 7, 164, 0, 10, 132, 1, 2, 26]
abbrev dktJ5_numberOfTrailingZeros_2 : List UInt8 := dkwJ5_numberOfTrailingZeros_2 ++ dktJ5_numberOfTrailingZeros_3
def dkwJ5_numberOfTrailingZeros_1 : List UInt8 := [164, 0, 11, 132, 1, 16, 26, 16, 16, 124, 59, 26, 17, 1, 0, 164, 0, 11, 132, 1, 8, 26, 16, 8]
abbrev dktJ5_numberOfTrailingZeros_1 : List UInt8 := dkwJ5_numberOfTrailingZeros_1 ++ dktJ5_numberOfTrailingZeros_2
def dkwJ5_numberOfTrailingZeros_0 : List UInt8 := [26, 2, 130, 26, 4, 100, 126, 59, 26, 157, 0, 8, 26, 16, 32, 126, 172, 4, 60, 26, 19, 1, 8]
abbrev dktJ5_numberOfTrailingZeros_0 : List UInt8 := dkwJ5_numberOfTrailingZeros_0 ++ dktJ5_numberOfTrailingZeros_1
theorem dksJ5_numberOfTrailingZeros_0 : cJ5_numberOfTrailingZeros.data.toList.drop 0 = dktJ5_numberOfTrailingZeros_0 := by decide +kernel
theorem dksJ5_numberOfTrailingZeros_1 : cJ5_numberOfTrailingZeros.data.toList.drop 23 = dktJ5_numberOfTrailingZeros_1 := dk_seg dksJ5_numberOfTrailingZeros_0 23 rfl rfl
theorem dksJ5_numberOfTrailingZeros_2 : cJ5_numberOfTrailingZeros.data.toList.drop 47 = dktJ5_numberOfTrailingZeros_2 := dk_seg dksJ5_numberOfTrailingZeros_1 24 rfl rfl
theorem dksJ5_numberOfTrailingZeros_3 : cJ5_numberOfTrailingZeros.data.toList.drop 71 = dktJ5_numberOfTrailingZeros_3 := dk_seg dksJ5_numberOfTrailingZeros_2 24 rfl rfl
theorem dJ5_numberOfTrailingZeros_0 : decode cJ5_numberOfTrailingZeros 0 = .ok (.iload_n 0, 1) := dk_26 (dk_at dksJ5_numberOfTrailingZeros_0 0 rfl rfl)
theorem dJ5_numberOfTrailingZeros_1 : decode cJ5_numberOfTrailingZeros 1 = .ok (.iconst (-1), 1) := dk_2 (dk_at dksJ5_numberOfTrailingZeros_0 1 rfl rfl)
theorem dJ5_numberOfTrailingZeros_2 : decode cJ5_numberOfTrailingZeros 2 = .ok (.ixor, 1) := dk_130 (dk_at dksJ5_numberOfTrailingZeros_0 2 rfl rfl)
theorem dJ5_numberOfTrailingZeros_3 : decode cJ5_numberOfTrailingZeros 3 = .ok (.iload_n 0, 1) := dk_26 (dk_at dksJ5_numberOfTrailingZeros_0 3 rfl rfl)
theorem dJ5_numberOfTrailingZeros_4 : decode cJ5_numberOfTrailingZeros 4 = .ok (.iconst 1, 1) := dk_4 (dk_at dksJ5_numberOfTrailingZeros_0 4 rfl rfl)
theorem dJ5_numberOfTrailingZeros_5 : decode cJ5_numberOfTrailingZeros 5 = .ok (.isub, 1) := dk_100 (dk_at dksJ5_numberOfTrailingZeros_0 5 rfl rfl)
theorem dJ5_numberOfTrailingZeros_6 : decode cJ5_numberOfTrailingZeros 6 = .ok (.iand, 1) := dk_126 (dk_at dksJ5_numberOfTrailingZeros_0 6 rfl rfl)
theorem dJ5_numberOfTrailingZeros_7 : decode cJ5_numberOfTrailingZeros 7 = .ok (.istore_n 0, 1) := dk_59 (dk_at dksJ5_numberOfTrailingZeros_0 7 rfl rfl)
theorem dJ5_numberOfTrailingZeros_8 : decode cJ5_numberOfTrailingZeros 8 = .ok (.iload_n 0, 1) := dk_26 (dk_at dksJ5_numberOfTrailingZeros_0 8 rfl rfl)
theorem dJ5_numberOfTrailingZeros_9 : decode cJ5_numberOfTrailingZeros 9 = .ok (.ifCond .gt 8, 3) := dk_157 0 8 (dk_at dksJ5_numberOfTrailingZeros_0 9 rfl rfl)
theorem dJ5_numberOfTrailingZeros_12 : decode cJ5_numberOfTrailingZeros 12 = .ok (.iload_n 0, 1) := dk_26 (dk_at dksJ5_numberOfTrailingZeros_0 12 rfl rfl)
theorem dJ5_numberOfTrailingZeros_13 : decode cJ5_numberOfTrailingZeros 13 = .ok (.bipush 32, 2) := dk_16 32 (dk_at dksJ5_numberOfTrailingZeros_0 13 rfl rfl)
theorem dJ5_numberOfTrailingZeros_15 : decode cJ5_numberOfTrailingZeros 15 = .ok (.iand, 1) := dk_126 (dk_at dksJ5_numberOfTrailingZeros_0 15 rfl rfl)
theorem dJ5_numberOfTrailingZeros_16 : decode cJ5_numberOfTrailingZeros 16 = .ok (.ireturn, 1) := dk_172 (dk_at dksJ5_numberOfTrailingZeros_0 16 rfl rfl)
theorem dJ5_numberOfTrailingZeros_17 : decode cJ5_numberOfTrailingZeros 17 = .ok (.iconst 1, 1) := dk_4 (dk_at dksJ5_numberOfTrailingZeros_0 17 rfl rfl)
theorem dJ5_numberOfTrailingZeros_18 : decode cJ5_numberOfTrailingZeros 18 = .ok (.istore_n 1, 1) := dk_60 (dk_at dksJ5_numberOfTrailingZeros_0 18 rfl rfl)
theorem dJ5_numberOfTrailingZeros_19 : decode cJ5_numberOfTrailingZeros 19 = .ok (.iload_n 0, 1) := dk_26 (dk_at dksJ5_numberOfTrailingZeros_0 19 rfl rfl)
theorem dJ5_numberOfTrailingZeros_20 : decode cJ5_numberOfTrailingZeros 20 = .ok (.ldc_w 264, 3) := dk_19 1 8 (dk_at dksJ5_numberOfTrailingZeros_0 20 rfl rfl)
theorem dJ5_numberOfTrailingZeros_23 : decode cJ5_numberOfTrailingZeros 23 = .ok (.if_icmp .le 11, 3) := dk_164 0 11 (dk_at dksJ5_numberOfTrailingZeros_1 0 rfl rfl)
theorem dJ5_numberOfTrailingZeros_26 : decode cJ5_numberOfTrailingZeros 26 = .ok (.iinc 1 16, 3) := dk_132 1 16 (dk_at dksJ5_numberOfTrailingZeros_1 3 rfl rfl)
theorem dJ5_numberOfTrailingZeros_29 : decode cJ5_numberOfTrailingZeros 29 = .ok (.iload_n 0, 1) := dk_26 (dk_at dksJ5_numberOfTrailingZeros_1 6 rfl rfl)
theorem dJ5_numberOfTrailingZeros_30 : decode cJ5_numberOfTrailingZeros 30 = .ok (.bipush 16, 2) := dk_16 16 (dk_at dksJ5_numberOfTrailingZeros_1 7 rfl rfl)
theorem dJ5_numberOfTrailingZeros_32 : decode cJ5_numberOfTrailingZeros 32 = .ok (.iushr, 1) := dk_124 (dk_at dksJ5_numberOfTrailingZeros_1 9 rfl rfl)
theorem dJ5_numberOfTrailingZeros_33 : decode cJ5_numberOfTrailingZeros 33 = .ok (.istore_n 0, 1) := dk_59 (dk_at dksJ5_numberOfTrailingZeros_1 10 rfl rfl)
theorem dJ5_numberOfTrailingZeros_34 : decode cJ5_numberOfTrailingZeros 34 = .ok (.iload_n 0, 1) := dk_26 (dk_at dksJ5_numberOfTrailingZeros_1 11 rfl rfl)
theorem dJ5_numberOfTrailingZeros_35 : decode cJ5_numberOfTrailingZeros 35 = .ok (.sipush 256, 3) := dk_17 1 0 (dk_at dksJ5_numberOfTrailingZeros_1 12 rfl rfl)
theorem dJ5_numberOfTrailingZeros_38 : decode cJ5_numberOfTrailingZeros 38 = .ok (.if_icmp .le 11, 3) := dk_164 0 11 (dk_at dksJ5_numberOfTrailingZeros_1 15 rfl rfl)
theorem dJ5_numberOfTrailingZeros_41 : decode cJ5_numberOfTrailingZeros 41 = .ok (.iinc 1 8, 3) := dk_132 1 8 (dk_at dksJ5_numberOfTrailingZeros_1 18 rfl rfl)
theorem dJ5_numberOfTrailingZeros_44 : decode cJ5_numberOfTrailingZeros 44 = .ok (.iload_n 0, 1) := dk_26 (dk_at dksJ5_numberOfTrailingZeros_1 21 rfl rfl)
theorem dJ5_numberOfTrailingZeros_45 : decode cJ5_numberOfTrailingZeros 45 = .ok (.bipush 8, 2) := dk_16 8 (dk_at dksJ5_numberOfTrailingZeros_1 22 rfl rfl)
theorem dJ5_numberOfTrailingZeros_47 : decode cJ5_numberOfTrailingZeros 47 = .ok (.iushr, 1) := dk_124 (dk_at dksJ5_numberOfTrailingZeros_2 0 rfl rfl)
theorem dJ5_numberOfTrailingZeros_48 : decode cJ5_numberOfTrailingZeros 48 = .ok (.istore_n 0, 1) := dk_59 (dk_at dksJ5_numberOfTrailingZeros_2 1 rfl rfl)
theorem dJ5_numberOfTrailingZeros_49 : decode cJ5_numberOfTrailingZeros 49 = .ok (.iload_n 0, 1) := dk_26 (dk_at dksJ5_numberOfTrailingZeros_2 2 rfl rfl)
theorem dJ5_numberOfTrailingZeros_50 : decode cJ5_numberOfTrailingZeros 50 = .ok (.bipush 16, 2) := dk_16 16 (dk_at dksJ5_numberOfTrailingZeros_2 3 rfl rfl)
theorem dJ5_numberOfTrailingZeros_52 : decode cJ5_numberOfTrailingZeros 52 = .ok (.if_icmp .le 10, 3) := dk_164 0 10 (dk_at dksJ5_numberOfTrailingZeros_2 5 rfl rfl)
theorem dJ5_numberOfTrailingZeros_55 : decode cJ5_numberOfTrailingZeros 55 = .ok (.iinc 1 4, 3) := dk_132 1 4 (dk_at dksJ5_numberOfTrailingZeros_2 8 rfl rfl)
theorem dJ5_numberOfTrailingZeros_58 : decode cJ5_numberOfTrailingZeros 58 = .ok (.iload_n 0, 1) := dk_26 (dk_at dksJ5_numberOfTrailingZeros_2 11 rfl rfl)
theorem dJ5_numberOfTrailingZeros_59 : decode cJ5_numberOfTrailingZeros 59 = .ok (.iconst 4, 1) := dk_7 (dk_at dksJ5_numberOfTrailingZeros_2 12 rfl rfl)
theorem dJ5_numberOfTrailingZeros_60 : decode cJ5_numberOfTrailingZeros 60 = .ok (.iushr, 1) := dk_124 (dk_at dksJ5_numberOfTrailingZeros_2 13 rfl rfl)
theorem dJ5_numberOfTrailingZeros_61 : decode cJ5_numberOfTrailingZeros 61 = .ok (.istore_n 0, 1) := dk_59 (dk_at dksJ5_numberOfTrailingZeros_2 14 rfl rfl)
theorem dJ5_numberOfTrailingZeros_62 : decode cJ5_numberOfTrailingZeros 62 = .ok (.iload_n 0, 1) := dk_26 (dk_at dksJ5_numberOfTrailingZeros_2 15 rfl rfl)
theorem dJ5_numberOfTrailingZeros_63 : decode cJ5_numberOfTrailingZeros 63 = .ok (.iconst 4, 1) := dk_7 (dk_at dksJ5_numberOfTrailingZeros_2 16 rfl rfl)
theorem dJ5_numberOfTrailingZeros_64 : decode cJ5_numberOfTrailingZeros 64 = .ok (.if_icmp .le 10, 3) := dk_164 0 10 (dk_at dksJ5_numberOfTrailingZeros_2 17 rfl rfl)
theorem dJ5_numberOfTrailingZeros_67 : decode cJ5_numberOfTrailingZeros 67 = .ok (.iinc 1 2, 3) := dk_132 1 2 (dk_at dksJ5_numberOfTrailingZeros_2 20 rfl rfl)
theorem dJ5_numberOfTrailingZeros_70 : decode cJ5_numberOfTrailingZeros 70 = .ok (.iload_n 0, 1) := dk_26 (dk_at dksJ5_numberOfTrailingZeros_2 23 rfl rfl)
theorem dJ5_numberOfTrailingZeros_71 : decode cJ5_numberOfTrailingZeros 71 = .ok (.iconst 2, 1) := dk_5 (dk_at dksJ5_numberOfTrailingZeros_3 0 rfl rfl)
theorem dJ5_numberOfTrailingZeros_72 : decode cJ5_numberOfTrailingZeros 72 = .ok (.iushr, 1) := dk_124 (dk_at dksJ5_numberOfTrailingZeros_3 1 rfl rfl)
theorem dJ5_numberOfTrailingZeros_73 : decode cJ5_numberOfTrailingZeros 73 = .ok (.istore_n 0, 1) := dk_59 (dk_at dksJ5_numberOfTrailingZeros_3 2 rfl rfl)
theorem dJ5_numberOfTrailingZeros_74 : decode cJ5_numberOfTrailingZeros 74 = .ok (.iload_n 1, 1) := dk_27 (dk_at dksJ5_numberOfTrailingZeros_3 3 rfl rfl)
theorem dJ5_numberOfTrailingZeros_75 : decode cJ5_numberOfTrailingZeros 75 = .ok (.iload_n 0, 1) := dk_26 (dk_at dksJ5_numberOfTrailingZeros_3 4 rfl rfl)
theorem dJ5_numberOfTrailingZeros_76 : decode cJ5_numberOfTrailingZeros 76 = .ok (.iconst 1, 1) := dk_4 (dk_at dksJ5_numberOfTrailingZeros_3 5 rfl rfl)
theorem dJ5_numberOfTrailingZeros_77 : decode cJ5_numberOfTrailingZeros 77 = .ok (.iushr, 1) := dk_124 (dk_at dksJ5_numberOfTrailingZeros_3 6 rfl rfl)
theorem dJ5_numberOfTrailingZeros_78 : decode cJ5_numberOfTrailingZeros 78 = .ok (.iadd, 1) := dk_96 (dk_at dksJ5_numberOfTrailingZeros_3 7 rfl rfl)
theorem dJ5_numberOfTrailingZeros_79 : decode cJ5_numberOfTrailingZeros 79 = .ok (.ireturn, 1) := dk_172 (dk_at dksJ5_numberOfTrailingZeros_3 8 rfl rfl)
def dkwJ5_valueOf_1 : List UInt8 := [187, 0, 1, 89, 26, 183, 0, 199, 176]
abbrev dktJ5_valueOf_1 : List UInt8 := dkwJ5_valueOf_1 ++ []
def dkwJ5_valueOf_0 : List UInt8 := [26, 16, 128, 161, 0, 20, 26, 178, 0, 191, 163, 0, 13, 178, 0, 195, 26, 17, 0, 128, 96, 50, 176]
abbrev dktJ5_valueOf_0 : List UInt8 := dkwJ5_valueOf_0 ++ dktJ5_valueOf_1
theorem dksJ5_valueOf_0 : cJ5_valueOf.data.toList.drop 0 = dktJ5_valueOf_0 := by decide +kernel
theorem dksJ5_valueOf_1 : cJ5_valueOf.data.toList.drop 23 = dktJ5_valueOf_1 := dk_seg dksJ5_valueOf_0 23 rfl rfl
theorem dJ5_valueOf_0 : decode cJ5_valueOf 0 = .ok (.iload_n 0, 1) := dk_26 (dk_at dksJ5_valueOf_0 0 rfl rfl)
theorem dJ5_valueOf_1 : decode cJ5_valueOf 1 = .ok (.bipush (-128), 2) := dk_16 128 (dk_at dksJ5_valueOf_0 1 rfl rfl)
theorem dJ5_valueOf_3 : decode cJ5_valueOf 3 = .ok (.if_icmp .lt 20, 3) := dk_161 0 20 (dk_at dksJ5_valueOf_0 3 rfl rfl)
theorem dJ5_valueOf_6 : decode cJ5_valueOf 6 = .ok (.iload_n 0, 1) := dk_26 (dk_at dksJ5_valueOf_0 6 rfl rfl)
theorem dJ5_valueOf_7 : decode cJ5_valueOf 7 = .ok (.getstatic 191, 3) := dk_178 0 191 (dk_at dksJ5_valueOf_0 7 rfl rfl)
theorem dJ5_valueOf_10 : decode cJ5_valueOf 10 = .ok (.if_icmp .gt 13, 3) := dk_163 0 13 (dk_at dksJ5_valueOf_0 10 rfl rfl)
theorem dJ5_valueOf_13 : decode cJ5_valueOf 13 = .ok (.getstatic 195, 3) := dk_178 0 195 (dk_at dksJ5_valueOf_0 13 rfl rfl)
theorem dJ5_valueOf_16 : decode cJ5_valueOf 16 = .ok (.iload_n 0, 1) := dk_26 (dk_at dksJ5_valueOf_0 16 rfl rfl)
theorem dJ5_valueOf_17 : decode cJ5_valueOf 17 = .ok (.sipush 128, 3) := dk_17 0 128 (dk_at dksJ5_valueOf_0 17 rfl rfl)
theorem dJ5_valueOf_20 : decode cJ5_valueOf 20 = .ok (.iadd, 1) := dk_96 (dk_at dksJ5_valueOf_0 20 rfl rfl)
theorem dJ5_valueOf_21 : decode cJ5_valueOf 21 = .ok (.aaload, 1) := dk_50 (dk_at dksJ5_valueOf_0 21 rfl rfl)
theorem dJ5_valueOf_22 : decode cJ5_valueOf 22 = .ok (.areturn, 1) := dk_176 (dk_at dksJ5_valueOf_0 22 rfl rfl)
theorem dJ5_valueOf_23 : decode cJ5_valueOf 23 = .ok (.new 1, 3) := dk_187 0 1 (dk_at dksJ5_valueOf_1 0 rfl rfl)
theorem dJ5_valueOf_26 : decode cJ5_valueOf 26 = .ok (.dup, 1) := dk_89 (dk_at dksJ5_valueOf_1 3 rfl rfl)
theorem dJ5_valueOf_27 : decode cJ5_valueOf 27 = .ok (.iload_n 0, 1) := dk_26 (dk_at dksJ5_valueOf_1 4 rfl rfl)
theorem dJ5_valueOf_28 : decode cJ5_valueOf 28 = .ok (.invokespecial 199, 3) := dk_183 0 199 (dk_at dksJ5_valueOf_1 5 rfl rfl)
theorem dJ5_valueOf_31 : decode cJ5_valueOf 31 = .ok (.areturn, 1) := dk_176 (dk_at dksJ5_valueOf_1 8 rfl rfl)
def dkwJ5_init_0 : List UInt8 := [42, 183, 0, 202, 42, 27, 181, 0, 205, 177]
abbrev dktJ5_init_0 : List UInt8 := dkwJ5_init_0 ++ []
theorem dksJ5_init_0 : cJ5_init.data.toList.drop 0 = dktJ5_init_0 := by decide +kernel
theorem dJ5_init_0 : decode cJ5_init 0 = .ok (.aload_n 0, 1) := dk_42 (dk_at dksJ5_init_0 0 rfl rfl)
theorem dJ5_init_1 : decode cJ5_init 1 = .ok (.invokespecial 202, 3) := dk_183 0 202 (dk_at dksJ5_init_0 1 rfl rfl)
theorem dJ5_init_4 : decode cJ5_init 4 = .ok (.aload_n 0, 1) := dk_42 (dk_at dksJ5_init_0 4 rfl rfl)
theorem dJ5_init_5 : decode cJ5_init 5 = .ok (.iload_n 1, 1) := dk_27 (dk_at dksJ5_init_0 5 rfl rfl)
theorem dJ5_init_6 : decode cJ5_init 6 = .ok (.putfield 205, 3) := dk_181 0 205 (dk_at dksJ5_init_0 6 rfl rfl)
theorem dJ5_init_9 : decode cJ5_init 9 = .ok (.return_, 1) := dk_177 (dk_at dksJ5_init_0 9 rfl rfl)
def dkwJ5_bitCount_2 : List UInt8 := [26, 16, 63, 126, 172]
abbrev dktJ5_bitCount_2 : List UInt8 := dkwJ5_bitCount_2 ++ []
def dkwJ5_bitCount_1 : List UInt8 := [26, 26, 7, 124, 96, 19, 1, 11, 126, 59, 26, 26, 16, 8, 124, 96, 59, 26, 26, 16, 16, 124, 96, 59]
abbrev dktJ5_bitCount_1 : List UInt8 := dkwJ5_bitCount_1 ++ dktJ5_bitCount_2
def dkwJ5_bitCount_0 : List UInt8 := [26, 26, 4, 124, 19, 1, 9, 126, 100, 59, 26, 19, 1, 10, 126, 26, 5, 124, 19, 1, 10, 126, 96, 59]
abbrev dktJ5_bitCount_0 : List UInt8 := dkwJ5_bitCount_0 ++ dktJ5_bitCount_1
theorem dksJ5_bitCount_0 : cJ5_bitCount.data.toList.drop 0 = dktJ5_bitCount_0 := by decide +kernel
theorem dksJ5_bitCount_1 : cJ5_bitCount.data.toList.drop 24 = dktJ5_bitCount_1 := dk_seg dksJ5_bitCount_0 24 rfl rfl
theorem dksJ5_bitCount_2 : cJ5_bitCount.data.toList.drop 48 = dktJ5_bitCount_2 := dk_seg dksJ5_bitCount_1 24 rfl rfl
theorem dJ5_bitCount_0 : decode cJ5_bitCount 0 = .ok (.iload_n 0, 1) := dk_26 (dk_at dksJ5_bitCount_0 0 rfl rfl)
theorem dJ5_bitCount_1 : decode cJ5_bitCount 1 = .ok (.iload_n 0, 1) := dk_26 (dk_at dksJ5_bitCount_0 1 rfl rfl)
theorem dJ5_bitCount_2 : decode cJ5_bitCount 2 = .ok (.iconst 1, 1) := dk_4 (dk_at dksJ5_bitCount_0 2 rfl rfl)
theorem dJ5_bitCount_3 : decode cJ5_bitCount 3 = .ok (.iushr, 1) := dk_124 (dk_at dksJ5_bitCount_0 3 rfl rfl)
theorem dJ5_bitCount_4 : decode cJ5_bitCount 4 = .ok (.ldc_w 265, 3) := dk_19 1 9 (dk_at dksJ5_bitCount_0 4 rfl rfl)
theorem dJ5_bitCount_7 : decode cJ5_bitCount 7 = .ok (.iand, 1) := dk_126 (dk_at dksJ5_bitCount_0 7 rfl rfl)
theorem dJ5_bitCount_8 : decode cJ5_bitCount 8 = .ok (.isub, 1) := dk_100 (dk_at dksJ5_bitCount_0 8 rfl rfl)
theorem dJ5_bitCount_9 : decode cJ5_bitCount 9 = .ok (.istore_n 0, 1) := dk_59 (dk_at dksJ5_bitCount_0 9 rfl rfl)
theorem dJ5_bitCount_10 : decode cJ5_bitCount 10 = .ok (.iload_n 0, 1) := dk_26 (dk_at dksJ5_bitCount_0 10 rfl rfl)
theorem dJ5_bitCount_11 : decode cJ5_bitCount 11 = .ok (.ldc_w 266, 3) := dk_19 1 10 (dk_at dksJ5_bitCount_0 11 rfl rfl)
theorem dJ5_bitCount_14 : decode cJ5_bitCount 14 = .ok (.iand, 1) := dk_126 (dk_at dksJ5_bitCount_0 14 rfl rfl)
theorem dJ5_bitCount_15 : decode cJ5_bitCount 15 = .ok (.iload_n 0, 1) := dk_26 (dk_at dksJ5_bitCount_0 15 rfl rfl)
theorem dJ5_bitCount_16 : decode cJ5_bitCount 16 = .ok (.iconst 2, 1) := dk_5 (dk_at dksJ5_bitCount_0 16 rfl rfl)
theorem dJ5_bitCount_17 : decode cJ5_bitCount 17 = .ok (.iushr, 1) := dk_124 (dk_at dksJ5_bitCount_0 17 rfl rfl)
theorem dJ5_bitCount_18 : decode cJ5_bitCount 18 = .ok (.ldc_w 266, 3) := dk_19 1 10 (dk_at dksJ5_bitCount_0 18 rfl rfl)
theorem dJ5_bitCount_21 : decode cJ5_bitCount 21 = .ok (.iand, 1) := dk_126 (dk_at dksJ5_bitCount_0 21 rfl rfl)
theorem dJ5_bitCount_22 : decode cJ5_bitCount 22 = .ok (.iadd, 1) := dk_96 (dk_at dksJ5_bitCount_0 22 rfl rfl)
theorem dJ5_bitCount_23 : decode cJ5_bitCount 23 = .ok (.istore_n 0, 1) := dk_59 (dk_at dksJ5_bitCount_0 23 rfl rfl)
theorem dJ5_bitCount_24 : decode cJ5_bitCount 24 = .ok (.iload_n 0, 1) := dk_26 (dk_at dksJ5_bitCount_1 0 rfl rfl)
theorem dJ5_bitCount_25 : decode cJ5_bitCount 25 = .ok (.iload_n 0, 1) := dk_26 (dk_at dksJ5_bitCount_1 1 rfl rfl)
theorem dJ5_bitCount_26 : decode cJ5_bitCount 26 = .ok (.iconst 4, 1) := dk_7 (dk_at dksJ5_bitCount_1 2 rfl rfl)
theorem dJ5_bitCount_27 : decode cJ5_bitCount 27 = .ok (.iushr, 1) := dk_124 (dk_at dksJ5_bitCount_1 3 rfl rfl)
theorem dJ5_bitCount_28 : decode cJ5_bitCount 28 = .ok (.iadd, 1) := dk_96 (dk_at dksJ5_bitCount_1 4 rfl rfl)
theorem dJ5_bitCount_29 : decode cJ5_bitCount 29 = .ok (.ldc_w 267, 3) := dk_19 1 11 (dk_at dksJ5_bitCount_1 5 rfl rfl)
theorem dJ5_bitCount_32 : decode cJ5_bitCount 32 = .ok (.iand, 1) := dk_126 (dk_at dksJ5_bitCount_1 8 rfl rfl)
theorem dJ5_bitCount_33 : decode cJ5_bitCount 33 = .ok (.istore_n 0, 1) := dk_59 (dk_at dksJ5_bitCount_1 9 rfl rfl)
theorem dJ5_bitCount_34 : decode cJ5_bitCount 34 = .ok (.iload_n 0, 1) := dk_26 (dk_at dksJ5_bitCount_1 10 rfl rfl)
theorem dJ5_bitCount_35 : decode cJ5_bitCount 35 = .ok (.iload_n 0, 1) := dk_26 (dk_at dksJ5_bitCount_1 11 rfl rfl)
theorem dJ5_bitCount_36 : decode cJ5_bitCount 36 = .ok (.bipush 8, 2) := dk_16 8 (dk_at dksJ5_bitCount_1 12 rfl rfl)
theorem dJ5_bitCount_38 : decode cJ5_bitCount 38 = .ok (.iushr, 1) := dk_124 (dk_at dksJ5_bitCount_1 14 rfl rfl)
theorem dJ5_bitCount_39 : decode cJ5_bitCount 39 = .ok (.iadd, 1) := dk_96 (dk_at dksJ5_bitCount_1 15 rfl rfl)
theorem dJ5_bitCount_40 : decode cJ5_bitCount 40 = .ok (.istore_n 0, 1) := dk_59 (dk_at dksJ5_bitCount_1 16 rfl rfl)
theorem dJ5_bitCount_41 : decode cJ5_bitCount 41 = .ok (.iload_n 0, 1) := dk_26 (dk_at dksJ5_bitCount_1 17 rfl rfl)
theorem dJ5_bitCount_42 : decode cJ5_bitCount 42 = .ok (.iload_n 0, 1) := dk_26 (dk_at dksJ5_bitCount_1 18 rfl rfl)
theorem dJ5_bitCount_43 : decode cJ5_bitCount 43 = .ok (.bipush 16, 2) := dk_16 16 (dk_at dksJ5_bitCount_1 19 rfl rfl)
theorem dJ5_bitCount_45 : decode cJ5_bitCount 45 = .ok (.iushr, 1) := dk_124 (dk_at dksJ5_bitCount_1 21 rfl rfl)
theorem dJ5_bitCount_46 : decode cJ5_bitCount 46 = .ok (.iadd, 1) := dk_96 (dk_at dksJ5_bitCount_1 22 rfl rfl)
theorem dJ5_bitCount_47 : decode cJ5_bitCount 47 = .ok (.istore_n 0, 1) := dk_59 (dk_at dksJ5_bitCount_1 23 rfl rfl)
theorem dJ5_bitCount_48 : decode cJ5_bitCount 48 = .ok (.iload_n 0, 1) := dk_26 (dk_at dksJ5_bitCount_2 0 rfl rfl)
theorem dJ5_bitCount_49 : decode cJ5_bitCount 49 = .ok (.bipush 63, 2) := dk_16 63 (dk_at dksJ5_bitCount_2 1 rfl rfl)
theorem dJ5_bitCount_51 : decode cJ5_bitCount 51 = .ok (.iand, 1) := dk_126 (dk_at dksJ5_bitCount_2 3 rfl rfl)
theorem dJ5_bitCount_52 : decode cJ5_bitCount 52 = .ok (.ireturn, 1) := dk_172 (dk_at dksJ5_bitCount_2 4 rfl rfl)
theorem dJ5_intValue_0 : decode cJ5_intValue 0 = .ok (.aload_n 0, 1) := by decide +kernel
theorem dJ5_intValue_1 : decode cJ5_intValue 1 = .ok (.getfield 205, 3) := by decide +kernel
theorem dJ5_intValue_4 : decode cJ5_intValue 4 = .ok (.ireturn, 1) := by decide +kernel
theorem dJ6_init_0 : decode cJ6_init 0 = .ok (.aload_n 0, 1) := by decide +kernel
theorem dJ6_init_1 : decode cJ6_init 1 = .ok (.invokespecial 1, 3) := by decide +kernel
theorem dJ6_init_4 : decode cJ6_init 4 = .ok (.return_, 1) := by decide +kernel
theorem dJ7_init_0 : decode cJ7_init 0 = .ok (.aload_n 0, 1) := by decide +kernel
theorem dJ7_init_1 : decode cJ7_init 1 = .ok (.invokespecial 1, 3) := by decide +kernel
theorem dJ7_init_4 : decode cJ7_init 4 = .ok (.return_, 1) := by decide +kernel
def dkwJ8_init_0 : List UInt8 := [42, 183, 0, 1, 42, 3, 181, 0, 7, 177]
abbrev dktJ8_init_0 : List UInt8 := dkwJ8_init_0 ++ []
theorem dksJ8_init_0 : cJ8_init.data.toList.drop 0 = dktJ8_init_0 := by decide +kernel
theorem dJ8_init_0 : decode cJ8_init 0 = .ok (.aload_n 0, 1) := dk_42 (dk_at dksJ8_init_0 0 rfl rfl)
theorem dJ8_init_1 : decode cJ8_init 1 = .ok (.invokespecial 1, 3) := dk_183 0 1 (dk_at dksJ8_init_0 1 rfl rfl)
theorem dJ8_init_4 : decode cJ8_init 4 = .ok (.aload_n 0, 1) := dk_42 (dk_at dksJ8_init_0 4 rfl rfl)
theorem dJ8_init_5 : decode cJ8_init 5 = .ok (.iconst 0, 1) := dk_3 (dk_at dksJ8_init_0 5 rfl rfl)
theorem dJ8_init_6 : decode cJ8_init 6 = .ok (.putfield 7, 3) := dk_181 0 7 (dk_at dksJ8_init_0 6 rfl rfl)
theorem dJ8_init_9 : decode cJ8_init 9 = .ok (.return_, 1) := dk_177 (dk_at dksJ8_init_0 9 rfl rfl)
def dkwJ9_init_0 : List UInt8 := [42, 183, 0, 1, 42, 178, 0, 39, 181, 0, 9, 177]
abbrev dktJ9_init_0 : List UInt8 := dkwJ9_init_0 ++ []
theorem dksJ9_init_0 : cJ9_init.data.toList.drop 0 = dktJ9_init_0 := by decide +kernel
theorem dJ9_init_0 : decode cJ9_init 0 = .ok (.aload_n 0, 1) := dk_42 (dk_at dksJ9_init_0 0 rfl rfl)
theorem dJ9_init_1 : decode cJ9_init 1 = .ok (.invokespecial 1, 3) := dk_183 0 1 (dk_at dksJ9_init_0 1 rfl rfl)
theorem dJ9_init_4 : decode cJ9_init 4 = .ok (.aload_n 0, 1) := dk_42 (dk_at dksJ9_init_0 4 rfl rfl)
theorem dJ9_init_5 : decode cJ9_init 5 = .ok (.getstatic 39, 3) := dk_178 0 39 (dk_at dksJ9_init_0 5 rfl rfl)
theorem dJ9_init_8 : decode cJ9_init 8 = .ok (.putfield 9, 3) := dk_181 0 9 (dk_at dksJ9_init_0 8 rfl rfl)
theorem dJ9_init_11 : decode cJ9_init 11 = .ok (.return_, 1) := dk_177 (dk_at dksJ9_init_0 11 rfl rfl)
def dkwJ9_add_1 : List UInt8 := [172]
abbrev dktJ9_add_1 : List UInt8 := dkwJ9_add_1 ++ []
def dkwJ9_add_0 : List UInt8 := [42, 89, 180, 0, 63, 4, 96, 181, 0, 63, 42, 43, 42, 180, 0, 9, 42, 180, 0, 48, 182, 0, 131, 4]
abbrev dktJ9_add_0 : List UInt8 := dkwJ9_add_0 ++ dktJ9_add_1
theorem dksJ9_add_0 : cJ9_add.data.toList.drop 0 = dktJ9_add_0 := by decide +kernel
theorem dksJ9_add_1 : cJ9_add.data.toList.drop 24 = dktJ9_add_1 := dk_seg dksJ9_add_0 24 rfl rfl
theorem dJ9_add_0 : decode cJ9_add 0 = .ok (.aload_n 0, 1) := dk_42 (dk_at dksJ9_add_0 0 rfl rfl)
theorem dJ9_add_1 : decode cJ9_add 1 = .ok (.dup, 1) := dk_89 (dk_at dksJ9_add_0 1 rfl rfl)
theorem dJ9_add_2 : decode cJ9_add 2 = .ok (.getfield 63, 3) := dk_180 0 63 (dk_at dksJ9_add_0 2 rfl rfl)
theorem dJ9_add_5 : decode cJ9_add 5 = .ok (.iconst 1, 1) := dk_4 (dk_at dksJ9_add_0 5 rfl rfl)
theorem dJ9_add_6 : decode cJ9_add 6 = .ok (.iadd, 1) := dk_96 (dk_at dksJ9_add_0 6 rfl rfl)
theorem dJ9_add_7 : decode cJ9_add 7 = .ok (.putfield 63, 3) := dk_181 0 63 (dk_at dksJ9_add_0 7 rfl rfl)
theorem dJ9_add_10 : decode cJ9_add 10 = .ok (.aload_n 0, 1) := dk_42 (dk_at dksJ9_add_0 10 rfl rfl)
theorem dJ9_add_11 : decode cJ9_add 11 = .ok (.aload_n 1, 1) := dk_43 (dk_at dksJ9_add_0 11 rfl rfl)
theorem dJ9_add_12 : decode cJ9_add 12 = .ok (.aload_n 0, 1) := dk_42 (dk_at dksJ9_add_0 12 rfl rfl)
theorem dJ9_add_13 : decode cJ9_add 13 = .ok (.getfield 9, 3) := dk_180 0 9 (dk_at dksJ9_add_0 13 rfl rfl)
theorem dJ9_add_16 : decode cJ9_add 16 = .ok (.aload_n 0, 1) := dk_42 (dk_at dksJ9_add_0 16 rfl rfl)
theorem dJ9_add_17 : decode cJ9_add 17 = .ok (.getfield 48, 3) := dk_180 0 48 (dk_at dksJ9_add_0 17 rfl rfl)
theorem dJ9_add_20 : decode cJ9_add 20 = .ok (.invokevirtual 131, 3) := dk_182 0 131 (dk_at dksJ9_add_0 20 rfl rfl)
theorem dJ9_add_23 : decode cJ9_add 23 = .ok (.iconst 1, 1) := dk_4 (dk_at dksJ9_add_0 23 rfl rfl)
theorem dJ9_add_24 : decode cJ9_add 24 = .ok (.ireturn, 1) := dk_172 (dk_at dksJ9_add_1 0 rfl rfl)
def dkwJ9_add_2_0 : List UInt8 := [29, 44, 190, 160, 0, 8, 42, 182, 0, 129, 77, 44, 29, 43, 83, 42, 29, 4, 96, 181, 0, 48, 177]
abbrev dktJ9_add_2_0 : List UInt8 := dkwJ9_add_2_0 ++ []
theorem dksJ9_add_2_0 : cJ9_add_2.data.toList.drop 0 = dktJ9_add_2_0 := by decide +kernel
theorem dJ9_add_2_0 : decode cJ9_add_2 0 = .ok (.iload_n 3, 1) := dk_29 (dk_at dksJ9_add_2_0 0 rfl rfl)
theorem dJ9_add_2_1 : decode cJ9_add_2 1 = .ok (.aload_n 2, 1) := dk_44 (dk_at dksJ9_add_2_0 1 rfl rfl)
theorem dJ9_add_2_2 : decode cJ9_add_2 2 = .ok (.arraylength, 1) := dk_190 (dk_at dksJ9_add_2_0 2 rfl rfl)
theorem dJ9_add_2_3 : decode cJ9_add_2 3 = .ok (.if_icmp .ne 8, 3) := dk_160 0 8 (dk_at dksJ9_add_2_0 3 rfl rfl)
theorem dJ9_add_2_6 : decode cJ9_add_2 6 = .ok (.aload_n 0, 1) := dk_42 (dk_at dksJ9_add_2_0 6 rfl rfl)
theorem dJ9_add_2_7 : decode cJ9_add_2 7 = .ok (.invokevirtual 129, 3) := dk_182 0 129 (dk_at dksJ9_add_2_0 7 rfl rfl)
theorem dJ9_add_2_10 : decode cJ9_add_2 10 = .ok (.astore_n 2, 1) := dk_77 (dk_at dksJ9_add_2_0 10 rfl rfl)
theorem dJ9_add_2_11 : decode cJ9_add_2 11 = .ok (.aload_n 2, 1) := dk_44 (dk_at dksJ9_add_2_0 11 rfl rfl)
theorem dJ9_add_2_12 : decode cJ9_add_2 12 = .ok (.iload_n 3, 1) := dk_29 (dk_at dksJ9_add_2_0 12 rfl rfl)
theorem dJ9_add_2_13 : decode cJ9_add_2 13 = .ok (.aload_n 1, 1) := dk_43 (dk_at dksJ9_add_2_0 13 rfl rfl)
theorem dJ9_add_2_14 : decode cJ9_add_2 14 = .ok (.aastore, 1) := dk_83 (dk_at dksJ9_add_2_0 14 rfl rfl)
theorem dJ9_add_2_15 : decode cJ9_add_2 15 = .ok (.aload_n 0, 1) := dk_42 (dk_at dksJ9_add_2_0 15 rfl rfl)
theorem dJ9_add_2_16 : decode cJ9_add_2 16 = .ok (.iload_n 3, 1) := dk_29 (dk_at dksJ9_add_2_0 16 rfl rfl)
theorem dJ9_add_2_17 : decode cJ9_add_2 17 = .ok (.iconst 1, 1) := dk_4 (dk_at dksJ9_add_2_0 17 rfl rfl)
theorem dJ9_add_2_18 : decode cJ9_add_2 18 = .ok (.iadd, 1) := dk_96 (dk_at dksJ9_add_2_0 18 rfl rfl)
theorem dJ9_add_2_19 : decode cJ9_add_2 19 = .ok (.putfield 48, 3) := dk_181 0 48 (dk_at dksJ9_add_2_0 19 rfl rfl)
theorem dJ9_add_2_22 : decode cJ9_add_2 22 = .ok (.return_, 1) := dk_177 (dk_at dksJ9_add_2_0 22 rfl rfl)
def dkwJ9_grow_0 : List UInt8 := [42, 42, 180, 0, 48, 4, 96, 182, 0, 69, 176]
abbrev dktJ9_grow_0 : List UInt8 := dkwJ9_grow_0 ++ []
theorem dksJ9_grow_0 : cJ9_grow.data.toList.drop 0 = dktJ9_grow_0 := by decide +kernel
theorem dJ9_grow_0 : decode cJ9_grow 0 = .ok (.aload_n 0, 1) := dk_42 (dk_at dksJ9_grow_0 0 rfl rfl)
theorem dJ9_grow_1 : decode cJ9_grow 1 = .ok (.aload_n 0, 1) := dk_42 (dk_at dksJ9_grow_0 1 rfl rfl)
theorem dJ9_grow_2 : decode cJ9_grow 2 = .ok (.getfield 48, 3) := dk_180 0 48 (dk_at dksJ9_grow_0 2 rfl rfl)
theorem dJ9_grow_5 : decode cJ9_grow 5 = .ok (.iconst 1, 1) := dk_4 (dk_at dksJ9_grow_0 5 rfl rfl)
theorem dJ9_grow_6 : decode cJ9_grow 6 = .ok (.iadd, 1) := dk_96 (dk_at dksJ9_grow_0 6 rfl rfl)
theorem dJ9_grow_7 : decode cJ9_grow 7 = .ok (.invokevirtual 69, 3) := dk_182 0 69 (dk_at dksJ9_grow_0 7 rfl rfl)
theorem dJ9_grow_10 : decode cJ9_grow 10 = .ok (.areturn, 1) := dk_176 (dk_at dksJ9_grow_0 10 rfl rfl)
def dkwJ9_grow_2_2 : List UInt8 := [27, 184, 0, 79, 189, 0, 7, 90, 181, 0, 9, 176]
abbrev dktJ9_grow_2_2 : List UInt8 := dkwJ9_grow_2_2 ++ []
def dkwJ9_grow_2_1 : List UInt8 := [28, 4, 122, 184, 0, 73, 62, 42, 42, 180, 0, 9, 29, 184, 0, 66, 90, 181, 0, 9, 176, 42, 16, 10]
abbrev dktJ9_grow_2_1 : List UInt8 := dkwJ9_grow_2_1 ++ dktJ9_grow_2_2
def dkwJ9_grow_2_0 : List UInt8 := [42, 180, 0, 9, 190, 61, 28, 157, 0, 13, 42, 180, 0, 9, 178, 0, 39, 165, 0, 28, 28, 27, 28, 100]
abbrev dktJ9_grow_2_0 : List UInt8 := dkwJ9_grow_2_0 ++ dktJ9_grow_2_1
theorem dksJ9_grow_2_0 : cJ9_grow_2.data.toList.drop 0 = dktJ9_grow_2_0 := by decide +kernel
theorem dksJ9_grow_2_1 : cJ9_grow_2.data.toList.drop 24 = dktJ9_grow_2_1 := dk_seg dksJ9_grow_2_0 24 rfl rfl
theorem dksJ9_grow_2_2 : cJ9_grow_2.data.toList.drop 48 = dktJ9_grow_2_2 := dk_seg dksJ9_grow_2_1 24 rfl rfl
theorem dJ9_grow_2_0 : decode cJ9_grow_2 0 = .ok (.aload_n 0, 1) := dk_42 (dk_at dksJ9_grow_2_0 0 rfl rfl)
theorem dJ9_grow_2_1 : decode cJ9_grow_2 1 = .ok (.getfield 9, 3) := dk_180 0 9 (dk_at dksJ9_grow_2_0 1 rfl rfl)
theorem dJ9_grow_2_4 : decode cJ9_grow_2 4 = .ok (.arraylength, 1) := dk_190 (dk_at dksJ9_grow_2_0 4 rfl rfl)
theorem dJ9_grow_2_5 : decode cJ9_grow_2 5 = .ok (.istore_n 2, 1) := dk_61 (dk_at dksJ9_grow_2_0 5 rfl rfl)
theorem dJ9_grow_2_6 : decode cJ9_grow_2 6 = .ok (.iload_n 2, 1) := dk_28 (dk_at dksJ9_grow_2_0 6 rfl rfl)
theorem dJ9_grow_2_7 : decode cJ9_grow_2 7 = .ok (.ifCond .gt 13, 3) := dk_157 0 13 (dk_at dksJ9_grow_2_0 7 rfl rfl)
theorem dJ9_grow_2_10 : decode cJ9_grow_2 10 = .ok (.aload_n 0, 1) := dk_42 (dk_at dksJ9_grow_2_0 10 rfl rfl)
theorem dJ9_grow_2_11 : decode cJ9_grow_2 11 = .ok (.getfield 9, 3) := dk_180 0 9 (dk_at dksJ9_grow_2_0 11 rfl rfl)
theorem dJ9_grow_2_14 : decode cJ9_grow_2 14 = .ok (.getstatic 39, 3) := dk_178 0 39 (dk_at dksJ9_grow_2_0 14 rfl rfl)
theorem dJ9_grow_2_17 : decode cJ9_grow_2 17 = .ok (.if_acmp .eq 28, 3) := dk_165 0 28 (dk_at dksJ9_grow_2_0 17 rfl rfl)
theorem dJ9_grow_2_20 : decode cJ9_grow_2 20 = .ok (.iload_n 2, 1) := dk_28 (dk_at dksJ9_grow_2_0 20 rfl rfl)
theorem dJ9_grow_2_21 : decode cJ9_grow_2 21 = .ok (.iload_n 1, 1) := dk_27 (dk_at dksJ9_grow_2_0 21 rfl rfl)
theorem dJ9_grow_2_22 : decode cJ9_grow_2 22 = .ok (.iload_n 2, 1) := dk_28 (dk_at dksJ9_grow_2_0 22 rfl rfl)
theorem dJ9_grow_2_23 : decode cJ9_grow_2 23 = .ok (.isub, 1) := dk_100 (dk_at dksJ9_grow_2_0 23 rfl rfl)
theorem dJ9_grow_2_24 : decode cJ9_grow_2 24 = .ok (.iload_n 2, 1) := dk_28 (dk_at dksJ9_grow_2_1 0 rfl rfl)
theorem dJ9_grow_2_25 : decode cJ9_grow_2 25 = .ok (.iconst 1, 1) := dk_4 (dk_at dksJ9_grow_2_1 1 rfl rfl)
theorem dJ9_grow_2_26 : decode cJ9_grow_2 26 = .ok (.ishr, 1) := dk_122 (dk_at dksJ9_grow_2_1 2 rfl rfl)
theorem dJ9_grow_2_27 : decode cJ9_grow_2 27 = .ok (.invokestatic 73, 3) := dk_184 0 73 (dk_at dksJ9_grow_2_1 3 rfl rfl)
theorem dJ9_grow_2_30 : decode cJ9_grow_2 30 = .ok (.istore_n 3, 1) := dk_62 (dk_at dksJ9_grow_2_1 6 rfl rfl)
theorem dJ9_grow_2_31 : decode cJ9_grow_2 31 = .ok (.aload_n 0, 1) := dk_42 (dk_at dksJ9_grow_2_1 7 rfl rfl)
theorem dJ9_grow_2_32 : decode cJ9_grow_2 32 = .ok (.aload_n 0, 1) := dk_42 (dk_at dksJ9_grow_2_1 8 rfl rfl)
theorem dJ9_grow_2_33 : decode cJ9_grow_2 33 = .ok (.getfield 9, 3) := dk_180 0 9 (dk_at dksJ9_grow_2_1 9 rfl rfl)
theorem dJ9_grow_2_36 : decode cJ9_grow_2 36 = .ok (.iload_n 3, 1) := dk_29 (dk_at dksJ9_grow_2_1 12 rfl rfl)
theorem dJ9_grow_2_37 : decode cJ9_grow_2 37 = .ok (.invokestatic 66, 3) := dk_184 0 66 (dk_at dksJ9_grow_2_1 13 rfl rfl)
theorem dJ9_grow_2_40 : decode cJ9_grow_2 40 = .ok (.dup_x1, 1) := dk_90 (dk_at dksJ9_grow_2_1 16 rfl rfl)
theorem dJ9_grow_2_41 : decode cJ9_grow_2 41 = .ok (.putfield 9, 3) := dk_181 0 9 (dk_at dksJ9_grow_2_1 17 rfl rfl)
theorem dJ9_grow_2_44 : decode cJ9_grow_2 44 = .ok (.areturn, 1) := dk_176 (dk_at dksJ9_grow_2_1 20 rfl rfl)
theorem dJ9_grow_2_45 : decode cJ9_grow_2 45 = .ok (.aload_n 0, 1) := dk_42 (dk_at dksJ9_grow_2_1 21 rfl rfl)
theorem dJ9_grow_2_46 : decode cJ9_grow_2 46 = .ok (.bipush 10, 2) := dk_16 10 (dk_at dksJ9_grow_2_1 22 rfl rfl)
theorem dJ9_grow_2_48 : decode cJ9_grow_2 48 = .ok (.iload_n 1, 1) := dk_27 (dk_at dksJ9_grow_2_2 0 rfl rfl)
theorem dJ9_grow_2_49 : decode cJ9_grow_2 49 = .ok (.invokestatic 79, 3) := dk_184 0 79 (dk_at dksJ9_grow_2_2 1 rfl rfl)
theorem dJ9_grow_2_52 : decode cJ9_grow_2 52 = .ok (.anewarray 7, 3) := dk_189 0 7 (dk_at dksJ9_grow_2_2 4 rfl rfl)
theorem dJ9_grow_2_55 : decode cJ9_grow_2 55 = .ok (.dup_x1, 1) := dk_90 (dk_at dksJ9_grow_2_2 7 rfl rfl)
theorem dJ9_grow_2_56 : decode cJ9_grow_2 56 = .ok (.putfield 9, 3) := dk_181 0 9 (dk_at dksJ9_grow_2_2 8 rfl rfl)
theorem dJ9_grow_2_59 : decode cJ9_grow_2 59 = .ok (.areturn, 1) := dk_176 (dk_at dksJ9_grow_2_2 11 rfl rfl)
def dkwJ9_isEmpty_0 : List UInt8 := [42, 180, 0, 48, 154, 0, 7, 4, 167, 0, 4, 3, 172]
abbrev dktJ9_isEmpty_0 : List UInt8 := dkwJ9_isEmpty_0 ++ []
theorem dksJ9_isEmpty_0 : cJ9_isEmpty.data.toList.drop 0 = dktJ9_isEmpty_0 := by decide +kernel
theorem dJ9_isEmpty_0 : decode cJ9_isEmpty 0 = .ok (.aload_n 0, 1) := dk_42 (dk_at dksJ9_isEmpty_0 0 rfl rfl)
theorem dJ9_isEmpty_1 : decode cJ9_isEmpty 1 = .ok (.getfield 48, 3) := dk_180 0 48 (dk_at dksJ9_isEmpty_0 1 rfl rfl)
theorem dJ9_isEmpty_4 : decode cJ9_isEmpty 4 = .ok (.ifCond .ne 7, 3) := dk_154 0 7 (dk_at dksJ9_isEmpty_0 4 rfl rfl)
theorem dJ9_isEmpty_7 : decode cJ9_isEmpty 7 = .ok (.iconst 1, 1) := dk_4 (dk_at dksJ9_isEmpty_0 7 rfl rfl)
theorem dJ9_isEmpty_8 : decode cJ9_isEmpty 8 = .ok (.goto 4, 3) := dk_167 0 4 (dk_at dksJ9_isEmpty_0 8 rfl rfl)
theorem dJ9_isEmpty_11 : decode cJ9_isEmpty 11 = .ok (.iconst 0, 1) := dk_3 (dk_at dksJ9_isEmpty_0 11 rfl rfl)
theorem dJ9_isEmpty_12 : decode cJ9_isEmpty 12 = .ok (.ireturn, 1) := dk_172 (dk_at dksJ9_isEmpty_0 12 rfl rfl)
theorem dJ9_size_0 : decode cJ9_size 0 = .ok (.aload_n 0, 1) := by decide +kernel
theorem dJ9_size_1 : decode cJ9_size 1 = .ok (.getfield 48, 3) := by decide +kernel
theorem dJ9_size_4 : decode cJ9_size 4 = .ok (.ireturn, 1) := by decide +kernel
def dkwJ9_get_0 : List UInt8 := [27, 42, 180, 0, 48, 184, 0, 118, 87, 42, 27, 182, 0, 123, 176]
abbrev dktJ9_get_0 : List UInt8 := dkwJ9_get_0 ++ []
theorem dksJ9_get_0 : cJ9_get.data.toList.drop 0 = dktJ9_get_0 := by decide +kernel
theorem dJ9_get_0 : decode cJ9_get 0 = .ok (.iload_n 1, 1) := dk_27 (dk_at dksJ9_get_0 0 rfl rfl)
theorem dJ9_get_1 : decode cJ9_get 1 = .ok (.aload_n 0, 1) := dk_42 (dk_at dksJ9_get_0 1 rfl rfl)
theorem dJ9_get_2 : decode cJ9_get 2 = .ok (.getfield 48, 3) := dk_180 0 48 (dk_at dksJ9_get_0 2 rfl rfl)
theorem dJ9_get_5 : decode cJ9_get 5 = .ok (.invokestatic 118, 3) := dk_184 0 118 (dk_at dksJ9_get_0 5 rfl rfl)
theorem dJ9_get_8 : decode cJ9_get 8 = .ok (.pop, 1) := dk_87 (dk_at dksJ9_get_0 8 rfl rfl)
theorem dJ9_get_9 : decode cJ9_get 9 = .ok (.aload_n 0, 1) := dk_42 (dk_at dksJ9_get_0 9 rfl rfl)
theorem dJ9_get_10 : decode cJ9_get 10 = .ok (.iload_n 1, 1) := dk_27 (dk_at dksJ9_get_0 10 rfl rfl)
theorem dJ9_get_11 : decode cJ9_get 11 = .ok (.invokevirtual 123, 3) := dk_182 0 123 (dk_at dksJ9_get_0 11 rfl rfl)
theorem dJ9_get_14 : decode cJ9_get 14 = .ok (.areturn, 1) := dk_176 (dk_at dksJ9_get_0 14 rfl rfl)
def dkwJ9_elementData_0 : List UInt8 := [42, 180, 0, 9, 27, 50, 176]
abbrev dktJ9_elementData_0 : List UInt8 := dkwJ9_elementData_0 ++ []
theorem dksJ9_elementData_0 : cJ9_elementData.data.toList.drop 0 = dktJ9_elementData_0 := by decide +kernel
theorem dJ9_elementData_0 : decode cJ9_elementData 0 = .ok (.aload_n 0, 1) := dk_42 (dk_at dksJ9_elementData_0 0 rfl rfl)
theorem dJ9_elementData_1 : decode cJ9_elementData 1 = .ok (.getfield 9, 3) := dk_180 0 9 (dk_at dksJ9_elementData_0 1 rfl rfl)
theorem dJ9_elementData_4 : decode cJ9_elementData 4 = .ok (.iload_n 1, 1) := dk_27 (dk_at dksJ9_elementData_0 4 rfl rfl)
theorem dJ9_elementData_5 : decode cJ9_elementData 5 = .ok (.aaload, 1) := dk_50 (dk_at dksJ9_elementData_0 5 rfl rfl)
theorem dJ9_elementData_6 : decode cJ9_elementData 6 = .ok (.areturn, 1) := dk_176 (dk_at dksJ9_elementData_0 6 rfl rfl)
def dkwL_law_56 : List UInt8 := [4, 96, 46, 182, 0, 183, 159, 0, 5, 3, 172, 132, 3, 6, 167, 250, 83, 4, 172]
abbrev dktL_law_56 : List UInt8 := dkwL_law_56 ++ []
def dkwL_law_55 : List UInt8 := [182, 0, 176, 44, 182, 0, 179, 159, 0, 28, 3, 172, 43, 42, 29, 4, 96, 46, 182, 0, 180, 44, 42, 29]
abbrev dktL_law_55 : List UInt8 := dkwL_law_55 ++ dktL_law_56
def dkwL_law_54 : List UInt8 := [182, 0, 171, 159, 0, 54, 3, 172, 43, 182, 0, 172, 44, 182, 0, 175, 159, 0, 41, 3, 172, 43]
abbrev dktL_law_54 : List UInt8 := dkwL_law_54 ++ dktL_law_55
def dkwL_law_53 : List UInt8 := [29, 4, 96, 46, 42, 29, 5, 96, 46, 182, 0, 168, 44, 42, 29, 4, 96, 46, 42, 29, 5, 96, 46]
abbrev dktL_law_53 : List UInt8 := dkwL_law_53 ++ dktL_law_54
def dkwL_law_52 : List UInt8 := [182, 0, 164, 44, 42, 29, 4, 96, 46, 42, 29, 5, 96, 46, 182, 0, 167, 159, 0, 87, 3, 172, 43, 42]
abbrev dktL_law_52 : List UInt8 := dkwL_law_52 ++ dktL_law_53
def dkwL_law_51 : List UInt8 := [167, 0, 4, 3, 182, 0, 163, 159, 0, 120, 3, 172, 43, 42, 29, 4, 96, 46, 42, 29, 5, 96, 46]
abbrev dktL_law_51 : List UInt8 := dkwL_law_51 ++ dktL_law_52
def dkwL_law_50 : List UInt8 := [3, 182, 0, 160, 44, 42, 29, 4, 96, 46, 42, 29, 5, 96, 46, 42, 29, 6, 96, 46, 153, 0, 7, 4]
abbrev dktL_law_50 : List UInt8 := dkwL_law_50 ++ dktL_law_51
def dkwL_law_49 : List UInt8 := [172, 43, 42, 29, 4, 96, 46, 42, 29, 5, 96, 46, 42, 29, 6, 96, 46, 153, 0, 7, 4, 167, 0, 4]
abbrev dktL_law_49 : List UInt8 := dkwL_law_49 ++ dktL_law_50
def dkwL_law_48 : List UInt8 := [5, 96, 46, 182, 0, 156, 44, 42, 29, 4, 96, 46, 42, 29, 5, 96, 46, 182, 0, 159, 159, 0, 179, 3]
abbrev dktL_law_48 : List UInt8 := dkwL_law_48 ++ dktL_law_49
def dkwL_law_47 : List UInt8 := [153, 0, 7, 4, 167, 0, 4, 3, 182, 0, 155, 159, 0, 212, 3, 172, 43, 42, 29, 4, 96, 46, 42, 29]
abbrev dktL_law_47 : List UInt8 := dkwL_law_47 ++ dktL_law_48
def dkwL_law_46 : List UInt8 := [46, 153, 0, 7, 4, 167, 0, 4, 3, 182, 0, 151, 44, 42, 29, 4, 96, 46, 42, 29, 5, 96, 46]
abbrev dktL_law_46 : List UInt8 := dkwL_law_46 ++ dktL_law_47
def dkwL_law_45 : List UInt8 := [46, 42, 29, 5, 96, 46, 182, 0, 150, 159, 1, 5, 3, 172, 43, 42, 29, 4, 96, 46, 42, 29, 5, 96]
abbrev dktL_law_45 : List UInt8 := dkwL_law_45 ++ dktL_law_46
def dkwL_law_44 : List UInt8 := [159, 1, 38, 3, 172, 43, 42, 29, 4, 96, 46, 42, 29, 5, 96, 46, 182, 0, 147, 44, 42, 29, 4, 96]
abbrev dktL_law_44 : List UInt8 := dkwL_law_44 ++ dktL_law_45
def dkwL_law_43 : List UInt8 := [46, 42, 29, 5, 96, 46, 182, 0, 143, 44, 42, 29, 4, 96, 46, 42, 29, 5, 96, 46, 182, 0, 146]
abbrev dktL_law_43 : List UInt8 := dkwL_law_43 ++ dktL_law_44
def dkwL_law_42 : List UInt8 := [6, 96, 46, 153, 0, 7, 4, 167, 0, 4, 3, 182, 0, 142, 159, 1, 71, 3, 172, 43, 42, 29, 4, 96]
abbrev dktL_law_42 : List UInt8 := dkwL_law_42 ++ dktL_law_43
def dkwL_law_41 : List UInt8 := [153, 0, 7, 4, 167, 0, 4, 3, 182, 0, 138, 44, 42, 29, 4, 96, 46, 42, 29, 5, 96, 46, 42, 29]
abbrev dktL_law_41 : List UInt8 := dkwL_law_41 ++ dktL_law_42
def dkwL_law_40 : List UInt8 := [182, 0, 137, 159, 1, 130, 3, 172, 43, 42, 29, 4, 96, 46, 42, 29, 5, 96, 46, 42, 29, 6, 96, 46]
abbrev dktL_law_40 : List UInt8 := dkwL_law_40 ++ dktL_law_41
def dkwL_law_39 : List UInt8 := [29, 4, 96, 46, 42, 29, 5, 96, 46, 182, 0, 134, 44, 42, 29, 4, 96, 46, 42, 29, 5, 96, 46]
abbrev dktL_law_39 : List UInt8 := dkwL_law_39 ++ dktL_law_40
def dkwL_law_38 : List UInt8 := [42, 29, 4, 96, 46, 182, 0, 130, 44, 42, 29, 4, 96, 46, 182, 0, 133, 159, 1, 163, 3, 172, 43, 42]
abbrev dktL_law_38 : List UInt8 := dkwL_law_38 ++ dktL_law_39
def dkwL_law_37 : List UInt8 := [43, 42, 29, 4, 96, 46, 182, 0, 126, 44, 42, 29, 4, 96, 46, 182, 0, 129, 159, 1, 186, 3, 172, 43]
abbrev dktL_law_37 : List UInt8 := dkwL_law_37 ++ dktL_law_38
def dkwL_law_36 : List UInt8 := [6, 96, 46, 42, 29, 7, 96, 46, 153, 0, 7, 4, 167, 0, 4, 3, 182, 0, 125, 159, 1, 209, 3, 172]
abbrev dktL_law_36 : List UInt8 := dkwL_law_36 ++ dktL_law_37
def dkwL_law_35 : List UInt8 := [153, 0, 7, 4, 167, 0, 4, 3, 182, 0, 121, 44, 42, 29, 4, 96, 46, 42, 29, 5, 96, 46, 42, 29]
abbrev dktL_law_35 : List UInt8 := dkwL_law_35 ++ dktL_law_36
def dkwL_law_34 : List UInt8 := [172, 43, 42, 29, 4, 96, 46, 42, 29, 5, 96, 46, 42, 29, 6, 96, 46, 42, 29, 7, 96, 46]
abbrev dktL_law_34 : List UInt8 := dkwL_law_34 ++ dktL_law_35
def dkwL_law_33 : List UInt8 := [182, 0, 116, 44, 42, 29, 4, 96, 46, 153, 0, 7, 4, 167, 0, 4, 3, 182, 0, 120, 159, 2, 22, 3]
abbrev dktL_law_33 : List UInt8 := dkwL_law_33 ++ dktL_law_34
def dkwL_law_32 : List UInt8 := [182, 0, 115, 159, 2, 61, 3, 172, 43, 42, 29, 4, 96, 46, 153, 0, 7, 4, 167, 0, 4, 3]
abbrev dktL_law_32 : List UInt8 := dkwL_law_32 ++ dktL_law_33
def dkwL_law_31 : List UInt8 := [182, 0, 111, 159, 2, 84, 3, 172, 43, 42, 29, 4, 96, 46, 182, 0, 112, 44, 42, 29, 4, 96, 46]
abbrev dktL_law_31 : List UInt8 := dkwL_law_31 ++ dktL_law_32
def dkwL_law_30 : List UInt8 := [182, 0, 107, 159, 2, 107, 3, 172, 43, 42, 29, 4, 96, 46, 182, 0, 108, 44, 42, 29, 4, 96, 46]
abbrev dktL_law_30 : List UInt8 := dkwL_law_30 ++ dktL_law_31
def dkwL_law_29 : List UInt8 := [6, 96, 46, 182, 0, 104, 44, 42, 29, 4, 96, 46, 42, 29, 5, 96, 46, 42, 29, 6, 96, 46]
abbrev dktL_law_29 : List UInt8 := dkwL_law_29 ++ dktL_law_30
def dkwL_law_28 : List UInt8 := [5, 96, 46, 182, 0, 103, 159, 2, 150, 3, 172, 43, 42, 29, 4, 96, 46, 42, 29, 5, 96, 46, 42, 29]
abbrev dktL_law_28 : List UInt8 := dkwL_law_28 ++ dktL_law_29
def dkwL_law_27 : List UInt8 := [3, 172, 43, 42, 29, 4, 96, 46, 42, 29, 5, 96, 46, 182, 0, 100, 44, 42, 29, 4, 96, 46, 42, 29]
abbrev dktL_law_27 : List UInt8 := dkwL_law_27 ++ dktL_law_28
def dkwL_law_26 : List UInt8 := [29, 5, 96, 46, 182, 0, 96, 44, 42, 29, 4, 96, 46, 42, 29, 5, 96, 46, 182, 0, 99, 159, 2, 183]
abbrev dktL_law_26 : List UInt8 := dkwL_law_26 ++ dktL_law_27
def dkwL_law_25 : List UInt8 := [29, 4, 96, 46, 42, 29, 5, 96, 46, 182, 0, 95, 159, 2, 216, 3, 172, 43, 42, 29, 4, 96, 46, 42]
abbrev dktL_law_25 : List UInt8 := dkwL_law_25 ++ dktL_law_26
def dkwL_law_24 : List UInt8 := [182, 0, 91, 159, 2, 249, 3, 172, 43, 42, 29, 4, 96, 46, 42, 29, 5, 96, 46, 182, 0, 92, 44, 42]
abbrev dktL_law_24 : List UInt8 := dkwL_law_24 ++ dktL_law_25
def dkwL_law_23 : List UInt8 := [29, 4, 96, 46, 42, 29, 5, 96, 46, 182, 0, 88, 44, 42, 29, 4, 96, 46, 42, 29, 5, 96, 46]
abbrev dktL_law_23 : List UInt8 := dkwL_law_23 ++ dktL_law_24
def dkwL_law_22 : List UInt8 := [46, 182, 0, 83, 159, 3, 39, 3, 172, 43, 182, 0, 84, 44, 182, 0, 87, 159, 3, 26, 3, 172, 43, 42]
abbrev dktL_law_22 : List UInt8 := dkwL_law_22 ++ dktL_law_23
def dkwL_law_21 : List UInt8 := [43, 42, 29, 4, 96, 46, 42, 29, 5, 96, 46, 182, 0, 79, 44, 42, 29, 4, 96, 46, 42, 29, 5, 96]
abbrev dktL_law_21 : List UInt8 := dkwL_law_21 ++ dktL_law_22
def dkwL_law_20 : List UInt8 := [172, 43, 42, 29, 4, 96, 46, 182, 0, 75, 44, 42, 29, 4, 96, 46, 182, 0, 78, 159, 3, 72, 3, 172]
abbrev dktL_law_20 : List UInt8 := dkwL_law_20 ++ dktL_law_21
def dkwL_law_19 : List UInt8 := [3, 172, 43, 42, 29, 4, 96, 46, 182, 0, 71, 44, 42, 29, 4, 96, 46, 182, 0, 74, 159, 3, 95, 3]
abbrev dktL_law_19 : List UInt8 := dkwL_law_19 ++ dktL_law_20
def dkwL_law_18 : List UInt8 := [29, 5, 96, 46, 182, 0, 67, 44, 42, 29, 4, 96, 46, 42, 29, 5, 96, 46, 182, 0, 70, 159, 3, 118]
abbrev dktL_law_18 : List UInt8 := dkwL_law_18 ++ dktL_law_19
def dkwL_law_17 : List UInt8 := [29, 4, 96, 46, 42, 29, 5, 96, 46, 182, 0, 66, 159, 3, 151, 3, 172, 43, 42, 29, 4, 96, 46, 42]
abbrev dktL_law_17 : List UInt8 := dkwL_law_17 ++ dktL_law_18
def dkwL_law_16 : List UInt8 := [182, 0, 62, 159, 3, 184, 3, 172, 43, 42, 29, 4, 96, 46, 42, 29, 5, 96, 46, 182, 0, 63, 44, 42]
abbrev dktL_law_16 : List UInt8 := dkwL_law_16 ++ dktL_law_17
def dkwL_law_15 : List UInt8 := [182, 0, 58, 159, 3, 207, 3, 172, 43, 42, 29, 4, 96, 46, 182, 0, 59, 44, 42, 29, 4, 96, 46]
abbrev dktL_law_15 : List UInt8 := dkwL_law_15 ++ dktL_law_16
def dkwL_law_14 : List UInt8 := [182, 0, 54, 159, 3, 230, 3, 172, 43, 42, 29, 4, 96, 46, 182, 0, 55, 44, 42, 29, 4, 96, 46]
abbrev dktL_law_14 : List UInt8 := dkwL_law_14 ++ dktL_law_15
def dkwL_law_13 : List UInt8 := [182, 0, 50, 159, 3, 253, 3, 172, 43, 42, 29, 4, 96, 46, 182, 0, 51, 44, 42, 29, 4, 96, 46]
abbrev dktL_law_13 : List UInt8 := dkwL_law_13 ++ dktL_law_14
def dkwL_law_12 : List UInt8 := [182, 0, 45, 159, 4, 20, 3, 172, 43, 42, 29, 4, 96, 46, 182, 0, 46, 44, 42, 29, 4, 96, 46]
abbrev dktL_law_12 : List UInt8 := dkwL_law_12 ++ dktL_law_13
def dkwL_law_11 : List UInt8 := [182, 0, 41, 159, 4, 43, 3, 172, 43, 42, 29, 4, 96, 46, 182, 0, 42, 44, 42, 29, 4, 96, 46]
abbrev dktL_law_11 : List UInt8 := dkwL_law_11 ++ dktL_law_12
def dkwL_law_10 : List UInt8 := [96, 46, 182, 0, 33, 44, 42, 29, 4, 96, 46, 182, 0, 36, 159, 4, 56, 3, 172, 43, 182, 0, 37, 44]
abbrev dktL_law_10 : List UInt8 := dkwL_law_10 ++ dktL_law_11
def dkwL_law_9 : List UInt8 := [96, 46, 42, 29, 7, 96, 46, 42, 29, 8, 96, 46, 182, 0, 32, 159, 4, 79, 3, 172, 43, 42, 29, 4]
abbrev dktL_law_9 : List UInt8 := dkwL_law_9 ++ dktL_law_10
def dkwL_law_8 : List UInt8 := [96, 46, 42, 29, 8, 96, 46, 182, 0, 28, 44, 42, 29, 4, 96, 46, 42, 29, 5, 96, 46, 42, 29, 6]
abbrev dktL_law_8 : List UInt8 := dkwL_law_8 ++ dktL_law_9
def dkwL_law_7 : List UInt8 := [159, 4, 142, 3, 172, 43, 42, 29, 4, 96, 46, 42, 29, 5, 96, 46, 42, 29, 6, 96, 46, 42, 29, 7]
abbrev dktL_law_7 : List UInt8 := dkwL_law_7 ++ dktL_law_8
def dkwL_law_6 : List UInt8 := [159, 4, 165, 3, 172, 43, 42, 29, 4, 96, 46, 182, 0, 23, 44, 42, 29, 4, 96, 46, 182, 0, 27]
abbrev dktL_law_6 : List UInt8 := dkwL_law_6 ++ dktL_law_7
def dkwL_law_5 : List UInt8 := [46, 182, 0, 18, 44, 42, 29, 4, 96, 46, 42, 29, 5, 96, 46, 42, 29, 6, 96, 46, 182, 0, 22]
abbrev dktL_law_5 : List UInt8 := dkwL_law_5 ++ dktL_law_6
def dkwL_law_4 : List UInt8 := [46, 182, 0, 17, 159, 4, 208, 3, 172, 43, 42, 29, 4, 96, 46, 42, 29, 5, 96, 46, 42, 29, 6, 96]
abbrev dktL_law_4 : List UInt8 := dkwL_law_4 ++ dktL_law_5
def dkwL_law_3 : List UInt8 := [43, 42, 29, 4, 96, 46, 42, 29, 5, 96, 46, 182, 0, 13, 44, 42, 29, 4, 96, 46, 42, 29, 5, 96]
abbrev dktL_law_3 : List UInt8 := dkwL_law_3 ++ dktL_law_4
def dkwL_law_2 : List UInt8 := [170, 0, 0, 0, 0, 5, 155, 0, 0, 0, 0, 0, 0, 0, 39, 0, 0, 0, 175, 0, 0, 0, 208, 0, 0, 0, 251, 0, 0, 1, 18, 0, 0, 1, 81, 0, 0, 1, 104, 0, 0, 1, 117, 0, 0, 1, 140, 0, 0, 1, 163, 0, 0, 1, 186, 0, 0, 1, 209, 0, 0, 1, 232, 0, 0, 2, 9, 0, 0, 2, 42, 0, 0, 2, 65, 0, 0, 2, 88, 0, 0, 2, 121, 0, 0, 2, 134, 0, 0, 2, 167, 0, 0, 2, 200, 0, 0, 2, 233, 0, 0, 3, 10, 0, 0, 3, 53, 0, 0, 3, 76, 0, 0, 3, 99, 0, 0, 3, 138, 0, 0, 3, 207, 0, 0, 3, 230, 0, 0, 3, 253, 0, 0, 4, 30, 0, 0, 4, 89, 0, 0, 4, 122, 0, 0, 4, 155, 0, 0, 4, 204, 0, 0, 4, 237, 0, 0, 5, 40, 0, 0, 5, 73, 0, 0, 5, 106, 0, 0, 5, 119, 0, 0, 5, 132]
abbrev dktL_law_2 : List UInt8 := dkwL_law_2 ++ dktL_law_3
def dkwL_law_1 : List UInt8 := [163, 5, 170, 42, 29, 46, 16, 63, 126]
abbrev dktL_law_1 : List UInt8 := dkwL_law_1 ++ dktL_law_2
def dkwL_law_0 : List UInt8 := [187, 0, 7, 89, 183, 0, 9, 76, 187, 0, 10, 89, 183, 0, 12, 77, 3, 62, 29, 42, 190, 16, 6, 100]
abbrev dktL_law_0 : List UInt8 := dkwL_law_0 ++ dktL_law_1
theorem dksL_law_0 : cL_law.data.toList.drop 0 = dktL_law_0 := by decide +kernel
theorem dksL_law_1 : cL_law.data.toList.drop 24 = dktL_law_1 := dk_seg dksL_law_0 24 rfl rfl
theorem dksL_law_2 : cL_law.data.toList.drop 33 = dktL_law_2 := dk_seg dksL_law_1 9 rfl rfl
theorem dksL_law_3 : cL_law.data.toList.drop 208 = dktL_law_3 := dk_seg dksL_law_2 175 rfl rfl
theorem dksL_law_4 : cL_law.data.toList.drop 232 = dktL_law_4 := dk_seg dksL_law_3 24 rfl rfl
theorem dksL_law_5 : cL_law.data.toList.drop 256 = dktL_law_5 := dk_seg dksL_law_4 24 rfl rfl
theorem dksL_law_6 : cL_law.data.toList.drop 279 = dktL_law_6 := dk_seg dksL_law_5 23 rfl rfl
theorem dksL_law_7 : cL_law.data.toList.drop 302 = dktL_law_7 := dk_seg dksL_law_6 23 rfl rfl
theorem dksL_law_8 : cL_law.data.toList.drop 326 = dktL_law_8 := dk_seg dksL_law_7 24 rfl rfl
theorem dksL_law_9 : cL_law.data.toList.drop 350 = dktL_law_9 := dk_seg dksL_law_8 24 rfl rfl
theorem dksL_law_10 : cL_law.data.toList.drop 374 = dktL_law_10 := dk_seg dksL_law_9 24 rfl rfl
theorem dksL_law_11 : cL_law.data.toList.drop 398 = dktL_law_11 := dk_seg dksL_law_10 24 rfl rfl
theorem dksL_law_12 : cL_law.data.toList.drop 421 = dktL_law_12 := dk_seg dksL_law_11 23 rfl rfl
theorem dksL_law_13 : cL_law.data.toList.drop 444 = dktL_law_13 := dk_seg dksL_law_12 23 rfl rfl
theorem dksL_law_14 : cL_law.data.toList.drop 467 = dktL_law_14 := dk_seg dksL_law_13 23 rfl rfl
theorem dksL_law_15 : cL_law.data.toList.drop 490 = dktL_law_15 := dk_seg dksL_law_14 23 rfl rfl
theorem dksL_law_16 : cL_law.data.toList.drop 513 = dktL_law_16 := dk_seg dksL_law_15 23 rfl rfl
theorem dksL_law_17 : cL_law.data.toList.drop 537 = dktL_law_17 := dk_seg dksL_law_16 24 rfl rfl
theorem dksL_law_18 : cL_law.data.toList.drop 561 = dktL_law_18 := dk_seg dksL_law_17 24 rfl rfl
theorem dksL_law_19 : cL_law.data.toList.drop 585 = dktL_law_19 := dk_seg dksL_law_18 24 rfl rfl
theorem dksL_law_20 : cL_law.data.toList.drop 609 = dktL_law_20 := dk_seg dksL_law_19 24 rfl rfl
theorem dksL_law_21 : cL_law.data.toList.drop 633 = dktL_law_21 := dk_seg dksL_law_20 24 rfl rfl
theorem dksL_law_22 : cL_law.data.toList.drop 657 = dktL_law_22 := dk_seg dksL_law_21 24 rfl rfl
theorem dksL_law_23 : cL_law.data.toList.drop 681 = dktL_law_23 := dk_seg dksL_law_22 24 rfl rfl
theorem dksL_law_24 : cL_law.data.toList.drop 704 = dktL_law_24 := dk_seg dksL_law_23 23 rfl rfl
theorem dksL_law_25 : cL_law.data.toList.drop 728 = dktL_law_25 := dk_seg dksL_law_24 24 rfl rfl
theorem dksL_law_26 : cL_law.data.toList.drop 752 = dktL_law_26 := dk_seg dksL_law_25 24 rfl rfl
theorem dksL_law_27 : cL_law.data.toList.drop 776 = dktL_law_27 := dk_seg dksL_law_26 24 rfl rfl
theorem dksL_law_28 : cL_law.data.toList.drop 800 = dktL_law_28 := dk_seg dksL_law_27 24 rfl rfl
theorem dksL_law_29 : cL_law.data.toList.drop 824 = dktL_law_29 := dk_seg dksL_law_28 24 rfl rfl
theorem dksL_law_30 : cL_law.data.toList.drop 846 = dktL_law_30 := dk_seg dksL_law_29 22 rfl rfl
theorem dksL_law_31 : cL_law.data.toList.drop 869 = dktL_law_31 := dk_seg dksL_law_30 23 rfl rfl
theorem dksL_law_32 : cL_law.data.toList.drop 892 = dktL_law_32 := dk_seg dksL_law_31 23 rfl rfl
theorem dksL_law_33 : cL_law.data.toList.drop 914 = dktL_law_33 := dk_seg dksL_law_32 22 rfl rfl
theorem dksL_law_34 : cL_law.data.toList.drop 938 = dktL_law_34 := dk_seg dksL_law_33 24 rfl rfl
theorem dksL_law_35 : cL_law.data.toList.drop 960 = dktL_law_35 := dk_seg dksL_law_34 22 rfl rfl
theorem dksL_law_36 : cL_law.data.toList.drop 984 = dktL_law_36 := dk_seg dksL_law_35 24 rfl rfl
theorem dksL_law_37 : cL_law.data.toList.drop 1008 = dktL_law_37 := dk_seg dksL_law_36 24 rfl rfl
theorem dksL_law_38 : cL_law.data.toList.drop 1032 = dktL_law_38 := dk_seg dksL_law_37 24 rfl rfl
theorem dksL_law_39 : cL_law.data.toList.drop 1056 = dktL_law_39 := dk_seg dksL_law_38 24 rfl rfl
theorem dksL_law_40 : cL_law.data.toList.drop 1079 = dktL_law_40 := dk_seg dksL_law_39 23 rfl rfl
theorem dksL_law_41 : cL_law.data.toList.drop 1103 = dktL_law_41 := dk_seg dksL_law_40 24 rfl rfl
theorem dksL_law_42 : cL_law.data.toList.drop 1127 = dktL_law_42 := dk_seg dksL_law_41 24 rfl rfl
theorem dksL_law_43 : cL_law.data.toList.drop 1151 = dktL_law_43 := dk_seg dksL_law_42 24 rfl rfl
theorem dksL_law_44 : cL_law.data.toList.drop 1174 = dktL_law_44 := dk_seg dksL_law_43 23 rfl rfl
theorem dksL_law_45 : cL_law.data.toList.drop 1198 = dktL_law_45 := dk_seg dksL_law_44 24 rfl rfl
theorem dksL_law_46 : cL_law.data.toList.drop 1222 = dktL_law_46 := dk_seg dksL_law_45 24 rfl rfl
theorem dksL_law_47 : cL_law.data.toList.drop 1245 = dktL_law_47 := dk_seg dksL_law_46 23 rfl rfl
theorem dksL_law_48 : cL_law.data.toList.drop 1269 = dktL_law_48 := dk_seg dksL_law_47 24 rfl rfl
theorem dksL_law_49 : cL_law.data.toList.drop 1293 = dktL_law_49 := dk_seg dksL_law_48 24 rfl rfl
theorem dksL_law_50 : cL_law.data.toList.drop 1317 = dktL_law_50 := dk_seg dksL_law_49 24 rfl rfl
theorem dksL_law_51 : cL_law.data.toList.drop 1341 = dktL_law_51 := dk_seg dksL_law_50 24 rfl rfl
theorem dksL_law_52 : cL_law.data.toList.drop 1364 = dktL_law_52 := dk_seg dksL_law_51 23 rfl rfl
theorem dksL_law_53 : cL_law.data.toList.drop 1388 = dktL_law_53 := dk_seg dksL_law_52 24 rfl rfl
theorem dksL_law_54 : cL_law.data.toList.drop 1411 = dktL_law_54 := dk_seg dksL_law_53 23 rfl rfl
theorem dksL_law_55 : cL_law.data.toList.drop 1433 = dktL_law_55 := dk_seg dksL_law_54 22 rfl rfl
theorem dksL_law_56 : cL_law.data.toList.drop 1457 = dktL_law_56 := dk_seg dksL_law_55 24 rfl rfl
theorem dL_law_0 : decode cL_law 0 = .ok (.new 7, 3) := dk_187 0 7 (dk_at dksL_law_0 0 rfl rfl)
theorem dL_law_3 : decode cL_law 3 = .ok (.dup, 1) := dk_89 (dk_at dksL_law_0 3 rfl rfl)
theorem dL_law_4 : decode cL_law 4 = .ok (.invokespecial 9, 3) := dk_183 0 9 (dk_at dksL_law_0 4 rfl rfl)
theorem dL_law_7 : decode cL_law 7 = .ok (.astore_n 1, 1) := dk_76 (dk_at dksL_law_0 7 rfl rfl)
theorem dL_law_8 : decode cL_law 8 = .ok (.new 10, 3) := dk_187 0 10 (dk_at dksL_law_0 8 rfl rfl)
theorem dL_law_11 : decode cL_law 11 = .ok (.dup, 1) := dk_89 (dk_at dksL_law_0 11 rfl rfl)
theorem dL_law_12 : decode cL_law 12 = .ok (.invokespecial 12, 3) := dk_183 0 12 (dk_at dksL_law_0 12 rfl rfl)
theorem dL_law_15 : decode cL_law 15 = .ok (.astore_n 2, 1) := dk_77 (dk_at dksL_law_0 15 rfl rfl)
theorem dL_law_16 : decode cL_law 16 = .ok (.iconst 0, 1) := dk_3 (dk_at dksL_law_0 16 rfl rfl)
theorem dL_law_17 : decode cL_law 17 = .ok (.istore_n 3, 1) := dk_62 (dk_at dksL_law_0 17 rfl rfl)
theorem dL_law_18 : decode cL_law 18 = .ok (.iload_n 3, 1) := dk_29 (dk_at dksL_law_0 18 rfl rfl)
theorem dL_law_19 : decode cL_law 19 = .ok (.aload_n 0, 1) := dk_42 (dk_at dksL_law_0 19 rfl rfl)
theorem dL_law_20 : decode cL_law 20 = .ok (.arraylength, 1) := dk_190 (dk_at dksL_law_0 20 rfl rfl)
theorem dL_law_21 : decode cL_law 21 = .ok (.bipush 6, 2) := dk_16 6 (dk_at dksL_law_0 21 rfl rfl)
theorem dL_law_23 : decode cL_law 23 = .ok (.isub, 1) := dk_100 (dk_at dksL_law_0 23 rfl rfl)
theorem dL_law_24 : decode cL_law 24 = .ok (.if_icmp .gt 1450, 3) := dk_163 5 170 (dk_at dksL_law_1 0 rfl rfl)
theorem dL_law_27 : decode cL_law 27 = .ok (.aload_n 0, 1) := dk_42 (dk_at dksL_law_1 3 rfl rfl)
theorem dL_law_28 : decode cL_law 28 = .ok (.iload_n 3, 1) := dk_29 (dk_at dksL_law_1 4 rfl rfl)
theorem dL_law_29 : decode cL_law 29 = .ok (.iaload, 1) := dk_46 (dk_at dksL_law_1 5 rfl rfl)
theorem dL_law_30 : decode cL_law 30 = .ok (.bipush 63, 2) := dk_16 63 (dk_at dksL_law_1 6 rfl rfl)
theorem dL_law_32 : decode cL_law 32 = .ok (.iand, 1) := dk_126 (dk_at dksL_law_1 8 rfl rfl)
theorem dL_law_33 : decode cL_law 33 = .ok (.tableswitch 1435 0 39 #[175, 208, 251, 274, 337, 360, 373, 396, 419, 442, 465, 488, 521, 554, 577, 600, 633, 646, 679, 712, 745, 778, 821, 844, 867, 906, 975, 998, 1021, 1054, 1113, 1146, 1179, 1228, 1261, 1320, 1353, 1386, 1399, 1412], 175) := by decide +kernel
theorem dL_law_208 : decode cL_law 208 = .ok (.aload_n 1, 1) := dk_43 (dk_at dksL_law_3 0 rfl rfl)
theorem dL_law_209 : decode cL_law 209 = .ok (.aload_n 0, 1) := dk_42 (dk_at dksL_law_3 1 rfl rfl)
theorem dL_law_210 : decode cL_law 210 = .ok (.iload_n 3, 1) := dk_29 (dk_at dksL_law_3 2 rfl rfl)
theorem dL_law_211 : decode cL_law 211 = .ok (.iconst 1, 1) := dk_4 (dk_at dksL_law_3 3 rfl rfl)
theorem dL_law_212 : decode cL_law 212 = .ok (.iadd, 1) := dk_96 (dk_at dksL_law_3 4 rfl rfl)
theorem dL_law_213 : decode cL_law 213 = .ok (.iaload, 1) := dk_46 (dk_at dksL_law_3 5 rfl rfl)
theorem dL_law_214 : decode cL_law 214 = .ok (.aload_n 0, 1) := dk_42 (dk_at dksL_law_3 6 rfl rfl)
theorem dL_law_215 : decode cL_law 215 = .ok (.iload_n 3, 1) := dk_29 (dk_at dksL_law_3 7 rfl rfl)
theorem dL_law_216 : decode cL_law 216 = .ok (.iconst 2, 1) := dk_5 (dk_at dksL_law_3 8 rfl rfl)
theorem dL_law_217 : decode cL_law 217 = .ok (.iadd, 1) := dk_96 (dk_at dksL_law_3 9 rfl rfl)
theorem dL_law_218 : decode cL_law 218 = .ok (.iaload, 1) := dk_46 (dk_at dksL_law_3 10 rfl rfl)
theorem dL_law_219 : decode cL_law 219 = .ok (.invokevirtual 13, 3) := dk_182 0 13 (dk_at dksL_law_3 11 rfl rfl)
theorem dL_law_222 : decode cL_law 222 = .ok (.aload_n 2, 1) := dk_44 (dk_at dksL_law_3 14 rfl rfl)
theorem dL_law_223 : decode cL_law 223 = .ok (.aload_n 0, 1) := dk_42 (dk_at dksL_law_3 15 rfl rfl)
theorem dL_law_224 : decode cL_law 224 = .ok (.iload_n 3, 1) := dk_29 (dk_at dksL_law_3 16 rfl rfl)
theorem dL_law_225 : decode cL_law 225 = .ok (.iconst 1, 1) := dk_4 (dk_at dksL_law_3 17 rfl rfl)
theorem dL_law_226 : decode cL_law 226 = .ok (.iadd, 1) := dk_96 (dk_at dksL_law_3 18 rfl rfl)
theorem dL_law_227 : decode cL_law 227 = .ok (.iaload, 1) := dk_46 (dk_at dksL_law_3 19 rfl rfl)
theorem dL_law_228 : decode cL_law 228 = .ok (.aload_n 0, 1) := dk_42 (dk_at dksL_law_3 20 rfl rfl)
theorem dL_law_229 : decode cL_law 229 = .ok (.iload_n 3, 1) := dk_29 (dk_at dksL_law_3 21 rfl rfl)
theorem dL_law_230 : decode cL_law 230 = .ok (.iconst 2, 1) := dk_5 (dk_at dksL_law_3 22 rfl rfl)
theorem dL_law_231 : decode cL_law 231 = .ok (.iadd, 1) := dk_96 (dk_at dksL_law_3 23 rfl rfl)
theorem dL_law_232 : decode cL_law 232 = .ok (.iaload, 1) := dk_46 (dk_at dksL_law_4 0 rfl rfl)
theorem dL_law_233 : decode cL_law 233 = .ok (.invokevirtual 17, 3) := dk_182 0 17 (dk_at dksL_law_4 1 rfl rfl)
theorem dL_law_236 : decode cL_law 236 = .ok (.if_icmp .eq 1232, 3) := dk_159 4 208 (dk_at dksL_law_4 4 rfl rfl)
theorem dL_law_239 : decode cL_law 239 = .ok (.iconst 0, 1) := dk_3 (dk_at dksL_law_4 7 rfl rfl)
theorem dL_law_240 : decode cL_law 240 = .ok (.ireturn, 1) := dk_172 (dk_at dksL_law_4 8 rfl rfl)
theorem dL_law_241 : decode cL_law 241 = .ok (.aload_n 1, 1) := dk_43 (dk_at dksL_law_4 9 rfl rfl)
theorem dL_law_242 : decode cL_law 242 = .ok (.aload_n 0, 1) := dk_42 (dk_at dksL_law_4 10 rfl rfl)
theorem dL_law_243 : decode cL_law 243 = .ok (.iload_n 3, 1) := dk_29 (dk_at dksL_law_4 11 rfl rfl)
theorem dL_law_244 : decode cL_law 244 = .ok (.iconst 1, 1) := dk_4 (dk_at dksL_law_4 12 rfl rfl)
theorem dL_law_245 : decode cL_law 245 = .ok (.iadd, 1) := dk_96 (dk_at dksL_law_4 13 rfl rfl)
theorem dL_law_246 : decode cL_law 246 = .ok (.iaload, 1) := dk_46 (dk_at dksL_law_4 14 rfl rfl)
theorem dL_law_247 : decode cL_law 247 = .ok (.aload_n 0, 1) := dk_42 (dk_at dksL_law_4 15 rfl rfl)
theorem dL_law_248 : decode cL_law 248 = .ok (.iload_n 3, 1) := dk_29 (dk_at dksL_law_4 16 rfl rfl)
theorem dL_law_249 : decode cL_law 249 = .ok (.iconst 2, 1) := dk_5 (dk_at dksL_law_4 17 rfl rfl)
theorem dL_law_250 : decode cL_law 250 = .ok (.iadd, 1) := dk_96 (dk_at dksL_law_4 18 rfl rfl)
theorem dL_law_251 : decode cL_law 251 = .ok (.iaload, 1) := dk_46 (dk_at dksL_law_4 19 rfl rfl)
theorem dL_law_252 : decode cL_law 252 = .ok (.aload_n 0, 1) := dk_42 (dk_at dksL_law_4 20 rfl rfl)
theorem dL_law_253 : decode cL_law 253 = .ok (.iload_n 3, 1) := dk_29 (dk_at dksL_law_4 21 rfl rfl)
theorem dL_law_254 : decode cL_law 254 = .ok (.iconst 3, 1) := dk_6 (dk_at dksL_law_4 22 rfl rfl)
theorem dL_law_255 : decode cL_law 255 = .ok (.iadd, 1) := dk_96 (dk_at dksL_law_4 23 rfl rfl)
theorem dL_law_256 : decode cL_law 256 = .ok (.iaload, 1) := dk_46 (dk_at dksL_law_5 0 rfl rfl)
theorem dL_law_257 : decode cL_law 257 = .ok (.invokevirtual 18, 3) := dk_182 0 18 (dk_at dksL_law_5 1 rfl rfl)
theorem dL_law_260 : decode cL_law 260 = .ok (.aload_n 2, 1) := dk_44 (dk_at dksL_law_5 4 rfl rfl)
theorem dL_law_261 : decode cL_law 261 = .ok (.aload_n 0, 1) := dk_42 (dk_at dksL_law_5 5 rfl rfl)
theorem dL_law_262 : decode cL_law 262 = .ok (.iload_n 3, 1) := dk_29 (dk_at dksL_law_5 6 rfl rfl)
theorem dL_law_263 : decode cL_law 263 = .ok (.iconst 1, 1) := dk_4 (dk_at dksL_law_5 7 rfl rfl)
theorem dL_law_264 : decode cL_law 264 = .ok (.iadd, 1) := dk_96 (dk_at dksL_law_5 8 rfl rfl)
theorem dL_law_265 : decode cL_law 265 = .ok (.iaload, 1) := dk_46 (dk_at dksL_law_5 9 rfl rfl)
theorem dL_law_266 : decode cL_law 266 = .ok (.aload_n 0, 1) := dk_42 (dk_at dksL_law_5 10 rfl rfl)
theorem dL_law_267 : decode cL_law 267 = .ok (.iload_n 3, 1) := dk_29 (dk_at dksL_law_5 11 rfl rfl)
theorem dL_law_268 : decode cL_law 268 = .ok (.iconst 2, 1) := dk_5 (dk_at dksL_law_5 12 rfl rfl)
theorem dL_law_269 : decode cL_law 269 = .ok (.iadd, 1) := dk_96 (dk_at dksL_law_5 13 rfl rfl)
theorem dL_law_270 : decode cL_law 270 = .ok (.iaload, 1) := dk_46 (dk_at dksL_law_5 14 rfl rfl)
theorem dL_law_271 : decode cL_law 271 = .ok (.aload_n 0, 1) := dk_42 (dk_at dksL_law_5 15 rfl rfl)
theorem dL_law_272 : decode cL_law 272 = .ok (.iload_n 3, 1) := dk_29 (dk_at dksL_law_5 16 rfl rfl)
theorem dL_law_273 : decode cL_law 273 = .ok (.iconst 3, 1) := dk_6 (dk_at dksL_law_5 17 rfl rfl)
theorem dL_law_274 : decode cL_law 274 = .ok (.iadd, 1) := dk_96 (dk_at dksL_law_5 18 rfl rfl)
theorem dL_law_275 : decode cL_law 275 = .ok (.iaload, 1) := dk_46 (dk_at dksL_law_5 19 rfl rfl)
theorem dL_law_276 : decode cL_law 276 = .ok (.invokevirtual 22, 3) := dk_182 0 22 (dk_at dksL_law_5 20 rfl rfl)
theorem dL_law_279 : decode cL_law 279 = .ok (.if_icmp .eq 1189, 3) := dk_159 4 165 (dk_at dksL_law_6 0 rfl rfl)
theorem dL_law_282 : decode cL_law 282 = .ok (.iconst 0, 1) := dk_3 (dk_at dksL_law_6 3 rfl rfl)
theorem dL_law_283 : decode cL_law 283 = .ok (.ireturn, 1) := dk_172 (dk_at dksL_law_6 4 rfl rfl)
theorem dL_law_284 : decode cL_law 284 = .ok (.aload_n 1, 1) := dk_43 (dk_at dksL_law_6 5 rfl rfl)
theorem dL_law_285 : decode cL_law 285 = .ok (.aload_n 0, 1) := dk_42 (dk_at dksL_law_6 6 rfl rfl)
theorem dL_law_286 : decode cL_law 286 = .ok (.iload_n 3, 1) := dk_29 (dk_at dksL_law_6 7 rfl rfl)
theorem dL_law_287 : decode cL_law 287 = .ok (.iconst 1, 1) := dk_4 (dk_at dksL_law_6 8 rfl rfl)
theorem dL_law_288 : decode cL_law 288 = .ok (.iadd, 1) := dk_96 (dk_at dksL_law_6 9 rfl rfl)
theorem dL_law_289 : decode cL_law 289 = .ok (.iaload, 1) := dk_46 (dk_at dksL_law_6 10 rfl rfl)
theorem dL_law_290 : decode cL_law 290 = .ok (.invokevirtual 23, 3) := dk_182 0 23 (dk_at dksL_law_6 11 rfl rfl)
theorem dL_law_293 : decode cL_law 293 = .ok (.aload_n 2, 1) := dk_44 (dk_at dksL_law_6 14 rfl rfl)
theorem dL_law_294 : decode cL_law 294 = .ok (.aload_n 0, 1) := dk_42 (dk_at dksL_law_6 15 rfl rfl)
theorem dL_law_295 : decode cL_law 295 = .ok (.iload_n 3, 1) := dk_29 (dk_at dksL_law_6 16 rfl rfl)
theorem dL_law_296 : decode cL_law 296 = .ok (.iconst 1, 1) := dk_4 (dk_at dksL_law_6 17 rfl rfl)
theorem dL_law_297 : decode cL_law 297 = .ok (.iadd, 1) := dk_96 (dk_at dksL_law_6 18 rfl rfl)
theorem dL_law_298 : decode cL_law 298 = .ok (.iaload, 1) := dk_46 (dk_at dksL_law_6 19 rfl rfl)
theorem dL_law_299 : decode cL_law 299 = .ok (.invokevirtual 27, 3) := dk_182 0 27 (dk_at dksL_law_6 20 rfl rfl)
theorem dL_law_302 : decode cL_law 302 = .ok (.if_icmp .eq 1166, 3) := dk_159 4 142 (dk_at dksL_law_7 0 rfl rfl)
theorem dL_law_305 : decode cL_law 305 = .ok (.iconst 0, 1) := dk_3 (dk_at dksL_law_7 3 rfl rfl)
theorem dL_law_306 : decode cL_law 306 = .ok (.ireturn, 1) := dk_172 (dk_at dksL_law_7 4 rfl rfl)
theorem dL_law_307 : decode cL_law 307 = .ok (.aload_n 1, 1) := dk_43 (dk_at dksL_law_7 5 rfl rfl)
theorem dL_law_308 : decode cL_law 308 = .ok (.aload_n 0, 1) := dk_42 (dk_at dksL_law_7 6 rfl rfl)
theorem dL_law_309 : decode cL_law 309 = .ok (.iload_n 3, 1) := dk_29 (dk_at dksL_law_7 7 rfl rfl)
theorem dL_law_310 : decode cL_law 310 = .ok (.iconst 1, 1) := dk_4 (dk_at dksL_law_7 8 rfl rfl)
theorem dL_law_311 : decode cL_law 311 = .ok (.iadd, 1) := dk_96 (dk_at dksL_law_7 9 rfl rfl)
theorem dL_law_312 : decode cL_law 312 = .ok (.iaload, 1) := dk_46 (dk_at dksL_law_7 10 rfl rfl)
theorem dL_law_313 : decode cL_law 313 = .ok (.aload_n 0, 1) := dk_42 (dk_at dksL_law_7 11 rfl rfl)
theorem dL_law_314 : decode cL_law 314 = .ok (.iload_n 3, 1) := dk_29 (dk_at dksL_law_7 12 rfl rfl)
theorem dL_law_315 : decode cL_law 315 = .ok (.iconst 2, 1) := dk_5 (dk_at dksL_law_7 13 rfl rfl)
theorem dL_law_316 : decode cL_law 316 = .ok (.iadd, 1) := dk_96 (dk_at dksL_law_7 14 rfl rfl)
theorem dL_law_317 : decode cL_law 317 = .ok (.iaload, 1) := dk_46 (dk_at dksL_law_7 15 rfl rfl)
theorem dL_law_318 : decode cL_law 318 = .ok (.aload_n 0, 1) := dk_42 (dk_at dksL_law_7 16 rfl rfl)
theorem dL_law_319 : decode cL_law 319 = .ok (.iload_n 3, 1) := dk_29 (dk_at dksL_law_7 17 rfl rfl)
theorem dL_law_320 : decode cL_law 320 = .ok (.iconst 3, 1) := dk_6 (dk_at dksL_law_7 18 rfl rfl)
theorem dL_law_321 : decode cL_law 321 = .ok (.iadd, 1) := dk_96 (dk_at dksL_law_7 19 rfl rfl)
theorem dL_law_322 : decode cL_law 322 = .ok (.iaload, 1) := dk_46 (dk_at dksL_law_7 20 rfl rfl)
theorem dL_law_323 : decode cL_law 323 = .ok (.aload_n 0, 1) := dk_42 (dk_at dksL_law_7 21 rfl rfl)
theorem dL_law_324 : decode cL_law 324 = .ok (.iload_n 3, 1) := dk_29 (dk_at dksL_law_7 22 rfl rfl)
theorem dL_law_325 : decode cL_law 325 = .ok (.iconst 4, 1) := dk_7 (dk_at dksL_law_7 23 rfl rfl)
theorem dL_law_326 : decode cL_law 326 = .ok (.iadd, 1) := dk_96 (dk_at dksL_law_8 0 rfl rfl)
theorem dL_law_327 : decode cL_law 327 = .ok (.iaload, 1) := dk_46 (dk_at dksL_law_8 1 rfl rfl)
theorem dL_law_328 : decode cL_law 328 = .ok (.aload_n 0, 1) := dk_42 (dk_at dksL_law_8 2 rfl rfl)
theorem dL_law_329 : decode cL_law 329 = .ok (.iload_n 3, 1) := dk_29 (dk_at dksL_law_8 3 rfl rfl)
theorem dL_law_330 : decode cL_law 330 = .ok (.iconst 5, 1) := dk_8 (dk_at dksL_law_8 4 rfl rfl)
theorem dL_law_331 : decode cL_law 331 = .ok (.iadd, 1) := dk_96 (dk_at dksL_law_8 5 rfl rfl)
theorem dL_law_332 : decode cL_law 332 = .ok (.iaload, 1) := dk_46 (dk_at dksL_law_8 6 rfl rfl)
theorem dL_law_333 : decode cL_law 333 = .ok (.invokevirtual 28, 3) := dk_182 0 28 (dk_at dksL_law_8 7 rfl rfl)
theorem dL_law_336 : decode cL_law 336 = .ok (.aload_n 2, 1) := dk_44 (dk_at dksL_law_8 10 rfl rfl)
theorem dL_law_337 : decode cL_law 337 = .ok (.aload_n 0, 1) := dk_42 (dk_at dksL_law_8 11 rfl rfl)
theorem dL_law_338 : decode cL_law 338 = .ok (.iload_n 3, 1) := dk_29 (dk_at dksL_law_8 12 rfl rfl)
theorem dL_law_339 : decode cL_law 339 = .ok (.iconst 1, 1) := dk_4 (dk_at dksL_law_8 13 rfl rfl)
theorem dL_law_340 : decode cL_law 340 = .ok (.iadd, 1) := dk_96 (dk_at dksL_law_8 14 rfl rfl)
theorem dL_law_341 : decode cL_law 341 = .ok (.iaload, 1) := dk_46 (dk_at dksL_law_8 15 rfl rfl)
theorem dL_law_342 : decode cL_law 342 = .ok (.aload_n 0, 1) := dk_42 (dk_at dksL_law_8 16 rfl rfl)
theorem dL_law_343 : decode cL_law 343 = .ok (.iload_n 3, 1) := dk_29 (dk_at dksL_law_8 17 rfl rfl)
theorem dL_law_344 : decode cL_law 344 = .ok (.iconst 2, 1) := dk_5 (dk_at dksL_law_8 18 rfl rfl)
theorem dL_law_345 : decode cL_law 345 = .ok (.iadd, 1) := dk_96 (dk_at dksL_law_8 19 rfl rfl)
theorem dL_law_346 : decode cL_law 346 = .ok (.iaload, 1) := dk_46 (dk_at dksL_law_8 20 rfl rfl)
theorem dL_law_347 : decode cL_law 347 = .ok (.aload_n 0, 1) := dk_42 (dk_at dksL_law_8 21 rfl rfl)
theorem dL_law_348 : decode cL_law 348 = .ok (.iload_n 3, 1) := dk_29 (dk_at dksL_law_8 22 rfl rfl)
theorem dL_law_349 : decode cL_law 349 = .ok (.iconst 3, 1) := dk_6 (dk_at dksL_law_8 23 rfl rfl)
theorem dL_law_350 : decode cL_law 350 = .ok (.iadd, 1) := dk_96 (dk_at dksL_law_9 0 rfl rfl)
theorem dL_law_351 : decode cL_law 351 = .ok (.iaload, 1) := dk_46 (dk_at dksL_law_9 1 rfl rfl)
theorem dL_law_352 : decode cL_law 352 = .ok (.aload_n 0, 1) := dk_42 (dk_at dksL_law_9 2 rfl rfl)
theorem dL_law_353 : decode cL_law 353 = .ok (.iload_n 3, 1) := dk_29 (dk_at dksL_law_9 3 rfl rfl)
theorem dL_law_354 : decode cL_law 354 = .ok (.iconst 4, 1) := dk_7 (dk_at dksL_law_9 4 rfl rfl)
theorem dL_law_355 : decode cL_law 355 = .ok (.iadd, 1) := dk_96 (dk_at dksL_law_9 5 rfl rfl)
theorem dL_law_356 : decode cL_law 356 = .ok (.iaload, 1) := dk_46 (dk_at dksL_law_9 6 rfl rfl)
theorem dL_law_357 : decode cL_law 357 = .ok (.aload_n 0, 1) := dk_42 (dk_at dksL_law_9 7 rfl rfl)
theorem dL_law_358 : decode cL_law 358 = .ok (.iload_n 3, 1) := dk_29 (dk_at dksL_law_9 8 rfl rfl)
theorem dL_law_359 : decode cL_law 359 = .ok (.iconst 5, 1) := dk_8 (dk_at dksL_law_9 9 rfl rfl)
theorem dL_law_360 : decode cL_law 360 = .ok (.iadd, 1) := dk_96 (dk_at dksL_law_9 10 rfl rfl)
theorem dL_law_361 : decode cL_law 361 = .ok (.iaload, 1) := dk_46 (dk_at dksL_law_9 11 rfl rfl)
theorem dL_law_362 : decode cL_law 362 = .ok (.invokevirtual 32, 3) := dk_182 0 32 (dk_at dksL_law_9 12 rfl rfl)
theorem dL_law_365 : decode cL_law 365 = .ok (.if_icmp .eq 1103, 3) := dk_159 4 79 (dk_at dksL_law_9 15 rfl rfl)
theorem dL_law_368 : decode cL_law 368 = .ok (.iconst 0, 1) := dk_3 (dk_at dksL_law_9 18 rfl rfl)
theorem dL_law_369 : decode cL_law 369 = .ok (.ireturn, 1) := dk_172 (dk_at dksL_law_9 19 rfl rfl)
theorem dL_law_370 : decode cL_law 370 = .ok (.aload_n 1, 1) := dk_43 (dk_at dksL_law_9 20 rfl rfl)
theorem dL_law_371 : decode cL_law 371 = .ok (.aload_n 0, 1) := dk_42 (dk_at dksL_law_9 21 rfl rfl)
theorem dL_law_372 : decode cL_law 372 = .ok (.iload_n 3, 1) := dk_29 (dk_at dksL_law_9 22 rfl rfl)
theorem dL_law_373 : decode cL_law 373 = .ok (.iconst 1, 1) := dk_4 (dk_at dksL_law_9 23 rfl rfl)
theorem dL_law_374 : decode cL_law 374 = .ok (.iadd, 1) := dk_96 (dk_at dksL_law_10 0 rfl rfl)
theorem dL_law_375 : decode cL_law 375 = .ok (.iaload, 1) := dk_46 (dk_at dksL_law_10 1 rfl rfl)
theorem dL_law_376 : decode cL_law 376 = .ok (.invokevirtual 33, 3) := dk_182 0 33 (dk_at dksL_law_10 2 rfl rfl)
theorem dL_law_379 : decode cL_law 379 = .ok (.aload_n 2, 1) := dk_44 (dk_at dksL_law_10 5 rfl rfl)
theorem dL_law_380 : decode cL_law 380 = .ok (.aload_n 0, 1) := dk_42 (dk_at dksL_law_10 6 rfl rfl)
theorem dL_law_381 : decode cL_law 381 = .ok (.iload_n 3, 1) := dk_29 (dk_at dksL_law_10 7 rfl rfl)
theorem dL_law_382 : decode cL_law 382 = .ok (.iconst 1, 1) := dk_4 (dk_at dksL_law_10 8 rfl rfl)
theorem dL_law_383 : decode cL_law 383 = .ok (.iadd, 1) := dk_96 (dk_at dksL_law_10 9 rfl rfl)
theorem dL_law_384 : decode cL_law 384 = .ok (.iaload, 1) := dk_46 (dk_at dksL_law_10 10 rfl rfl)
theorem dL_law_385 : decode cL_law 385 = .ok (.invokevirtual 36, 3) := dk_182 0 36 (dk_at dksL_law_10 11 rfl rfl)
theorem dL_law_388 : decode cL_law 388 = .ok (.if_icmp .eq 1080, 3) := dk_159 4 56 (dk_at dksL_law_10 14 rfl rfl)
theorem dL_law_391 : decode cL_law 391 = .ok (.iconst 0, 1) := dk_3 (dk_at dksL_law_10 17 rfl rfl)
theorem dL_law_392 : decode cL_law 392 = .ok (.ireturn, 1) := dk_172 (dk_at dksL_law_10 18 rfl rfl)
theorem dL_law_393 : decode cL_law 393 = .ok (.aload_n 1, 1) := dk_43 (dk_at dksL_law_10 19 rfl rfl)
theorem dL_law_394 : decode cL_law 394 = .ok (.invokevirtual 37, 3) := dk_182 0 37 (dk_at dksL_law_10 20 rfl rfl)
theorem dL_law_397 : decode cL_law 397 = .ok (.aload_n 2, 1) := dk_44 (dk_at dksL_law_10 23 rfl rfl)
theorem dL_law_398 : decode cL_law 398 = .ok (.invokevirtual 41, 3) := dk_182 0 41 (dk_at dksL_law_11 0 rfl rfl)
theorem dL_law_401 : decode cL_law 401 = .ok (.if_icmp .eq 1067, 3) := dk_159 4 43 (dk_at dksL_law_11 3 rfl rfl)
theorem dL_law_404 : decode cL_law 404 = .ok (.iconst 0, 1) := dk_3 (dk_at dksL_law_11 6 rfl rfl)
theorem dL_law_405 : decode cL_law 405 = .ok (.ireturn, 1) := dk_172 (dk_at dksL_law_11 7 rfl rfl)
theorem dL_law_406 : decode cL_law 406 = .ok (.aload_n 1, 1) := dk_43 (dk_at dksL_law_11 8 rfl rfl)
theorem dL_law_407 : decode cL_law 407 = .ok (.aload_n 0, 1) := dk_42 (dk_at dksL_law_11 9 rfl rfl)
theorem dL_law_408 : decode cL_law 408 = .ok (.iload_n 3, 1) := dk_29 (dk_at dksL_law_11 10 rfl rfl)
theorem dL_law_409 : decode cL_law 409 = .ok (.iconst 1, 1) := dk_4 (dk_at dksL_law_11 11 rfl rfl)
theorem dL_law_410 : decode cL_law 410 = .ok (.iadd, 1) := dk_96 (dk_at dksL_law_11 12 rfl rfl)
theorem dL_law_411 : decode cL_law 411 = .ok (.iaload, 1) := dk_46 (dk_at dksL_law_11 13 rfl rfl)
theorem dL_law_412 : decode cL_law 412 = .ok (.invokevirtual 42, 3) := dk_182 0 42 (dk_at dksL_law_11 14 rfl rfl)
theorem dL_law_415 : decode cL_law 415 = .ok (.aload_n 2, 1) := dk_44 (dk_at dksL_law_11 17 rfl rfl)
theorem dL_law_416 : decode cL_law 416 = .ok (.aload_n 0, 1) := dk_42 (dk_at dksL_law_11 18 rfl rfl)
theorem dL_law_417 : decode cL_law 417 = .ok (.iload_n 3, 1) := dk_29 (dk_at dksL_law_11 19 rfl rfl)
theorem dL_law_418 : decode cL_law 418 = .ok (.iconst 1, 1) := dk_4 (dk_at dksL_law_11 20 rfl rfl)
theorem dL_law_419 : decode cL_law 419 = .ok (.iadd, 1) := dk_96 (dk_at dksL_law_11 21 rfl rfl)
theorem dL_law_420 : decode cL_law 420 = .ok (.iaload, 1) := dk_46 (dk_at dksL_law_11 22 rfl rfl)
theorem dL_law_421 : decode cL_law 421 = .ok (.invokevirtual 45, 3) := dk_182 0 45 (dk_at dksL_law_12 0 rfl rfl)
theorem dL_law_424 : decode cL_law 424 = .ok (.if_icmp .eq 1044, 3) := dk_159 4 20 (dk_at dksL_law_12 3 rfl rfl)
theorem dL_law_427 : decode cL_law 427 = .ok (.iconst 0, 1) := dk_3 (dk_at dksL_law_12 6 rfl rfl)
theorem dL_law_428 : decode cL_law 428 = .ok (.ireturn, 1) := dk_172 (dk_at dksL_law_12 7 rfl rfl)
theorem dL_law_429 : decode cL_law 429 = .ok (.aload_n 1, 1) := dk_43 (dk_at dksL_law_12 8 rfl rfl)
theorem dL_law_430 : decode cL_law 430 = .ok (.aload_n 0, 1) := dk_42 (dk_at dksL_law_12 9 rfl rfl)
theorem dL_law_431 : decode cL_law 431 = .ok (.iload_n 3, 1) := dk_29 (dk_at dksL_law_12 10 rfl rfl)
theorem dL_law_432 : decode cL_law 432 = .ok (.iconst 1, 1) := dk_4 (dk_at dksL_law_12 11 rfl rfl)
theorem dL_law_433 : decode cL_law 433 = .ok (.iadd, 1) := dk_96 (dk_at dksL_law_12 12 rfl rfl)
theorem dL_law_434 : decode cL_law 434 = .ok (.iaload, 1) := dk_46 (dk_at dksL_law_12 13 rfl rfl)
theorem dL_law_435 : decode cL_law 435 = .ok (.invokevirtual 46, 3) := dk_182 0 46 (dk_at dksL_law_12 14 rfl rfl)
theorem dL_law_438 : decode cL_law 438 = .ok (.aload_n 2, 1) := dk_44 (dk_at dksL_law_12 17 rfl rfl)
theorem dL_law_439 : decode cL_law 439 = .ok (.aload_n 0, 1) := dk_42 (dk_at dksL_law_12 18 rfl rfl)
theorem dL_law_440 : decode cL_law 440 = .ok (.iload_n 3, 1) := dk_29 (dk_at dksL_law_12 19 rfl rfl)
theorem dL_law_441 : decode cL_law 441 = .ok (.iconst 1, 1) := dk_4 (dk_at dksL_law_12 20 rfl rfl)
theorem dL_law_442 : decode cL_law 442 = .ok (.iadd, 1) := dk_96 (dk_at dksL_law_12 21 rfl rfl)
theorem dL_law_443 : decode cL_law 443 = .ok (.iaload, 1) := dk_46 (dk_at dksL_law_12 22 rfl rfl)
theorem dL_law_444 : decode cL_law 444 = .ok (.invokevirtual 50, 3) := dk_182 0 50 (dk_at dksL_law_13 0 rfl rfl)
theorem dL_law_447 : decode cL_law 447 = .ok (.if_icmp .eq 1021, 3) := dk_159 3 253 (dk_at dksL_law_13 3 rfl rfl)
theorem dL_law_450 : decode cL_law 450 = .ok (.iconst 0, 1) := dk_3 (dk_at dksL_law_13 6 rfl rfl)
theorem dL_law_451 : decode cL_law 451 = .ok (.ireturn, 1) := dk_172 (dk_at dksL_law_13 7 rfl rfl)
theorem dL_law_452 : decode cL_law 452 = .ok (.aload_n 1, 1) := dk_43 (dk_at dksL_law_13 8 rfl rfl)
theorem dL_law_453 : decode cL_law 453 = .ok (.aload_n 0, 1) := dk_42 (dk_at dksL_law_13 9 rfl rfl)
theorem dL_law_454 : decode cL_law 454 = .ok (.iload_n 3, 1) := dk_29 (dk_at dksL_law_13 10 rfl rfl)
theorem dL_law_455 : decode cL_law 455 = .ok (.iconst 1, 1) := dk_4 (dk_at dksL_law_13 11 rfl rfl)
theorem dL_law_456 : decode cL_law 456 = .ok (.iadd, 1) := dk_96 (dk_at dksL_law_13 12 rfl rfl)
theorem dL_law_457 : decode cL_law 457 = .ok (.iaload, 1) := dk_46 (dk_at dksL_law_13 13 rfl rfl)
theorem dL_law_458 : decode cL_law 458 = .ok (.invokevirtual 51, 3) := dk_182 0 51 (dk_at dksL_law_13 14 rfl rfl)
theorem dL_law_461 : decode cL_law 461 = .ok (.aload_n 2, 1) := dk_44 (dk_at dksL_law_13 17 rfl rfl)
theorem dL_law_462 : decode cL_law 462 = .ok (.aload_n 0, 1) := dk_42 (dk_at dksL_law_13 18 rfl rfl)
theorem dL_law_463 : decode cL_law 463 = .ok (.iload_n 3, 1) := dk_29 (dk_at dksL_law_13 19 rfl rfl)
theorem dL_law_464 : decode cL_law 464 = .ok (.iconst 1, 1) := dk_4 (dk_at dksL_law_13 20 rfl rfl)
theorem dL_law_465 : decode cL_law 465 = .ok (.iadd, 1) := dk_96 (dk_at dksL_law_13 21 rfl rfl)
theorem dL_law_466 : decode cL_law 466 = .ok (.iaload, 1) := dk_46 (dk_at dksL_law_13 22 rfl rfl)
theorem dL_law_467 : decode cL_law 467 = .ok (.invokevirtual 54, 3) := dk_182 0 54 (dk_at dksL_law_14 0 rfl rfl)
theorem dL_law_470 : decode cL_law 470 = .ok (.if_icmp .eq 998, 3) := dk_159 3 230 (dk_at dksL_law_14 3 rfl rfl)
theorem dL_law_473 : decode cL_law 473 = .ok (.iconst 0, 1) := dk_3 (dk_at dksL_law_14 6 rfl rfl)
theorem dL_law_474 : decode cL_law 474 = .ok (.ireturn, 1) := dk_172 (dk_at dksL_law_14 7 rfl rfl)
theorem dL_law_475 : decode cL_law 475 = .ok (.aload_n 1, 1) := dk_43 (dk_at dksL_law_14 8 rfl rfl)
theorem dL_law_476 : decode cL_law 476 = .ok (.aload_n 0, 1) := dk_42 (dk_at dksL_law_14 9 rfl rfl)
theorem dL_law_477 : decode cL_law 477 = .ok (.iload_n 3, 1) := dk_29 (dk_at dksL_law_14 10 rfl rfl)
theorem dL_law_478 : decode cL_law 478 = .ok (.iconst 1, 1) := dk_4 (dk_at dksL_law_14 11 rfl rfl)
theorem dL_law_479 : decode cL_law 479 = .ok (.iadd, 1) := dk_96 (dk_at dksL_law_14 12 rfl rfl)
theorem dL_law_480 : decode cL_law 480 = .ok (.iaload, 1) := dk_46 (dk_at dksL_law_14 13 rfl rfl)
theorem dL_law_481 : decode cL_law 481 = .ok (.invokevirtual 55, 3) := dk_182 0 55 (dk_at dksL_law_14 14 rfl rfl)
theorem dL_law_484 : decode cL_law 484 = .ok (.aload_n 2, 1) := dk_44 (dk_at dksL_law_14 17 rfl rfl)
theorem dL_law_485 : decode cL_law 485 = .ok (.aload_n 0, 1) := dk_42 (dk_at dksL_law_14 18 rfl rfl)
theorem dL_law_486 : decode cL_law 486 = .ok (.iload_n 3, 1) := dk_29 (dk_at dksL_law_14 19 rfl rfl)
theorem dL_law_487 : decode cL_law 487 = .ok (.iconst 1, 1) := dk_4 (dk_at dksL_law_14 20 rfl rfl)
theorem dL_law_488 : decode cL_law 488 = .ok (.iadd, 1) := dk_96 (dk_at dksL_law_14 21 rfl rfl)
theorem dL_law_489 : decode cL_law 489 = .ok (.iaload, 1) := dk_46 (dk_at dksL_law_14 22 rfl rfl)
theorem dL_law_490 : decode cL_law 490 = .ok (.invokevirtual 58, 3) := dk_182 0 58 (dk_at dksL_law_15 0 rfl rfl)
theorem dL_law_493 : decode cL_law 493 = .ok (.if_icmp .eq 975, 3) := dk_159 3 207 (dk_at dksL_law_15 3 rfl rfl)
theorem dL_law_496 : decode cL_law 496 = .ok (.iconst 0, 1) := dk_3 (dk_at dksL_law_15 6 rfl rfl)
theorem dL_law_497 : decode cL_law 497 = .ok (.ireturn, 1) := dk_172 (dk_at dksL_law_15 7 rfl rfl)
theorem dL_law_498 : decode cL_law 498 = .ok (.aload_n 1, 1) := dk_43 (dk_at dksL_law_15 8 rfl rfl)
theorem dL_law_499 : decode cL_law 499 = .ok (.aload_n 0, 1) := dk_42 (dk_at dksL_law_15 9 rfl rfl)
theorem dL_law_500 : decode cL_law 500 = .ok (.iload_n 3, 1) := dk_29 (dk_at dksL_law_15 10 rfl rfl)
theorem dL_law_501 : decode cL_law 501 = .ok (.iconst 1, 1) := dk_4 (dk_at dksL_law_15 11 rfl rfl)
theorem dL_law_502 : decode cL_law 502 = .ok (.iadd, 1) := dk_96 (dk_at dksL_law_15 12 rfl rfl)
theorem dL_law_503 : decode cL_law 503 = .ok (.iaload, 1) := dk_46 (dk_at dksL_law_15 13 rfl rfl)
theorem dL_law_504 : decode cL_law 504 = .ok (.invokevirtual 59, 3) := dk_182 0 59 (dk_at dksL_law_15 14 rfl rfl)
theorem dL_law_507 : decode cL_law 507 = .ok (.aload_n 2, 1) := dk_44 (dk_at dksL_law_15 17 rfl rfl)
theorem dL_law_508 : decode cL_law 508 = .ok (.aload_n 0, 1) := dk_42 (dk_at dksL_law_15 18 rfl rfl)
theorem dL_law_509 : decode cL_law 509 = .ok (.iload_n 3, 1) := dk_29 (dk_at dksL_law_15 19 rfl rfl)
theorem dL_law_510 : decode cL_law 510 = .ok (.iconst 1, 1) := dk_4 (dk_at dksL_law_15 20 rfl rfl)
theorem dL_law_511 : decode cL_law 511 = .ok (.iadd, 1) := dk_96 (dk_at dksL_law_15 21 rfl rfl)
theorem dL_law_512 : decode cL_law 512 = .ok (.iaload, 1) := dk_46 (dk_at dksL_law_15 22 rfl rfl)
theorem dL_law_513 : decode cL_law 513 = .ok (.invokevirtual 62, 3) := dk_182 0 62 (dk_at dksL_law_16 0 rfl rfl)
theorem dL_law_516 : decode cL_law 516 = .ok (.if_icmp .eq 952, 3) := dk_159 3 184 (dk_at dksL_law_16 3 rfl rfl)
theorem dL_law_519 : decode cL_law 519 = .ok (.iconst 0, 1) := dk_3 (dk_at dksL_law_16 6 rfl rfl)
theorem dL_law_520 : decode cL_law 520 = .ok (.ireturn, 1) := dk_172 (dk_at dksL_law_16 7 rfl rfl)
theorem dL_law_521 : decode cL_law 521 = .ok (.aload_n 1, 1) := dk_43 (dk_at dksL_law_16 8 rfl rfl)
theorem dL_law_522 : decode cL_law 522 = .ok (.aload_n 0, 1) := dk_42 (dk_at dksL_law_16 9 rfl rfl)
theorem dL_law_523 : decode cL_law 523 = .ok (.iload_n 3, 1) := dk_29 (dk_at dksL_law_16 10 rfl rfl)
theorem dL_law_524 : decode cL_law 524 = .ok (.iconst 1, 1) := dk_4 (dk_at dksL_law_16 11 rfl rfl)
theorem dL_law_525 : decode cL_law 525 = .ok (.iadd, 1) := dk_96 (dk_at dksL_law_16 12 rfl rfl)
theorem dL_law_526 : decode cL_law 526 = .ok (.iaload, 1) := dk_46 (dk_at dksL_law_16 13 rfl rfl)
theorem dL_law_527 : decode cL_law 527 = .ok (.aload_n 0, 1) := dk_42 (dk_at dksL_law_16 14 rfl rfl)
theorem dL_law_528 : decode cL_law 528 = .ok (.iload_n 3, 1) := dk_29 (dk_at dksL_law_16 15 rfl rfl)
theorem dL_law_529 : decode cL_law 529 = .ok (.iconst 2, 1) := dk_5 (dk_at dksL_law_16 16 rfl rfl)
theorem dL_law_530 : decode cL_law 530 = .ok (.iadd, 1) := dk_96 (dk_at dksL_law_16 17 rfl rfl)
theorem dL_law_531 : decode cL_law 531 = .ok (.iaload, 1) := dk_46 (dk_at dksL_law_16 18 rfl rfl)
theorem dL_law_532 : decode cL_law 532 = .ok (.invokevirtual 63, 3) := dk_182 0 63 (dk_at dksL_law_16 19 rfl rfl)
theorem dL_law_535 : decode cL_law 535 = .ok (.aload_n 2, 1) := dk_44 (dk_at dksL_law_16 22 rfl rfl)
theorem dL_law_536 : decode cL_law 536 = .ok (.aload_n 0, 1) := dk_42 (dk_at dksL_law_16 23 rfl rfl)
theorem dL_law_537 : decode cL_law 537 = .ok (.iload_n 3, 1) := dk_29 (dk_at dksL_law_17 0 rfl rfl)
theorem dL_law_538 : decode cL_law 538 = .ok (.iconst 1, 1) := dk_4 (dk_at dksL_law_17 1 rfl rfl)
theorem dL_law_539 : decode cL_law 539 = .ok (.iadd, 1) := dk_96 (dk_at dksL_law_17 2 rfl rfl)
theorem dL_law_540 : decode cL_law 540 = .ok (.iaload, 1) := dk_46 (dk_at dksL_law_17 3 rfl rfl)
theorem dL_law_541 : decode cL_law 541 = .ok (.aload_n 0, 1) := dk_42 (dk_at dksL_law_17 4 rfl rfl)
theorem dL_law_542 : decode cL_law 542 = .ok (.iload_n 3, 1) := dk_29 (dk_at dksL_law_17 5 rfl rfl)
theorem dL_law_543 : decode cL_law 543 = .ok (.iconst 2, 1) := dk_5 (dk_at dksL_law_17 6 rfl rfl)
theorem dL_law_544 : decode cL_law 544 = .ok (.iadd, 1) := dk_96 (dk_at dksL_law_17 7 rfl rfl)
theorem dL_law_545 : decode cL_law 545 = .ok (.iaload, 1) := dk_46 (dk_at dksL_law_17 8 rfl rfl)
theorem dL_law_546 : decode cL_law 546 = .ok (.invokevirtual 66, 3) := dk_182 0 66 (dk_at dksL_law_17 9 rfl rfl)
theorem dL_law_549 : decode cL_law 549 = .ok (.if_icmp .eq 919, 3) := dk_159 3 151 (dk_at dksL_law_17 12 rfl rfl)
theorem dL_law_552 : decode cL_law 552 = .ok (.iconst 0, 1) := dk_3 (dk_at dksL_law_17 15 rfl rfl)
theorem dL_law_553 : decode cL_law 553 = .ok (.ireturn, 1) := dk_172 (dk_at dksL_law_17 16 rfl rfl)
theorem dL_law_554 : decode cL_law 554 = .ok (.aload_n 1, 1) := dk_43 (dk_at dksL_law_17 17 rfl rfl)
theorem dL_law_555 : decode cL_law 555 = .ok (.aload_n 0, 1) := dk_42 (dk_at dksL_law_17 18 rfl rfl)
theorem dL_law_556 : decode cL_law 556 = .ok (.iload_n 3, 1) := dk_29 (dk_at dksL_law_17 19 rfl rfl)
theorem dL_law_557 : decode cL_law 557 = .ok (.iconst 1, 1) := dk_4 (dk_at dksL_law_17 20 rfl rfl)
theorem dL_law_558 : decode cL_law 558 = .ok (.iadd, 1) := dk_96 (dk_at dksL_law_17 21 rfl rfl)
theorem dL_law_559 : decode cL_law 559 = .ok (.iaload, 1) := dk_46 (dk_at dksL_law_17 22 rfl rfl)
theorem dL_law_560 : decode cL_law 560 = .ok (.aload_n 0, 1) := dk_42 (dk_at dksL_law_17 23 rfl rfl)
theorem dL_law_561 : decode cL_law 561 = .ok (.iload_n 3, 1) := dk_29 (dk_at dksL_law_18 0 rfl rfl)
theorem dL_law_562 : decode cL_law 562 = .ok (.iconst 2, 1) := dk_5 (dk_at dksL_law_18 1 rfl rfl)
theorem dL_law_563 : decode cL_law 563 = .ok (.iadd, 1) := dk_96 (dk_at dksL_law_18 2 rfl rfl)
theorem dL_law_564 : decode cL_law 564 = .ok (.iaload, 1) := dk_46 (dk_at dksL_law_18 3 rfl rfl)
theorem dL_law_565 : decode cL_law 565 = .ok (.invokevirtual 67, 3) := dk_182 0 67 (dk_at dksL_law_18 4 rfl rfl)
theorem dL_law_568 : decode cL_law 568 = .ok (.aload_n 2, 1) := dk_44 (dk_at dksL_law_18 7 rfl rfl)
theorem dL_law_569 : decode cL_law 569 = .ok (.aload_n 0, 1) := dk_42 (dk_at dksL_law_18 8 rfl rfl)
theorem dL_law_570 : decode cL_law 570 = .ok (.iload_n 3, 1) := dk_29 (dk_at dksL_law_18 9 rfl rfl)
theorem dL_law_571 : decode cL_law 571 = .ok (.iconst 1, 1) := dk_4 (dk_at dksL_law_18 10 rfl rfl)
theorem dL_law_572 : decode cL_law 572 = .ok (.iadd, 1) := dk_96 (dk_at dksL_law_18 11 rfl rfl)
theorem dL_law_573 : decode cL_law 573 = .ok (.iaload, 1) := dk_46 (dk_at dksL_law_18 12 rfl rfl)
theorem dL_law_574 : decode cL_law 574 = .ok (.aload_n 0, 1) := dk_42 (dk_at dksL_law_18 13 rfl rfl)
theorem dL_law_575 : decode cL_law 575 = .ok (.iload_n 3, 1) := dk_29 (dk_at dksL_law_18 14 rfl rfl)
theorem dL_law_576 : decode cL_law 576 = .ok (.iconst 2, 1) := dk_5 (dk_at dksL_law_18 15 rfl rfl)
theorem dL_law_577 : decode cL_law 577 = .ok (.iadd, 1) := dk_96 (dk_at dksL_law_18 16 rfl rfl)
theorem dL_law_578 : decode cL_law 578 = .ok (.iaload, 1) := dk_46 (dk_at dksL_law_18 17 rfl rfl)
theorem dL_law_579 : decode cL_law 579 = .ok (.invokevirtual 70, 3) := dk_182 0 70 (dk_at dksL_law_18 18 rfl rfl)
theorem dL_law_582 : decode cL_law 582 = .ok (.if_icmp .eq 886, 3) := dk_159 3 118 (dk_at dksL_law_18 21 rfl rfl)
theorem dL_law_585 : decode cL_law 585 = .ok (.iconst 0, 1) := dk_3 (dk_at dksL_law_19 0 rfl rfl)
theorem dL_law_586 : decode cL_law 586 = .ok (.ireturn, 1) := dk_172 (dk_at dksL_law_19 1 rfl rfl)
theorem dL_law_587 : decode cL_law 587 = .ok (.aload_n 1, 1) := dk_43 (dk_at dksL_law_19 2 rfl rfl)
theorem dL_law_588 : decode cL_law 588 = .ok (.aload_n 0, 1) := dk_42 (dk_at dksL_law_19 3 rfl rfl)
theorem dL_law_589 : decode cL_law 589 = .ok (.iload_n 3, 1) := dk_29 (dk_at dksL_law_19 4 rfl rfl)
theorem dL_law_590 : decode cL_law 590 = .ok (.iconst 1, 1) := dk_4 (dk_at dksL_law_19 5 rfl rfl)
theorem dL_law_591 : decode cL_law 591 = .ok (.iadd, 1) := dk_96 (dk_at dksL_law_19 6 rfl rfl)
theorem dL_law_592 : decode cL_law 592 = .ok (.iaload, 1) := dk_46 (dk_at dksL_law_19 7 rfl rfl)
theorem dL_law_593 : decode cL_law 593 = .ok (.invokevirtual 71, 3) := dk_182 0 71 (dk_at dksL_law_19 8 rfl rfl)
theorem dL_law_596 : decode cL_law 596 = .ok (.aload_n 2, 1) := dk_44 (dk_at dksL_law_19 11 rfl rfl)
theorem dL_law_597 : decode cL_law 597 = .ok (.aload_n 0, 1) := dk_42 (dk_at dksL_law_19 12 rfl rfl)
theorem dL_law_598 : decode cL_law 598 = .ok (.iload_n 3, 1) := dk_29 (dk_at dksL_law_19 13 rfl rfl)
theorem dL_law_599 : decode cL_law 599 = .ok (.iconst 1, 1) := dk_4 (dk_at dksL_law_19 14 rfl rfl)
theorem dL_law_600 : decode cL_law 600 = .ok (.iadd, 1) := dk_96 (dk_at dksL_law_19 15 rfl rfl)
theorem dL_law_601 : decode cL_law 601 = .ok (.iaload, 1) := dk_46 (dk_at dksL_law_19 16 rfl rfl)
theorem dL_law_602 : decode cL_law 602 = .ok (.invokevirtual 74, 3) := dk_182 0 74 (dk_at dksL_law_19 17 rfl rfl)
theorem dL_law_605 : decode cL_law 605 = .ok (.if_icmp .eq 863, 3) := dk_159 3 95 (dk_at dksL_law_19 20 rfl rfl)
theorem dL_law_608 : decode cL_law 608 = .ok (.iconst 0, 1) := dk_3 (dk_at dksL_law_19 23 rfl rfl)
theorem dL_law_609 : decode cL_law 609 = .ok (.ireturn, 1) := dk_172 (dk_at dksL_law_20 0 rfl rfl)
theorem dL_law_610 : decode cL_law 610 = .ok (.aload_n 1, 1) := dk_43 (dk_at dksL_law_20 1 rfl rfl)
theorem dL_law_611 : decode cL_law 611 = .ok (.aload_n 0, 1) := dk_42 (dk_at dksL_law_20 2 rfl rfl)
theorem dL_law_612 : decode cL_law 612 = .ok (.iload_n 3, 1) := dk_29 (dk_at dksL_law_20 3 rfl rfl)
theorem dL_law_613 : decode cL_law 613 = .ok (.iconst 1, 1) := dk_4 (dk_at dksL_law_20 4 rfl rfl)
theorem dL_law_614 : decode cL_law 614 = .ok (.iadd, 1) := dk_96 (dk_at dksL_law_20 5 rfl rfl)
theorem dL_law_615 : decode cL_law 615 = .ok (.iaload, 1) := dk_46 (dk_at dksL_law_20 6 rfl rfl)
theorem dL_law_616 : decode cL_law 616 = .ok (.invokevirtual 75, 3) := dk_182 0 75 (dk_at dksL_law_20 7 rfl rfl)
theorem dL_law_619 : decode cL_law 619 = .ok (.aload_n 2, 1) := dk_44 (dk_at dksL_law_20 10 rfl rfl)
theorem dL_law_620 : decode cL_law 620 = .ok (.aload_n 0, 1) := dk_42 (dk_at dksL_law_20 11 rfl rfl)
theorem dL_law_621 : decode cL_law 621 = .ok (.iload_n 3, 1) := dk_29 (dk_at dksL_law_20 12 rfl rfl)
theorem dL_law_622 : decode cL_law 622 = .ok (.iconst 1, 1) := dk_4 (dk_at dksL_law_20 13 rfl rfl)
theorem dL_law_623 : decode cL_law 623 = .ok (.iadd, 1) := dk_96 (dk_at dksL_law_20 14 rfl rfl)
theorem dL_law_624 : decode cL_law 624 = .ok (.iaload, 1) := dk_46 (dk_at dksL_law_20 15 rfl rfl)
theorem dL_law_625 : decode cL_law 625 = .ok (.invokevirtual 78, 3) := dk_182 0 78 (dk_at dksL_law_20 16 rfl rfl)
theorem dL_law_628 : decode cL_law 628 = .ok (.if_icmp .eq 840, 3) := dk_159 3 72 (dk_at dksL_law_20 19 rfl rfl)
theorem dL_law_631 : decode cL_law 631 = .ok (.iconst 0, 1) := dk_3 (dk_at dksL_law_20 22 rfl rfl)
theorem dL_law_632 : decode cL_law 632 = .ok (.ireturn, 1) := dk_172 (dk_at dksL_law_20 23 rfl rfl)
theorem dL_law_633 : decode cL_law 633 = .ok (.aload_n 1, 1) := dk_43 (dk_at dksL_law_21 0 rfl rfl)
theorem dL_law_634 : decode cL_law 634 = .ok (.aload_n 0, 1) := dk_42 (dk_at dksL_law_21 1 rfl rfl)
theorem dL_law_635 : decode cL_law 635 = .ok (.iload_n 3, 1) := dk_29 (dk_at dksL_law_21 2 rfl rfl)
theorem dL_law_636 : decode cL_law 636 = .ok (.iconst 1, 1) := dk_4 (dk_at dksL_law_21 3 rfl rfl)
theorem dL_law_637 : decode cL_law 637 = .ok (.iadd, 1) := dk_96 (dk_at dksL_law_21 4 rfl rfl)
theorem dL_law_638 : decode cL_law 638 = .ok (.iaload, 1) := dk_46 (dk_at dksL_law_21 5 rfl rfl)
theorem dL_law_639 : decode cL_law 639 = .ok (.aload_n 0, 1) := dk_42 (dk_at dksL_law_21 6 rfl rfl)
theorem dL_law_640 : decode cL_law 640 = .ok (.iload_n 3, 1) := dk_29 (dk_at dksL_law_21 7 rfl rfl)
theorem dL_law_641 : decode cL_law 641 = .ok (.iconst 2, 1) := dk_5 (dk_at dksL_law_21 8 rfl rfl)
theorem dL_law_642 : decode cL_law 642 = .ok (.iadd, 1) := dk_96 (dk_at dksL_law_21 9 rfl rfl)
theorem dL_law_643 : decode cL_law 643 = .ok (.iaload, 1) := dk_46 (dk_at dksL_law_21 10 rfl rfl)
theorem dL_law_644 : decode cL_law 644 = .ok (.invokevirtual 79, 3) := dk_182 0 79 (dk_at dksL_law_21 11 rfl rfl)
theorem dL_law_647 : decode cL_law 647 = .ok (.aload_n 2, 1) := dk_44 (dk_at dksL_law_21 14 rfl rfl)
theorem dL_law_648 : decode cL_law 648 = .ok (.aload_n 0, 1) := dk_42 (dk_at dksL_law_21 15 rfl rfl)
theorem dL_law_649 : decode cL_law 649 = .ok (.iload_n 3, 1) := dk_29 (dk_at dksL_law_21 16 rfl rfl)
theorem dL_law_650 : decode cL_law 650 = .ok (.iconst 1, 1) := dk_4 (dk_at dksL_law_21 17 rfl rfl)
theorem dL_law_651 : decode cL_law 651 = .ok (.iadd, 1) := dk_96 (dk_at dksL_law_21 18 rfl rfl)
theorem dL_law_652 : decode cL_law 652 = .ok (.iaload, 1) := dk_46 (dk_at dksL_law_21 19 rfl rfl)
theorem dL_law_653 : decode cL_law 653 = .ok (.aload_n 0, 1) := dk_42 (dk_at dksL_law_21 20 rfl rfl)
theorem dL_law_654 : decode cL_law 654 = .ok (.iload_n 3, 1) := dk_29 (dk_at dksL_law_21 21 rfl rfl)
theorem dL_law_655 : decode cL_law 655 = .ok (.iconst 2, 1) := dk_5 (dk_at dksL_law_21 22 rfl rfl)
theorem dL_law_656 : decode cL_law 656 = .ok (.iadd, 1) := dk_96 (dk_at dksL_law_21 23 rfl rfl)
theorem dL_law_657 : decode cL_law 657 = .ok (.iaload, 1) := dk_46 (dk_at dksL_law_22 0 rfl rfl)
theorem dL_law_658 : decode cL_law 658 = .ok (.invokevirtual 83, 3) := dk_182 0 83 (dk_at dksL_law_22 1 rfl rfl)
theorem dL_law_661 : decode cL_law 661 = .ok (.if_icmp .eq 807, 3) := dk_159 3 39 (dk_at dksL_law_22 4 rfl rfl)
theorem dL_law_664 : decode cL_law 664 = .ok (.iconst 0, 1) := dk_3 (dk_at dksL_law_22 7 rfl rfl)
theorem dL_law_665 : decode cL_law 665 = .ok (.ireturn, 1) := dk_172 (dk_at dksL_law_22 8 rfl rfl)
theorem dL_law_666 : decode cL_law 666 = .ok (.aload_n 1, 1) := dk_43 (dk_at dksL_law_22 9 rfl rfl)
theorem dL_law_667 : decode cL_law 667 = .ok (.invokevirtual 84, 3) := dk_182 0 84 (dk_at dksL_law_22 10 rfl rfl)
theorem dL_law_670 : decode cL_law 670 = .ok (.aload_n 2, 1) := dk_44 (dk_at dksL_law_22 13 rfl rfl)
theorem dL_law_671 : decode cL_law 671 = .ok (.invokevirtual 87, 3) := dk_182 0 87 (dk_at dksL_law_22 14 rfl rfl)
theorem dL_law_674 : decode cL_law 674 = .ok (.if_icmp .eq 794, 3) := dk_159 3 26 (dk_at dksL_law_22 17 rfl rfl)
theorem dL_law_677 : decode cL_law 677 = .ok (.iconst 0, 1) := dk_3 (dk_at dksL_law_22 20 rfl rfl)
theorem dL_law_678 : decode cL_law 678 = .ok (.ireturn, 1) := dk_172 (dk_at dksL_law_22 21 rfl rfl)
theorem dL_law_679 : decode cL_law 679 = .ok (.aload_n 1, 1) := dk_43 (dk_at dksL_law_22 22 rfl rfl)
theorem dL_law_680 : decode cL_law 680 = .ok (.aload_n 0, 1) := dk_42 (dk_at dksL_law_22 23 rfl rfl)
theorem dL_law_681 : decode cL_law 681 = .ok (.iload_n 3, 1) := dk_29 (dk_at dksL_law_23 0 rfl rfl)
theorem dL_law_682 : decode cL_law 682 = .ok (.iconst 1, 1) := dk_4 (dk_at dksL_law_23 1 rfl rfl)
theorem dL_law_683 : decode cL_law 683 = .ok (.iadd, 1) := dk_96 (dk_at dksL_law_23 2 rfl rfl)
theorem dL_law_684 : decode cL_law 684 = .ok (.iaload, 1) := dk_46 (dk_at dksL_law_23 3 rfl rfl)
theorem dL_law_685 : decode cL_law 685 = .ok (.aload_n 0, 1) := dk_42 (dk_at dksL_law_23 4 rfl rfl)
theorem dL_law_686 : decode cL_law 686 = .ok (.iload_n 3, 1) := dk_29 (dk_at dksL_law_23 5 rfl rfl)
theorem dL_law_687 : decode cL_law 687 = .ok (.iconst 2, 1) := dk_5 (dk_at dksL_law_23 6 rfl rfl)
theorem dL_law_688 : decode cL_law 688 = .ok (.iadd, 1) := dk_96 (dk_at dksL_law_23 7 rfl rfl)
theorem dL_law_689 : decode cL_law 689 = .ok (.iaload, 1) := dk_46 (dk_at dksL_law_23 8 rfl rfl)
theorem dL_law_690 : decode cL_law 690 = .ok (.invokevirtual 88, 3) := dk_182 0 88 (dk_at dksL_law_23 9 rfl rfl)
theorem dL_law_693 : decode cL_law 693 = .ok (.aload_n 2, 1) := dk_44 (dk_at dksL_law_23 12 rfl rfl)
theorem dL_law_694 : decode cL_law 694 = .ok (.aload_n 0, 1) := dk_42 (dk_at dksL_law_23 13 rfl rfl)
theorem dL_law_695 : decode cL_law 695 = .ok (.iload_n 3, 1) := dk_29 (dk_at dksL_law_23 14 rfl rfl)
theorem dL_law_696 : decode cL_law 696 = .ok (.iconst 1, 1) := dk_4 (dk_at dksL_law_23 15 rfl rfl)
theorem dL_law_697 : decode cL_law 697 = .ok (.iadd, 1) := dk_96 (dk_at dksL_law_23 16 rfl rfl)
theorem dL_law_698 : decode cL_law 698 = .ok (.iaload, 1) := dk_46 (dk_at dksL_law_23 17 rfl rfl)
theorem dL_law_699 : decode cL_law 699 = .ok (.aload_n 0, 1) := dk_42 (dk_at dksL_law_23 18 rfl rfl)
theorem dL_law_700 : decode cL_law 700 = .ok (.iload_n 3, 1) := dk_29 (dk_at dksL_law_23 19 rfl rfl)
theorem dL_law_701 : decode cL_law 701 = .ok (.iconst 2, 1) := dk_5 (dk_at dksL_law_23 20 rfl rfl)
theorem dL_law_702 : decode cL_law 702 = .ok (.iadd, 1) := dk_96 (dk_at dksL_law_23 21 rfl rfl)
theorem dL_law_703 : decode cL_law 703 = .ok (.iaload, 1) := dk_46 (dk_at dksL_law_23 22 rfl rfl)
theorem dL_law_704 : decode cL_law 704 = .ok (.invokevirtual 91, 3) := dk_182 0 91 (dk_at dksL_law_24 0 rfl rfl)
theorem dL_law_707 : decode cL_law 707 = .ok (.if_icmp .eq 761, 3) := dk_159 2 249 (dk_at dksL_law_24 3 rfl rfl)
theorem dL_law_710 : decode cL_law 710 = .ok (.iconst 0, 1) := dk_3 (dk_at dksL_law_24 6 rfl rfl)
theorem dL_law_711 : decode cL_law 711 = .ok (.ireturn, 1) := dk_172 (dk_at dksL_law_24 7 rfl rfl)
theorem dL_law_712 : decode cL_law 712 = .ok (.aload_n 1, 1) := dk_43 (dk_at dksL_law_24 8 rfl rfl)
theorem dL_law_713 : decode cL_law 713 = .ok (.aload_n 0, 1) := dk_42 (dk_at dksL_law_24 9 rfl rfl)
theorem dL_law_714 : decode cL_law 714 = .ok (.iload_n 3, 1) := dk_29 (dk_at dksL_law_24 10 rfl rfl)
theorem dL_law_715 : decode cL_law 715 = .ok (.iconst 1, 1) := dk_4 (dk_at dksL_law_24 11 rfl rfl)
theorem dL_law_716 : decode cL_law 716 = .ok (.iadd, 1) := dk_96 (dk_at dksL_law_24 12 rfl rfl)
theorem dL_law_717 : decode cL_law 717 = .ok (.iaload, 1) := dk_46 (dk_at dksL_law_24 13 rfl rfl)
theorem dL_law_718 : decode cL_law 718 = .ok (.aload_n 0, 1) := dk_42 (dk_at dksL_law_24 14 rfl rfl)
theorem dL_law_719 : decode cL_law 719 = .ok (.iload_n 3, 1) := dk_29 (dk_at dksL_law_24 15 rfl rfl)
theorem dL_law_720 : decode cL_law 720 = .ok (.iconst 2, 1) := dk_5 (dk_at dksL_law_24 16 rfl rfl)
theorem dL_law_721 : decode cL_law 721 = .ok (.iadd, 1) := dk_96 (dk_at dksL_law_24 17 rfl rfl)
theorem dL_law_722 : decode cL_law 722 = .ok (.iaload, 1) := dk_46 (dk_at dksL_law_24 18 rfl rfl)
theorem dL_law_723 : decode cL_law 723 = .ok (.invokevirtual 92, 3) := dk_182 0 92 (dk_at dksL_law_24 19 rfl rfl)
theorem dL_law_726 : decode cL_law 726 = .ok (.aload_n 2, 1) := dk_44 (dk_at dksL_law_24 22 rfl rfl)
theorem dL_law_727 : decode cL_law 727 = .ok (.aload_n 0, 1) := dk_42 (dk_at dksL_law_24 23 rfl rfl)
theorem dL_law_728 : decode cL_law 728 = .ok (.iload_n 3, 1) := dk_29 (dk_at dksL_law_25 0 rfl rfl)
theorem dL_law_729 : decode cL_law 729 = .ok (.iconst 1, 1) := dk_4 (dk_at dksL_law_25 1 rfl rfl)
theorem dL_law_730 : decode cL_law 730 = .ok (.iadd, 1) := dk_96 (dk_at dksL_law_25 2 rfl rfl)
theorem dL_law_731 : decode cL_law 731 = .ok (.iaload, 1) := dk_46 (dk_at dksL_law_25 3 rfl rfl)
theorem dL_law_732 : decode cL_law 732 = .ok (.aload_n 0, 1) := dk_42 (dk_at dksL_law_25 4 rfl rfl)
theorem dL_law_733 : decode cL_law 733 = .ok (.iload_n 3, 1) := dk_29 (dk_at dksL_law_25 5 rfl rfl)
theorem dL_law_734 : decode cL_law 734 = .ok (.iconst 2, 1) := dk_5 (dk_at dksL_law_25 6 rfl rfl)
theorem dL_law_735 : decode cL_law 735 = .ok (.iadd, 1) := dk_96 (dk_at dksL_law_25 7 rfl rfl)
theorem dL_law_736 : decode cL_law 736 = .ok (.iaload, 1) := dk_46 (dk_at dksL_law_25 8 rfl rfl)
theorem dL_law_737 : decode cL_law 737 = .ok (.invokevirtual 95, 3) := dk_182 0 95 (dk_at dksL_law_25 9 rfl rfl)
theorem dL_law_740 : decode cL_law 740 = .ok (.if_icmp .eq 728, 3) := dk_159 2 216 (dk_at dksL_law_25 12 rfl rfl)
theorem dL_law_743 : decode cL_law 743 = .ok (.iconst 0, 1) := dk_3 (dk_at dksL_law_25 15 rfl rfl)
theorem dL_law_744 : decode cL_law 744 = .ok (.ireturn, 1) := dk_172 (dk_at dksL_law_25 16 rfl rfl)
theorem dL_law_745 : decode cL_law 745 = .ok (.aload_n 1, 1) := dk_43 (dk_at dksL_law_25 17 rfl rfl)
theorem dL_law_746 : decode cL_law 746 = .ok (.aload_n 0, 1) := dk_42 (dk_at dksL_law_25 18 rfl rfl)
theorem dL_law_747 : decode cL_law 747 = .ok (.iload_n 3, 1) := dk_29 (dk_at dksL_law_25 19 rfl rfl)
theorem dL_law_748 : decode cL_law 748 = .ok (.iconst 1, 1) := dk_4 (dk_at dksL_law_25 20 rfl rfl)
theorem dL_law_749 : decode cL_law 749 = .ok (.iadd, 1) := dk_96 (dk_at dksL_law_25 21 rfl rfl)
theorem dL_law_750 : decode cL_law 750 = .ok (.iaload, 1) := dk_46 (dk_at dksL_law_25 22 rfl rfl)
theorem dL_law_751 : decode cL_law 751 = .ok (.aload_n 0, 1) := dk_42 (dk_at dksL_law_25 23 rfl rfl)
theorem dL_law_752 : decode cL_law 752 = .ok (.iload_n 3, 1) := dk_29 (dk_at dksL_law_26 0 rfl rfl)
theorem dL_law_753 : decode cL_law 753 = .ok (.iconst 2, 1) := dk_5 (dk_at dksL_law_26 1 rfl rfl)
theorem dL_law_754 : decode cL_law 754 = .ok (.iadd, 1) := dk_96 (dk_at dksL_law_26 2 rfl rfl)
theorem dL_law_755 : decode cL_law 755 = .ok (.iaload, 1) := dk_46 (dk_at dksL_law_26 3 rfl rfl)
theorem dL_law_756 : decode cL_law 756 = .ok (.invokevirtual 96, 3) := dk_182 0 96 (dk_at dksL_law_26 4 rfl rfl)
theorem dL_law_759 : decode cL_law 759 = .ok (.aload_n 2, 1) := dk_44 (dk_at dksL_law_26 7 rfl rfl)
theorem dL_law_760 : decode cL_law 760 = .ok (.aload_n 0, 1) := dk_42 (dk_at dksL_law_26 8 rfl rfl)
theorem dL_law_761 : decode cL_law 761 = .ok (.iload_n 3, 1) := dk_29 (dk_at dksL_law_26 9 rfl rfl)
theorem dL_law_762 : decode cL_law 762 = .ok (.iconst 1, 1) := dk_4 (dk_at dksL_law_26 10 rfl rfl)
theorem dL_law_763 : decode cL_law 763 = .ok (.iadd, 1) := dk_96 (dk_at dksL_law_26 11 rfl rfl)
theorem dL_law_764 : decode cL_law 764 = .ok (.iaload, 1) := dk_46 (dk_at dksL_law_26 12 rfl rfl)
theorem dL_law_765 : decode cL_law 765 = .ok (.aload_n 0, 1) := dk_42 (dk_at dksL_law_26 13 rfl rfl)
theorem dL_law_766 : decode cL_law 766 = .ok (.iload_n 3, 1) := dk_29 (dk_at dksL_law_26 14 rfl rfl)
theorem dL_law_767 : decode cL_law 767 = .ok (.iconst 2, 1) := dk_5 (dk_at dksL_law_26 15 rfl rfl)
theorem dL_law_768 : decode cL_law 768 = .ok (.iadd, 1) := dk_96 (dk_at dksL_law_26 16 rfl rfl)
theorem dL_law_769 : decode cL_law 769 = .ok (.iaload, 1) := dk_46 (dk_at dksL_law_26 17 rfl rfl)
theorem dL_law_770 : decode cL_law 770 = .ok (.invokevirtual 99, 3) := dk_182 0 99 (dk_at dksL_law_26 18 rfl rfl)
theorem dL_law_773 : decode cL_law 773 = .ok (.if_icmp .eq 695, 3) := dk_159 2 183 (dk_at dksL_law_26 21 rfl rfl)
theorem dL_law_776 : decode cL_law 776 = .ok (.iconst 0, 1) := dk_3 (dk_at dksL_law_27 0 rfl rfl)
theorem dL_law_777 : decode cL_law 777 = .ok (.ireturn, 1) := dk_172 (dk_at dksL_law_27 1 rfl rfl)
theorem dL_law_778 : decode cL_law 778 = .ok (.aload_n 1, 1) := dk_43 (dk_at dksL_law_27 2 rfl rfl)
theorem dL_law_779 : decode cL_law 779 = .ok (.aload_n 0, 1) := dk_42 (dk_at dksL_law_27 3 rfl rfl)
theorem dL_law_780 : decode cL_law 780 = .ok (.iload_n 3, 1) := dk_29 (dk_at dksL_law_27 4 rfl rfl)
theorem dL_law_781 : decode cL_law 781 = .ok (.iconst 1, 1) := dk_4 (dk_at dksL_law_27 5 rfl rfl)
theorem dL_law_782 : decode cL_law 782 = .ok (.iadd, 1) := dk_96 (dk_at dksL_law_27 6 rfl rfl)
theorem dL_law_783 : decode cL_law 783 = .ok (.iaload, 1) := dk_46 (dk_at dksL_law_27 7 rfl rfl)
theorem dL_law_784 : decode cL_law 784 = .ok (.aload_n 0, 1) := dk_42 (dk_at dksL_law_27 8 rfl rfl)
theorem dL_law_785 : decode cL_law 785 = .ok (.iload_n 3, 1) := dk_29 (dk_at dksL_law_27 9 rfl rfl)
theorem dL_law_786 : decode cL_law 786 = .ok (.iconst 2, 1) := dk_5 (dk_at dksL_law_27 10 rfl rfl)
theorem dL_law_787 : decode cL_law 787 = .ok (.iadd, 1) := dk_96 (dk_at dksL_law_27 11 rfl rfl)
theorem dL_law_788 : decode cL_law 788 = .ok (.iaload, 1) := dk_46 (dk_at dksL_law_27 12 rfl rfl)
theorem dL_law_789 : decode cL_law 789 = .ok (.invokevirtual 100, 3) := dk_182 0 100 (dk_at dksL_law_27 13 rfl rfl)
theorem dL_law_792 : decode cL_law 792 = .ok (.aload_n 2, 1) := dk_44 (dk_at dksL_law_27 16 rfl rfl)
theorem dL_law_793 : decode cL_law 793 = .ok (.aload_n 0, 1) := dk_42 (dk_at dksL_law_27 17 rfl rfl)
theorem dL_law_794 : decode cL_law 794 = .ok (.iload_n 3, 1) := dk_29 (dk_at dksL_law_27 18 rfl rfl)
theorem dL_law_795 : decode cL_law 795 = .ok (.iconst 1, 1) := dk_4 (dk_at dksL_law_27 19 rfl rfl)
theorem dL_law_796 : decode cL_law 796 = .ok (.iadd, 1) := dk_96 (dk_at dksL_law_27 20 rfl rfl)
theorem dL_law_797 : decode cL_law 797 = .ok (.iaload, 1) := dk_46 (dk_at dksL_law_27 21 rfl rfl)
theorem dL_law_798 : decode cL_law 798 = .ok (.aload_n 0, 1) := dk_42 (dk_at dksL_law_27 22 rfl rfl)
theorem dL_law_799 : decode cL_law 799 = .ok (.iload_n 3, 1) := dk_29 (dk_at dksL_law_27 23 rfl rfl)
theorem dL_law_800 : decode cL_law 800 = .ok (.iconst 2, 1) := dk_5 (dk_at dksL_law_28 0 rfl rfl)
theorem dL_law_801 : decode cL_law 801 = .ok (.iadd, 1) := dk_96 (dk_at dksL_law_28 1 rfl rfl)
theorem dL_law_802 : decode cL_law 802 = .ok (.iaload, 1) := dk_46 (dk_at dksL_law_28 2 rfl rfl)
theorem dL_law_803 : decode cL_law 803 = .ok (.invokevirtual 103, 3) := dk_182 0 103 (dk_at dksL_law_28 3 rfl rfl)
theorem dL_law_806 : decode cL_law 806 = .ok (.if_icmp .eq 662, 3) := dk_159 2 150 (dk_at dksL_law_28 6 rfl rfl)
theorem dL_law_809 : decode cL_law 809 = .ok (.iconst 0, 1) := dk_3 (dk_at dksL_law_28 9 rfl rfl)
theorem dL_law_810 : decode cL_law 810 = .ok (.ireturn, 1) := dk_172 (dk_at dksL_law_28 10 rfl rfl)
theorem dL_law_811 : decode cL_law 811 = .ok (.aload_n 1, 1) := dk_43 (dk_at dksL_law_28 11 rfl rfl)
theorem dL_law_812 : decode cL_law 812 = .ok (.aload_n 0, 1) := dk_42 (dk_at dksL_law_28 12 rfl rfl)
theorem dL_law_813 : decode cL_law 813 = .ok (.iload_n 3, 1) := dk_29 (dk_at dksL_law_28 13 rfl rfl)
theorem dL_law_814 : decode cL_law 814 = .ok (.iconst 1, 1) := dk_4 (dk_at dksL_law_28 14 rfl rfl)
theorem dL_law_815 : decode cL_law 815 = .ok (.iadd, 1) := dk_96 (dk_at dksL_law_28 15 rfl rfl)
theorem dL_law_816 : decode cL_law 816 = .ok (.iaload, 1) := dk_46 (dk_at dksL_law_28 16 rfl rfl)
theorem dL_law_817 : decode cL_law 817 = .ok (.aload_n 0, 1) := dk_42 (dk_at dksL_law_28 17 rfl rfl)
theorem dL_law_818 : decode cL_law 818 = .ok (.iload_n 3, 1) := dk_29 (dk_at dksL_law_28 18 rfl rfl)
theorem dL_law_819 : decode cL_law 819 = .ok (.iconst 2, 1) := dk_5 (dk_at dksL_law_28 19 rfl rfl)
theorem dL_law_820 : decode cL_law 820 = .ok (.iadd, 1) := dk_96 (dk_at dksL_law_28 20 rfl rfl)
theorem dL_law_821 : decode cL_law 821 = .ok (.iaload, 1) := dk_46 (dk_at dksL_law_28 21 rfl rfl)
theorem dL_law_822 : decode cL_law 822 = .ok (.aload_n 0, 1) := dk_42 (dk_at dksL_law_28 22 rfl rfl)
theorem dL_law_823 : decode cL_law 823 = .ok (.iload_n 3, 1) := dk_29 (dk_at dksL_law_28 23 rfl rfl)
theorem dL_law_824 : decode cL_law 824 = .ok (.iconst 3, 1) := dk_6 (dk_at dksL_law_29 0 rfl rfl)
theorem dL_law_825 : decode cL_law 825 = .ok (.iadd, 1) := dk_96 (dk_at dksL_law_29 1 rfl rfl)
theorem dL_law_826 : decode cL_law 826 = .ok (.iaload, 1) := dk_46 (dk_at dksL_law_29 2 rfl rfl)
theorem dL_law_827 : decode cL_law 827 = .ok (.invokevirtual 104, 3) := dk_182 0 104 (dk_at dksL_law_29 3 rfl rfl)
theorem dL_law_830 : decode cL_law 830 = .ok (.aload_n 2, 1) := dk_44 (dk_at dksL_law_29 6 rfl rfl)
theorem dL_law_831 : decode cL_law 831 = .ok (.aload_n 0, 1) := dk_42 (dk_at dksL_law_29 7 rfl rfl)
theorem dL_law_832 : decode cL_law 832 = .ok (.iload_n 3, 1) := dk_29 (dk_at dksL_law_29 8 rfl rfl)
theorem dL_law_833 : decode cL_law 833 = .ok (.iconst 1, 1) := dk_4 (dk_at dksL_law_29 9 rfl rfl)
theorem dL_law_834 : decode cL_law 834 = .ok (.iadd, 1) := dk_96 (dk_at dksL_law_29 10 rfl rfl)
theorem dL_law_835 : decode cL_law 835 = .ok (.iaload, 1) := dk_46 (dk_at dksL_law_29 11 rfl rfl)
theorem dL_law_836 : decode cL_law 836 = .ok (.aload_n 0, 1) := dk_42 (dk_at dksL_law_29 12 rfl rfl)
theorem dL_law_837 : decode cL_law 837 = .ok (.iload_n 3, 1) := dk_29 (dk_at dksL_law_29 13 rfl rfl)
theorem dL_law_838 : decode cL_law 838 = .ok (.iconst 2, 1) := dk_5 (dk_at dksL_law_29 14 rfl rfl)
theorem dL_law_839 : decode cL_law 839 = .ok (.iadd, 1) := dk_96 (dk_at dksL_law_29 15 rfl rfl)
theorem dL_law_840 : decode cL_law 840 = .ok (.iaload, 1) := dk_46 (dk_at dksL_law_29 16 rfl rfl)
theorem dL_law_841 : decode cL_law 841 = .ok (.aload_n 0, 1) := dk_42 (dk_at dksL_law_29 17 rfl rfl)
theorem dL_law_842 : decode cL_law 842 = .ok (.iload_n 3, 1) := dk_29 (dk_at dksL_law_29 18 rfl rfl)
theorem dL_law_843 : decode cL_law 843 = .ok (.iconst 3, 1) := dk_6 (dk_at dksL_law_29 19 rfl rfl)
theorem dL_law_844 : decode cL_law 844 = .ok (.iadd, 1) := dk_96 (dk_at dksL_law_29 20 rfl rfl)
theorem dL_law_845 : decode cL_law 845 = .ok (.iaload, 1) := dk_46 (dk_at dksL_law_29 21 rfl rfl)
theorem dL_law_846 : decode cL_law 846 = .ok (.invokevirtual 107, 3) := dk_182 0 107 (dk_at dksL_law_30 0 rfl rfl)
theorem dL_law_849 : decode cL_law 849 = .ok (.if_icmp .eq 619, 3) := dk_159 2 107 (dk_at dksL_law_30 3 rfl rfl)
theorem dL_law_852 : decode cL_law 852 = .ok (.iconst 0, 1) := dk_3 (dk_at dksL_law_30 6 rfl rfl)
theorem dL_law_853 : decode cL_law 853 = .ok (.ireturn, 1) := dk_172 (dk_at dksL_law_30 7 rfl rfl)
theorem dL_law_854 : decode cL_law 854 = .ok (.aload_n 1, 1) := dk_43 (dk_at dksL_law_30 8 rfl rfl)
theorem dL_law_855 : decode cL_law 855 = .ok (.aload_n 0, 1) := dk_42 (dk_at dksL_law_30 9 rfl rfl)
theorem dL_law_856 : decode cL_law 856 = .ok (.iload_n 3, 1) := dk_29 (dk_at dksL_law_30 10 rfl rfl)
theorem dL_law_857 : decode cL_law 857 = .ok (.iconst 1, 1) := dk_4 (dk_at dksL_law_30 11 rfl rfl)
theorem dL_law_858 : decode cL_law 858 = .ok (.iadd, 1) := dk_96 (dk_at dksL_law_30 12 rfl rfl)
theorem dL_law_859 : decode cL_law 859 = .ok (.iaload, 1) := dk_46 (dk_at dksL_law_30 13 rfl rfl)
theorem dL_law_860 : decode cL_law 860 = .ok (.invokevirtual 108, 3) := dk_182 0 108 (dk_at dksL_law_30 14 rfl rfl)
theorem dL_law_863 : decode cL_law 863 = .ok (.aload_n 2, 1) := dk_44 (dk_at dksL_law_30 17 rfl rfl)
theorem dL_law_864 : decode cL_law 864 = .ok (.aload_n 0, 1) := dk_42 (dk_at dksL_law_30 18 rfl rfl)
theorem dL_law_865 : decode cL_law 865 = .ok (.iload_n 3, 1) := dk_29 (dk_at dksL_law_30 19 rfl rfl)
theorem dL_law_866 : decode cL_law 866 = .ok (.iconst 1, 1) := dk_4 (dk_at dksL_law_30 20 rfl rfl)
theorem dL_law_867 : decode cL_law 867 = .ok (.iadd, 1) := dk_96 (dk_at dksL_law_30 21 rfl rfl)
theorem dL_law_868 : decode cL_law 868 = .ok (.iaload, 1) := dk_46 (dk_at dksL_law_30 22 rfl rfl)
theorem dL_law_869 : decode cL_law 869 = .ok (.invokevirtual 111, 3) := dk_182 0 111 (dk_at dksL_law_31 0 rfl rfl)
theorem dL_law_872 : decode cL_law 872 = .ok (.if_icmp .eq 596, 3) := dk_159 2 84 (dk_at dksL_law_31 3 rfl rfl)
theorem dL_law_875 : decode cL_law 875 = .ok (.iconst 0, 1) := dk_3 (dk_at dksL_law_31 6 rfl rfl)
theorem dL_law_876 : decode cL_law 876 = .ok (.ireturn, 1) := dk_172 (dk_at dksL_law_31 7 rfl rfl)
theorem dL_law_877 : decode cL_law 877 = .ok (.aload_n 1, 1) := dk_43 (dk_at dksL_law_31 8 rfl rfl)
theorem dL_law_878 : decode cL_law 878 = .ok (.aload_n 0, 1) := dk_42 (dk_at dksL_law_31 9 rfl rfl)
theorem dL_law_879 : decode cL_law 879 = .ok (.iload_n 3, 1) := dk_29 (dk_at dksL_law_31 10 rfl rfl)
theorem dL_law_880 : decode cL_law 880 = .ok (.iconst 1, 1) := dk_4 (dk_at dksL_law_31 11 rfl rfl)
theorem dL_law_881 : decode cL_law 881 = .ok (.iadd, 1) := dk_96 (dk_at dksL_law_31 12 rfl rfl)
theorem dL_law_882 : decode cL_law 882 = .ok (.iaload, 1) := dk_46 (dk_at dksL_law_31 13 rfl rfl)
theorem dL_law_883 : decode cL_law 883 = .ok (.invokevirtual 112, 3) := dk_182 0 112 (dk_at dksL_law_31 14 rfl rfl)
theorem dL_law_886 : decode cL_law 886 = .ok (.aload_n 2, 1) := dk_44 (dk_at dksL_law_31 17 rfl rfl)
theorem dL_law_887 : decode cL_law 887 = .ok (.aload_n 0, 1) := dk_42 (dk_at dksL_law_31 18 rfl rfl)
theorem dL_law_888 : decode cL_law 888 = .ok (.iload_n 3, 1) := dk_29 (dk_at dksL_law_31 19 rfl rfl)
theorem dL_law_889 : decode cL_law 889 = .ok (.iconst 1, 1) := dk_4 (dk_at dksL_law_31 20 rfl rfl)
theorem dL_law_890 : decode cL_law 890 = .ok (.iadd, 1) := dk_96 (dk_at dksL_law_31 21 rfl rfl)
theorem dL_law_891 : decode cL_law 891 = .ok (.iaload, 1) := dk_46 (dk_at dksL_law_31 22 rfl rfl)
theorem dL_law_892 : decode cL_law 892 = .ok (.invokevirtual 115, 3) := dk_182 0 115 (dk_at dksL_law_32 0 rfl rfl)
theorem dL_law_895 : decode cL_law 895 = .ok (.if_icmp .eq 573, 3) := dk_159 2 61 (dk_at dksL_law_32 3 rfl rfl)
theorem dL_law_898 : decode cL_law 898 = .ok (.iconst 0, 1) := dk_3 (dk_at dksL_law_32 6 rfl rfl)
theorem dL_law_899 : decode cL_law 899 = .ok (.ireturn, 1) := dk_172 (dk_at dksL_law_32 7 rfl rfl)
theorem dL_law_900 : decode cL_law 900 = .ok (.aload_n 1, 1) := dk_43 (dk_at dksL_law_32 8 rfl rfl)
theorem dL_law_901 : decode cL_law 901 = .ok (.aload_n 0, 1) := dk_42 (dk_at dksL_law_32 9 rfl rfl)
theorem dL_law_902 : decode cL_law 902 = .ok (.iload_n 3, 1) := dk_29 (dk_at dksL_law_32 10 rfl rfl)
theorem dL_law_903 : decode cL_law 903 = .ok (.iconst 1, 1) := dk_4 (dk_at dksL_law_32 11 rfl rfl)
theorem dL_law_904 : decode cL_law 904 = .ok (.iadd, 1) := dk_96 (dk_at dksL_law_32 12 rfl rfl)
theorem dL_law_905 : decode cL_law 905 = .ok (.iaload, 1) := dk_46 (dk_at dksL_law_32 13 rfl rfl)
theorem dL_law_906 : decode cL_law 906 = .ok (.ifCond .eq 7, 3) := dk_153 0 7 (dk_at dksL_law_32 14 rfl rfl)
theorem dL_law_909 : decode cL_law 909 = .ok (.iconst 1, 1) := dk_4 (dk_at dksL_law_32 17 rfl rfl)
theorem dL_law_910 : decode cL_law 910 = .ok (.goto 4, 3) := dk_167 0 4 (dk_at dksL_law_32 18 rfl rfl)
theorem dL_law_913 : decode cL_law 913 = .ok (.iconst 0, 1) := dk_3 (dk_at dksL_law_32 21 rfl rfl)
theorem dL_law_914 : decode cL_law 914 = .ok (.invokevirtual 116, 3) := dk_182 0 116 (dk_at dksL_law_33 0 rfl rfl)
theorem dL_law_917 : decode cL_law 917 = .ok (.aload_n 2, 1) := dk_44 (dk_at dksL_law_33 3 rfl rfl)
theorem dL_law_918 : decode cL_law 918 = .ok (.aload_n 0, 1) := dk_42 (dk_at dksL_law_33 4 rfl rfl)
theorem dL_law_919 : decode cL_law 919 = .ok (.iload_n 3, 1) := dk_29 (dk_at dksL_law_33 5 rfl rfl)
theorem dL_law_920 : decode cL_law 920 = .ok (.iconst 1, 1) := dk_4 (dk_at dksL_law_33 6 rfl rfl)
theorem dL_law_921 : decode cL_law 921 = .ok (.iadd, 1) := dk_96 (dk_at dksL_law_33 7 rfl rfl)
theorem dL_law_922 : decode cL_law 922 = .ok (.iaload, 1) := dk_46 (dk_at dksL_law_33 8 rfl rfl)
theorem dL_law_923 : decode cL_law 923 = .ok (.ifCond .eq 7, 3) := dk_153 0 7 (dk_at dksL_law_33 9 rfl rfl)
theorem dL_law_926 : decode cL_law 926 = .ok (.iconst 1, 1) := dk_4 (dk_at dksL_law_33 12 rfl rfl)
theorem dL_law_927 : decode cL_law 927 = .ok (.goto 4, 3) := dk_167 0 4 (dk_at dksL_law_33 13 rfl rfl)
theorem dL_law_930 : decode cL_law 930 = .ok (.iconst 0, 1) := dk_3 (dk_at dksL_law_33 16 rfl rfl)
theorem dL_law_931 : decode cL_law 931 = .ok (.invokevirtual 120, 3) := dk_182 0 120 (dk_at dksL_law_33 17 rfl rfl)
theorem dL_law_934 : decode cL_law 934 = .ok (.if_icmp .eq 534, 3) := dk_159 2 22 (dk_at dksL_law_33 20 rfl rfl)
theorem dL_law_937 : decode cL_law 937 = .ok (.iconst 0, 1) := dk_3 (dk_at dksL_law_33 23 rfl rfl)
theorem dL_law_938 : decode cL_law 938 = .ok (.ireturn, 1) := dk_172 (dk_at dksL_law_34 0 rfl rfl)
theorem dL_law_939 : decode cL_law 939 = .ok (.aload_n 1, 1) := dk_43 (dk_at dksL_law_34 1 rfl rfl)
theorem dL_law_940 : decode cL_law 940 = .ok (.aload_n 0, 1) := dk_42 (dk_at dksL_law_34 2 rfl rfl)
theorem dL_law_941 : decode cL_law 941 = .ok (.iload_n 3, 1) := dk_29 (dk_at dksL_law_34 3 rfl rfl)
theorem dL_law_942 : decode cL_law 942 = .ok (.iconst 1, 1) := dk_4 (dk_at dksL_law_34 4 rfl rfl)
theorem dL_law_943 : decode cL_law 943 = .ok (.iadd, 1) := dk_96 (dk_at dksL_law_34 5 rfl rfl)
theorem dL_law_944 : decode cL_law 944 = .ok (.iaload, 1) := dk_46 (dk_at dksL_law_34 6 rfl rfl)
theorem dL_law_945 : decode cL_law 945 = .ok (.aload_n 0, 1) := dk_42 (dk_at dksL_law_34 7 rfl rfl)
theorem dL_law_946 : decode cL_law 946 = .ok (.iload_n 3, 1) := dk_29 (dk_at dksL_law_34 8 rfl rfl)
theorem dL_law_947 : decode cL_law 947 = .ok (.iconst 2, 1) := dk_5 (dk_at dksL_law_34 9 rfl rfl)
theorem dL_law_948 : decode cL_law 948 = .ok (.iadd, 1) := dk_96 (dk_at dksL_law_34 10 rfl rfl)
theorem dL_law_949 : decode cL_law 949 = .ok (.iaload, 1) := dk_46 (dk_at dksL_law_34 11 rfl rfl)
theorem dL_law_950 : decode cL_law 950 = .ok (.aload_n 0, 1) := dk_42 (dk_at dksL_law_34 12 rfl rfl)
theorem dL_law_951 : decode cL_law 951 = .ok (.iload_n 3, 1) := dk_29 (dk_at dksL_law_34 13 rfl rfl)
theorem dL_law_952 : decode cL_law 952 = .ok (.iconst 3, 1) := dk_6 (dk_at dksL_law_34 14 rfl rfl)
theorem dL_law_953 : decode cL_law 953 = .ok (.iadd, 1) := dk_96 (dk_at dksL_law_34 15 rfl rfl)
theorem dL_law_954 : decode cL_law 954 = .ok (.iaload, 1) := dk_46 (dk_at dksL_law_34 16 rfl rfl)
theorem dL_law_955 : decode cL_law 955 = .ok (.aload_n 0, 1) := dk_42 (dk_at dksL_law_34 17 rfl rfl)
theorem dL_law_956 : decode cL_law 956 = .ok (.iload_n 3, 1) := dk_29 (dk_at dksL_law_34 18 rfl rfl)
theorem dL_law_957 : decode cL_law 957 = .ok (.iconst 4, 1) := dk_7 (dk_at dksL_law_34 19 rfl rfl)
theorem dL_law_958 : decode cL_law 958 = .ok (.iadd, 1) := dk_96 (dk_at dksL_law_34 20 rfl rfl)
theorem dL_law_959 : decode cL_law 959 = .ok (.iaload, 1) := dk_46 (dk_at dksL_law_34 21 rfl rfl)
theorem dL_law_960 : decode cL_law 960 = .ok (.ifCond .eq 7, 3) := dk_153 0 7 (dk_at dksL_law_35 0 rfl rfl)
theorem dL_law_963 : decode cL_law 963 = .ok (.iconst 1, 1) := dk_4 (dk_at dksL_law_35 3 rfl rfl)
theorem dL_law_964 : decode cL_law 964 = .ok (.goto 4, 3) := dk_167 0 4 (dk_at dksL_law_35 4 rfl rfl)
theorem dL_law_967 : decode cL_law 967 = .ok (.iconst 0, 1) := dk_3 (dk_at dksL_law_35 7 rfl rfl)
theorem dL_law_968 : decode cL_law 968 = .ok (.invokevirtual 121, 3) := dk_182 0 121 (dk_at dksL_law_35 8 rfl rfl)
theorem dL_law_971 : decode cL_law 971 = .ok (.aload_n 2, 1) := dk_44 (dk_at dksL_law_35 11 rfl rfl)
theorem dL_law_972 : decode cL_law 972 = .ok (.aload_n 0, 1) := dk_42 (dk_at dksL_law_35 12 rfl rfl)
theorem dL_law_973 : decode cL_law 973 = .ok (.iload_n 3, 1) := dk_29 (dk_at dksL_law_35 13 rfl rfl)
theorem dL_law_974 : decode cL_law 974 = .ok (.iconst 1, 1) := dk_4 (dk_at dksL_law_35 14 rfl rfl)
theorem dL_law_975 : decode cL_law 975 = .ok (.iadd, 1) := dk_96 (dk_at dksL_law_35 15 rfl rfl)
theorem dL_law_976 : decode cL_law 976 = .ok (.iaload, 1) := dk_46 (dk_at dksL_law_35 16 rfl rfl)
theorem dL_law_977 : decode cL_law 977 = .ok (.aload_n 0, 1) := dk_42 (dk_at dksL_law_35 17 rfl rfl)
theorem dL_law_978 : decode cL_law 978 = .ok (.iload_n 3, 1) := dk_29 (dk_at dksL_law_35 18 rfl rfl)
theorem dL_law_979 : decode cL_law 979 = .ok (.iconst 2, 1) := dk_5 (dk_at dksL_law_35 19 rfl rfl)
theorem dL_law_980 : decode cL_law 980 = .ok (.iadd, 1) := dk_96 (dk_at dksL_law_35 20 rfl rfl)
theorem dL_law_981 : decode cL_law 981 = .ok (.iaload, 1) := dk_46 (dk_at dksL_law_35 21 rfl rfl)
theorem dL_law_982 : decode cL_law 982 = .ok (.aload_n 0, 1) := dk_42 (dk_at dksL_law_35 22 rfl rfl)
theorem dL_law_983 : decode cL_law 983 = .ok (.iload_n 3, 1) := dk_29 (dk_at dksL_law_35 23 rfl rfl)
theorem dL_law_984 : decode cL_law 984 = .ok (.iconst 3, 1) := dk_6 (dk_at dksL_law_36 0 rfl rfl)
theorem dL_law_985 : decode cL_law 985 = .ok (.iadd, 1) := dk_96 (dk_at dksL_law_36 1 rfl rfl)
theorem dL_law_986 : decode cL_law 986 = .ok (.iaload, 1) := dk_46 (dk_at dksL_law_36 2 rfl rfl)
theorem dL_law_987 : decode cL_law 987 = .ok (.aload_n 0, 1) := dk_42 (dk_at dksL_law_36 3 rfl rfl)
theorem dL_law_988 : decode cL_law 988 = .ok (.iload_n 3, 1) := dk_29 (dk_at dksL_law_36 4 rfl rfl)
theorem dL_law_989 : decode cL_law 989 = .ok (.iconst 4, 1) := dk_7 (dk_at dksL_law_36 5 rfl rfl)
theorem dL_law_990 : decode cL_law 990 = .ok (.iadd, 1) := dk_96 (dk_at dksL_law_36 6 rfl rfl)
theorem dL_law_991 : decode cL_law 991 = .ok (.iaload, 1) := dk_46 (dk_at dksL_law_36 7 rfl rfl)
theorem dL_law_992 : decode cL_law 992 = .ok (.ifCond .eq 7, 3) := dk_153 0 7 (dk_at dksL_law_36 8 rfl rfl)
theorem dL_law_995 : decode cL_law 995 = .ok (.iconst 1, 1) := dk_4 (dk_at dksL_law_36 11 rfl rfl)
theorem dL_law_996 : decode cL_law 996 = .ok (.goto 4, 3) := dk_167 0 4 (dk_at dksL_law_36 12 rfl rfl)
theorem dL_law_999 : decode cL_law 999 = .ok (.iconst 0, 1) := dk_3 (dk_at dksL_law_36 15 rfl rfl)
theorem dL_law_1000 : decode cL_law 1000 = .ok (.invokevirtual 125, 3) := dk_182 0 125 (dk_at dksL_law_36 16 rfl rfl)
theorem dL_law_1003 : decode cL_law 1003 = .ok (.if_icmp .eq 465, 3) := dk_159 1 209 (dk_at dksL_law_36 19 rfl rfl)
theorem dL_law_1006 : decode cL_law 1006 = .ok (.iconst 0, 1) := dk_3 (dk_at dksL_law_36 22 rfl rfl)
theorem dL_law_1007 : decode cL_law 1007 = .ok (.ireturn, 1) := dk_172 (dk_at dksL_law_36 23 rfl rfl)
theorem dL_law_1008 : decode cL_law 1008 = .ok (.aload_n 1, 1) := dk_43 (dk_at dksL_law_37 0 rfl rfl)
theorem dL_law_1009 : decode cL_law 1009 = .ok (.aload_n 0, 1) := dk_42 (dk_at dksL_law_37 1 rfl rfl)
theorem dL_law_1010 : decode cL_law 1010 = .ok (.iload_n 3, 1) := dk_29 (dk_at dksL_law_37 2 rfl rfl)
theorem dL_law_1011 : decode cL_law 1011 = .ok (.iconst 1, 1) := dk_4 (dk_at dksL_law_37 3 rfl rfl)
theorem dL_law_1012 : decode cL_law 1012 = .ok (.iadd, 1) := dk_96 (dk_at dksL_law_37 4 rfl rfl)
theorem dL_law_1013 : decode cL_law 1013 = .ok (.iaload, 1) := dk_46 (dk_at dksL_law_37 5 rfl rfl)
theorem dL_law_1014 : decode cL_law 1014 = .ok (.invokevirtual 126, 3) := dk_182 0 126 (dk_at dksL_law_37 6 rfl rfl)
theorem dL_law_1017 : decode cL_law 1017 = .ok (.aload_n 2, 1) := dk_44 (dk_at dksL_law_37 9 rfl rfl)
theorem dL_law_1018 : decode cL_law 1018 = .ok (.aload_n 0, 1) := dk_42 (dk_at dksL_law_37 10 rfl rfl)
theorem dL_law_1019 : decode cL_law 1019 = .ok (.iload_n 3, 1) := dk_29 (dk_at dksL_law_37 11 rfl rfl)
theorem dL_law_1020 : decode cL_law 1020 = .ok (.iconst 1, 1) := dk_4 (dk_at dksL_law_37 12 rfl rfl)
theorem dL_law_1021 : decode cL_law 1021 = .ok (.iadd, 1) := dk_96 (dk_at dksL_law_37 13 rfl rfl)
theorem dL_law_1022 : decode cL_law 1022 = .ok (.iaload, 1) := dk_46 (dk_at dksL_law_37 14 rfl rfl)
theorem dL_law_1023 : decode cL_law 1023 = .ok (.invokevirtual 129, 3) := dk_182 0 129 (dk_at dksL_law_37 15 rfl rfl)
theorem dL_law_1026 : decode cL_law 1026 = .ok (.if_icmp .eq 442, 3) := dk_159 1 186 (dk_at dksL_law_37 18 rfl rfl)
theorem dL_law_1029 : decode cL_law 1029 = .ok (.iconst 0, 1) := dk_3 (dk_at dksL_law_37 21 rfl rfl)
theorem dL_law_1030 : decode cL_law 1030 = .ok (.ireturn, 1) := dk_172 (dk_at dksL_law_37 22 rfl rfl)
theorem dL_law_1031 : decode cL_law 1031 = .ok (.aload_n 1, 1) := dk_43 (dk_at dksL_law_37 23 rfl rfl)
theorem dL_law_1032 : decode cL_law 1032 = .ok (.aload_n 0, 1) := dk_42 (dk_at dksL_law_38 0 rfl rfl)
theorem dL_law_1033 : decode cL_law 1033 = .ok (.iload_n 3, 1) := dk_29 (dk_at dksL_law_38 1 rfl rfl)
theorem dL_law_1034 : decode cL_law 1034 = .ok (.iconst 1, 1) := dk_4 (dk_at dksL_law_38 2 rfl rfl)
theorem dL_law_1035 : decode cL_law 1035 = .ok (.iadd, 1) := dk_96 (dk_at dksL_law_38 3 rfl rfl)
theorem dL_law_1036 : decode cL_law 1036 = .ok (.iaload, 1) := dk_46 (dk_at dksL_law_38 4 rfl rfl)
theorem dL_law_1037 : decode cL_law 1037 = .ok (.invokevirtual 130, 3) := dk_182 0 130 (dk_at dksL_law_38 5 rfl rfl)
theorem dL_law_1040 : decode cL_law 1040 = .ok (.aload_n 2, 1) := dk_44 (dk_at dksL_law_38 8 rfl rfl)
theorem dL_law_1041 : decode cL_law 1041 = .ok (.aload_n 0, 1) := dk_42 (dk_at dksL_law_38 9 rfl rfl)
theorem dL_law_1042 : decode cL_law 1042 = .ok (.iload_n 3, 1) := dk_29 (dk_at dksL_law_38 10 rfl rfl)
theorem dL_law_1043 : decode cL_law 1043 = .ok (.iconst 1, 1) := dk_4 (dk_at dksL_law_38 11 rfl rfl)
theorem dL_law_1044 : decode cL_law 1044 = .ok (.iadd, 1) := dk_96 (dk_at dksL_law_38 12 rfl rfl)
theorem dL_law_1045 : decode cL_law 1045 = .ok (.iaload, 1) := dk_46 (dk_at dksL_law_38 13 rfl rfl)
theorem dL_law_1046 : decode cL_law 1046 = .ok (.invokevirtual 133, 3) := dk_182 0 133 (dk_at dksL_law_38 14 rfl rfl)
theorem dL_law_1049 : decode cL_law 1049 = .ok (.if_icmp .eq 419, 3) := dk_159 1 163 (dk_at dksL_law_38 17 rfl rfl)
theorem dL_law_1052 : decode cL_law 1052 = .ok (.iconst 0, 1) := dk_3 (dk_at dksL_law_38 20 rfl rfl)
theorem dL_law_1053 : decode cL_law 1053 = .ok (.ireturn, 1) := dk_172 (dk_at dksL_law_38 21 rfl rfl)
theorem dL_law_1054 : decode cL_law 1054 = .ok (.aload_n 1, 1) := dk_43 (dk_at dksL_law_38 22 rfl rfl)
theorem dL_law_1055 : decode cL_law 1055 = .ok (.aload_n 0, 1) := dk_42 (dk_at dksL_law_38 23 rfl rfl)
theorem dL_law_1056 : decode cL_law 1056 = .ok (.iload_n 3, 1) := dk_29 (dk_at dksL_law_39 0 rfl rfl)
theorem dL_law_1057 : decode cL_law 1057 = .ok (.iconst 1, 1) := dk_4 (dk_at dksL_law_39 1 rfl rfl)
theorem dL_law_1058 : decode cL_law 1058 = .ok (.iadd, 1) := dk_96 (dk_at dksL_law_39 2 rfl rfl)
theorem dL_law_1059 : decode cL_law 1059 = .ok (.iaload, 1) := dk_46 (dk_at dksL_law_39 3 rfl rfl)
theorem dL_law_1060 : decode cL_law 1060 = .ok (.aload_n 0, 1) := dk_42 (dk_at dksL_law_39 4 rfl rfl)
theorem dL_law_1061 : decode cL_law 1061 = .ok (.iload_n 3, 1) := dk_29 (dk_at dksL_law_39 5 rfl rfl)
theorem dL_law_1062 : decode cL_law 1062 = .ok (.iconst 2, 1) := dk_5 (dk_at dksL_law_39 6 rfl rfl)
theorem dL_law_1063 : decode cL_law 1063 = .ok (.iadd, 1) := dk_96 (dk_at dksL_law_39 7 rfl rfl)
theorem dL_law_1064 : decode cL_law 1064 = .ok (.iaload, 1) := dk_46 (dk_at dksL_law_39 8 rfl rfl)
theorem dL_law_1065 : decode cL_law 1065 = .ok (.invokevirtual 134, 3) := dk_182 0 134 (dk_at dksL_law_39 9 rfl rfl)
theorem dL_law_1068 : decode cL_law 1068 = .ok (.aload_n 2, 1) := dk_44 (dk_at dksL_law_39 12 rfl rfl)
theorem dL_law_1069 : decode cL_law 1069 = .ok (.aload_n 0, 1) := dk_42 (dk_at dksL_law_39 13 rfl rfl)
theorem dL_law_1070 : decode cL_law 1070 = .ok (.iload_n 3, 1) := dk_29 (dk_at dksL_law_39 14 rfl rfl)
theorem dL_law_1071 : decode cL_law 1071 = .ok (.iconst 1, 1) := dk_4 (dk_at dksL_law_39 15 rfl rfl)
theorem dL_law_1072 : decode cL_law 1072 = .ok (.iadd, 1) := dk_96 (dk_at dksL_law_39 16 rfl rfl)
theorem dL_law_1073 : decode cL_law 1073 = .ok (.iaload, 1) := dk_46 (dk_at dksL_law_39 17 rfl rfl)
theorem dL_law_1074 : decode cL_law 1074 = .ok (.aload_n 0, 1) := dk_42 (dk_at dksL_law_39 18 rfl rfl)
theorem dL_law_1075 : decode cL_law 1075 = .ok (.iload_n 3, 1) := dk_29 (dk_at dksL_law_39 19 rfl rfl)
theorem dL_law_1076 : decode cL_law 1076 = .ok (.iconst 2, 1) := dk_5 (dk_at dksL_law_39 20 rfl rfl)
theorem dL_law_1077 : decode cL_law 1077 = .ok (.iadd, 1) := dk_96 (dk_at dksL_law_39 21 rfl rfl)
theorem dL_law_1078 : decode cL_law 1078 = .ok (.iaload, 1) := dk_46 (dk_at dksL_law_39 22 rfl rfl)
theorem dL_law_1079 : decode cL_law 1079 = .ok (.invokevirtual 137, 3) := dk_182 0 137 (dk_at dksL_law_40 0 rfl rfl)
theorem dL_law_1082 : decode cL_law 1082 = .ok (.if_icmp .eq 386, 3) := dk_159 1 130 (dk_at dksL_law_40 3 rfl rfl)
theorem dL_law_1085 : decode cL_law 1085 = .ok (.iconst 0, 1) := dk_3 (dk_at dksL_law_40 6 rfl rfl)
theorem dL_law_1086 : decode cL_law 1086 = .ok (.ireturn, 1) := dk_172 (dk_at dksL_law_40 7 rfl rfl)
theorem dL_law_1087 : decode cL_law 1087 = .ok (.aload_n 1, 1) := dk_43 (dk_at dksL_law_40 8 rfl rfl)
theorem dL_law_1088 : decode cL_law 1088 = .ok (.aload_n 0, 1) := dk_42 (dk_at dksL_law_40 9 rfl rfl)
theorem dL_law_1089 : decode cL_law 1089 = .ok (.iload_n 3, 1) := dk_29 (dk_at dksL_law_40 10 rfl rfl)
theorem dL_law_1090 : decode cL_law 1090 = .ok (.iconst 1, 1) := dk_4 (dk_at dksL_law_40 11 rfl rfl)
theorem dL_law_1091 : decode cL_law 1091 = .ok (.iadd, 1) := dk_96 (dk_at dksL_law_40 12 rfl rfl)
theorem dL_law_1092 : decode cL_law 1092 = .ok (.iaload, 1) := dk_46 (dk_at dksL_law_40 13 rfl rfl)
theorem dL_law_1093 : decode cL_law 1093 = .ok (.aload_n 0, 1) := dk_42 (dk_at dksL_law_40 14 rfl rfl)
theorem dL_law_1094 : decode cL_law 1094 = .ok (.iload_n 3, 1) := dk_29 (dk_at dksL_law_40 15 rfl rfl)
theorem dL_law_1095 : decode cL_law 1095 = .ok (.iconst 2, 1) := dk_5 (dk_at dksL_law_40 16 rfl rfl)
theorem dL_law_1096 : decode cL_law 1096 = .ok (.iadd, 1) := dk_96 (dk_at dksL_law_40 17 rfl rfl)
theorem dL_law_1097 : decode cL_law 1097 = .ok (.iaload, 1) := dk_46 (dk_at dksL_law_40 18 rfl rfl)
theorem dL_law_1098 : decode cL_law 1098 = .ok (.aload_n 0, 1) := dk_42 (dk_at dksL_law_40 19 rfl rfl)
theorem dL_law_1099 : decode cL_law 1099 = .ok (.iload_n 3, 1) := dk_29 (dk_at dksL_law_40 20 rfl rfl)
theorem dL_law_1100 : decode cL_law 1100 = .ok (.iconst 3, 1) := dk_6 (dk_at dksL_law_40 21 rfl rfl)
theorem dL_law_1101 : decode cL_law 1101 = .ok (.iadd, 1) := dk_96 (dk_at dksL_law_40 22 rfl rfl)
theorem dL_law_1102 : decode cL_law 1102 = .ok (.iaload, 1) := dk_46 (dk_at dksL_law_40 23 rfl rfl)
theorem dL_law_1103 : decode cL_law 1103 = .ok (.ifCond .eq 7, 3) := dk_153 0 7 (dk_at dksL_law_41 0 rfl rfl)
theorem dL_law_1106 : decode cL_law 1106 = .ok (.iconst 1, 1) := dk_4 (dk_at dksL_law_41 3 rfl rfl)
theorem dL_law_1107 : decode cL_law 1107 = .ok (.goto 4, 3) := dk_167 0 4 (dk_at dksL_law_41 4 rfl rfl)
theorem dL_law_1110 : decode cL_law 1110 = .ok (.iconst 0, 1) := dk_3 (dk_at dksL_law_41 7 rfl rfl)
theorem dL_law_1111 : decode cL_law 1111 = .ok (.invokevirtual 138, 3) := dk_182 0 138 (dk_at dksL_law_41 8 rfl rfl)
theorem dL_law_1114 : decode cL_law 1114 = .ok (.aload_n 2, 1) := dk_44 (dk_at dksL_law_41 11 rfl rfl)
theorem dL_law_1115 : decode cL_law 1115 = .ok (.aload_n 0, 1) := dk_42 (dk_at dksL_law_41 12 rfl rfl)
theorem dL_law_1116 : decode cL_law 1116 = .ok (.iload_n 3, 1) := dk_29 (dk_at dksL_law_41 13 rfl rfl)
theorem dL_law_1117 : decode cL_law 1117 = .ok (.iconst 1, 1) := dk_4 (dk_at dksL_law_41 14 rfl rfl)
theorem dL_law_1118 : decode cL_law 1118 = .ok (.iadd, 1) := dk_96 (dk_at dksL_law_41 15 rfl rfl)
theorem dL_law_1119 : decode cL_law 1119 = .ok (.iaload, 1) := dk_46 (dk_at dksL_law_41 16 rfl rfl)
theorem dL_law_1120 : decode cL_law 1120 = .ok (.aload_n 0, 1) := dk_42 (dk_at dksL_law_41 17 rfl rfl)
theorem dL_law_1121 : decode cL_law 1121 = .ok (.iload_n 3, 1) := dk_29 (dk_at dksL_law_41 18 rfl rfl)
theorem dL_law_1122 : decode cL_law 1122 = .ok (.iconst 2, 1) := dk_5 (dk_at dksL_law_41 19 rfl rfl)
theorem dL_law_1123 : decode cL_law 1123 = .ok (.iadd, 1) := dk_96 (dk_at dksL_law_41 20 rfl rfl)
theorem dL_law_1124 : decode cL_law 1124 = .ok (.iaload, 1) := dk_46 (dk_at dksL_law_41 21 rfl rfl)
theorem dL_law_1125 : decode cL_law 1125 = .ok (.aload_n 0, 1) := dk_42 (dk_at dksL_law_41 22 rfl rfl)
theorem dL_law_1126 : decode cL_law 1126 = .ok (.iload_n 3, 1) := dk_29 (dk_at dksL_law_41 23 rfl rfl)
theorem dL_law_1127 : decode cL_law 1127 = .ok (.iconst 3, 1) := dk_6 (dk_at dksL_law_42 0 rfl rfl)
theorem dL_law_1128 : decode cL_law 1128 = .ok (.iadd, 1) := dk_96 (dk_at dksL_law_42 1 rfl rfl)
theorem dL_law_1129 : decode cL_law 1129 = .ok (.iaload, 1) := dk_46 (dk_at dksL_law_42 2 rfl rfl)
theorem dL_law_1130 : decode cL_law 1130 = .ok (.ifCond .eq 7, 3) := dk_153 0 7 (dk_at dksL_law_42 3 rfl rfl)
theorem dL_law_1133 : decode cL_law 1133 = .ok (.iconst 1, 1) := dk_4 (dk_at dksL_law_42 6 rfl rfl)
theorem dL_law_1134 : decode cL_law 1134 = .ok (.goto 4, 3) := dk_167 0 4 (dk_at dksL_law_42 7 rfl rfl)
theorem dL_law_1137 : decode cL_law 1137 = .ok (.iconst 0, 1) := dk_3 (dk_at dksL_law_42 10 rfl rfl)
theorem dL_law_1138 : decode cL_law 1138 = .ok (.invokevirtual 142, 3) := dk_182 0 142 (dk_at dksL_law_42 11 rfl rfl)
theorem dL_law_1141 : decode cL_law 1141 = .ok (.if_icmp .eq 327, 3) := dk_159 1 71 (dk_at dksL_law_42 14 rfl rfl)
theorem dL_law_1144 : decode cL_law 1144 = .ok (.iconst 0, 1) := dk_3 (dk_at dksL_law_42 17 rfl rfl)
theorem dL_law_1145 : decode cL_law 1145 = .ok (.ireturn, 1) := dk_172 (dk_at dksL_law_42 18 rfl rfl)
theorem dL_law_1146 : decode cL_law 1146 = .ok (.aload_n 1, 1) := dk_43 (dk_at dksL_law_42 19 rfl rfl)
theorem dL_law_1147 : decode cL_law 1147 = .ok (.aload_n 0, 1) := dk_42 (dk_at dksL_law_42 20 rfl rfl)
theorem dL_law_1148 : decode cL_law 1148 = .ok (.iload_n 3, 1) := dk_29 (dk_at dksL_law_42 21 rfl rfl)
theorem dL_law_1149 : decode cL_law 1149 = .ok (.iconst 1, 1) := dk_4 (dk_at dksL_law_42 22 rfl rfl)
theorem dL_law_1150 : decode cL_law 1150 = .ok (.iadd, 1) := dk_96 (dk_at dksL_law_42 23 rfl rfl)
theorem dL_law_1151 : decode cL_law 1151 = .ok (.iaload, 1) := dk_46 (dk_at dksL_law_43 0 rfl rfl)
theorem dL_law_1152 : decode cL_law 1152 = .ok (.aload_n 0, 1) := dk_42 (dk_at dksL_law_43 1 rfl rfl)
theorem dL_law_1153 : decode cL_law 1153 = .ok (.iload_n 3, 1) := dk_29 (dk_at dksL_law_43 2 rfl rfl)
theorem dL_law_1154 : decode cL_law 1154 = .ok (.iconst 2, 1) := dk_5 (dk_at dksL_law_43 3 rfl rfl)
theorem dL_law_1155 : decode cL_law 1155 = .ok (.iadd, 1) := dk_96 (dk_at dksL_law_43 4 rfl rfl)
theorem dL_law_1156 : decode cL_law 1156 = .ok (.iaload, 1) := dk_46 (dk_at dksL_law_43 5 rfl rfl)
theorem dL_law_1157 : decode cL_law 1157 = .ok (.invokevirtual 143, 3) := dk_182 0 143 (dk_at dksL_law_43 6 rfl rfl)
theorem dL_law_1160 : decode cL_law 1160 = .ok (.aload_n 2, 1) := dk_44 (dk_at dksL_law_43 9 rfl rfl)
theorem dL_law_1161 : decode cL_law 1161 = .ok (.aload_n 0, 1) := dk_42 (dk_at dksL_law_43 10 rfl rfl)
theorem dL_law_1162 : decode cL_law 1162 = .ok (.iload_n 3, 1) := dk_29 (dk_at dksL_law_43 11 rfl rfl)
theorem dL_law_1163 : decode cL_law 1163 = .ok (.iconst 1, 1) := dk_4 (dk_at dksL_law_43 12 rfl rfl)
theorem dL_law_1164 : decode cL_law 1164 = .ok (.iadd, 1) := dk_96 (dk_at dksL_law_43 13 rfl rfl)
theorem dL_law_1165 : decode cL_law 1165 = .ok (.iaload, 1) := dk_46 (dk_at dksL_law_43 14 rfl rfl)
theorem dL_law_1166 : decode cL_law 1166 = .ok (.aload_n 0, 1) := dk_42 (dk_at dksL_law_43 15 rfl rfl)
theorem dL_law_1167 : decode cL_law 1167 = .ok (.iload_n 3, 1) := dk_29 (dk_at dksL_law_43 16 rfl rfl)
theorem dL_law_1168 : decode cL_law 1168 = .ok (.iconst 2, 1) := dk_5 (dk_at dksL_law_43 17 rfl rfl)
theorem dL_law_1169 : decode cL_law 1169 = .ok (.iadd, 1) := dk_96 (dk_at dksL_law_43 18 rfl rfl)
theorem dL_law_1170 : decode cL_law 1170 = .ok (.iaload, 1) := dk_46 (dk_at dksL_law_43 19 rfl rfl)
theorem dL_law_1171 : decode cL_law 1171 = .ok (.invokevirtual 146, 3) := dk_182 0 146 (dk_at dksL_law_43 20 rfl rfl)
theorem dL_law_1174 : decode cL_law 1174 = .ok (.if_icmp .eq 294, 3) := dk_159 1 38 (dk_at dksL_law_44 0 rfl rfl)
theorem dL_law_1177 : decode cL_law 1177 = .ok (.iconst 0, 1) := dk_3 (dk_at dksL_law_44 3 rfl rfl)
theorem dL_law_1178 : decode cL_law 1178 = .ok (.ireturn, 1) := dk_172 (dk_at dksL_law_44 4 rfl rfl)
theorem dL_law_1179 : decode cL_law 1179 = .ok (.aload_n 1, 1) := dk_43 (dk_at dksL_law_44 5 rfl rfl)
theorem dL_law_1180 : decode cL_law 1180 = .ok (.aload_n 0, 1) := dk_42 (dk_at dksL_law_44 6 rfl rfl)
theorem dL_law_1181 : decode cL_law 1181 = .ok (.iload_n 3, 1) := dk_29 (dk_at dksL_law_44 7 rfl rfl)
theorem dL_law_1182 : decode cL_law 1182 = .ok (.iconst 1, 1) := dk_4 (dk_at dksL_law_44 8 rfl rfl)
theorem dL_law_1183 : decode cL_law 1183 = .ok (.iadd, 1) := dk_96 (dk_at dksL_law_44 9 rfl rfl)
theorem dL_law_1184 : decode cL_law 1184 = .ok (.iaload, 1) := dk_46 (dk_at dksL_law_44 10 rfl rfl)
theorem dL_law_1185 : decode cL_law 1185 = .ok (.aload_n 0, 1) := dk_42 (dk_at dksL_law_44 11 rfl rfl)
theorem dL_law_1186 : decode cL_law 1186 = .ok (.iload_n 3, 1) := dk_29 (dk_at dksL_law_44 12 rfl rfl)
theorem dL_law_1187 : decode cL_law 1187 = .ok (.iconst 2, 1) := dk_5 (dk_at dksL_law_44 13 rfl rfl)
theorem dL_law_1188 : decode cL_law 1188 = .ok (.iadd, 1) := dk_96 (dk_at dksL_law_44 14 rfl rfl)
theorem dL_law_1189 : decode cL_law 1189 = .ok (.iaload, 1) := dk_46 (dk_at dksL_law_44 15 rfl rfl)
theorem dL_law_1190 : decode cL_law 1190 = .ok (.invokevirtual 147, 3) := dk_182 0 147 (dk_at dksL_law_44 16 rfl rfl)
theorem dL_law_1193 : decode cL_law 1193 = .ok (.aload_n 2, 1) := dk_44 (dk_at dksL_law_44 19 rfl rfl)
theorem dL_law_1194 : decode cL_law 1194 = .ok (.aload_n 0, 1) := dk_42 (dk_at dksL_law_44 20 rfl rfl)
theorem dL_law_1195 : decode cL_law 1195 = .ok (.iload_n 3, 1) := dk_29 (dk_at dksL_law_44 21 rfl rfl)
theorem dL_law_1196 : decode cL_law 1196 = .ok (.iconst 1, 1) := dk_4 (dk_at dksL_law_44 22 rfl rfl)
theorem dL_law_1197 : decode cL_law 1197 = .ok (.iadd, 1) := dk_96 (dk_at dksL_law_44 23 rfl rfl)
theorem dL_law_1198 : decode cL_law 1198 = .ok (.iaload, 1) := dk_46 (dk_at dksL_law_45 0 rfl rfl)
theorem dL_law_1199 : decode cL_law 1199 = .ok (.aload_n 0, 1) := dk_42 (dk_at dksL_law_45 1 rfl rfl)
theorem dL_law_1200 : decode cL_law 1200 = .ok (.iload_n 3, 1) := dk_29 (dk_at dksL_law_45 2 rfl rfl)
theorem dL_law_1201 : decode cL_law 1201 = .ok (.iconst 2, 1) := dk_5 (dk_at dksL_law_45 3 rfl rfl)
theorem dL_law_1202 : decode cL_law 1202 = .ok (.iadd, 1) := dk_96 (dk_at dksL_law_45 4 rfl rfl)
theorem dL_law_1203 : decode cL_law 1203 = .ok (.iaload, 1) := dk_46 (dk_at dksL_law_45 5 rfl rfl)
theorem dL_law_1204 : decode cL_law 1204 = .ok (.invokevirtual 150, 3) := dk_182 0 150 (dk_at dksL_law_45 6 rfl rfl)
theorem dL_law_1207 : decode cL_law 1207 = .ok (.if_icmp .eq 261, 3) := dk_159 1 5 (dk_at dksL_law_45 9 rfl rfl)
theorem dL_law_1210 : decode cL_law 1210 = .ok (.iconst 0, 1) := dk_3 (dk_at dksL_law_45 12 rfl rfl)
theorem dL_law_1211 : decode cL_law 1211 = .ok (.ireturn, 1) := dk_172 (dk_at dksL_law_45 13 rfl rfl)
theorem dL_law_1212 : decode cL_law 1212 = .ok (.aload_n 1, 1) := dk_43 (dk_at dksL_law_45 14 rfl rfl)
theorem dL_law_1213 : decode cL_law 1213 = .ok (.aload_n 0, 1) := dk_42 (dk_at dksL_law_45 15 rfl rfl)
theorem dL_law_1214 : decode cL_law 1214 = .ok (.iload_n 3, 1) := dk_29 (dk_at dksL_law_45 16 rfl rfl)
theorem dL_law_1215 : decode cL_law 1215 = .ok (.iconst 1, 1) := dk_4 (dk_at dksL_law_45 17 rfl rfl)
theorem dL_law_1216 : decode cL_law 1216 = .ok (.iadd, 1) := dk_96 (dk_at dksL_law_45 18 rfl rfl)
theorem dL_law_1217 : decode cL_law 1217 = .ok (.iaload, 1) := dk_46 (dk_at dksL_law_45 19 rfl rfl)
theorem dL_law_1218 : decode cL_law 1218 = .ok (.aload_n 0, 1) := dk_42 (dk_at dksL_law_45 20 rfl rfl)
theorem dL_law_1219 : decode cL_law 1219 = .ok (.iload_n 3, 1) := dk_29 (dk_at dksL_law_45 21 rfl rfl)
theorem dL_law_1220 : decode cL_law 1220 = .ok (.iconst 2, 1) := dk_5 (dk_at dksL_law_45 22 rfl rfl)
theorem dL_law_1221 : decode cL_law 1221 = .ok (.iadd, 1) := dk_96 (dk_at dksL_law_45 23 rfl rfl)
theorem dL_law_1222 : decode cL_law 1222 = .ok (.iaload, 1) := dk_46 (dk_at dksL_law_46 0 rfl rfl)
theorem dL_law_1223 : decode cL_law 1223 = .ok (.ifCond .eq 7, 3) := dk_153 0 7 (dk_at dksL_law_46 1 rfl rfl)
theorem dL_law_1226 : decode cL_law 1226 = .ok (.iconst 1, 1) := dk_4 (dk_at dksL_law_46 4 rfl rfl)
theorem dL_law_1227 : decode cL_law 1227 = .ok (.goto 4, 3) := dk_167 0 4 (dk_at dksL_law_46 5 rfl rfl)
theorem dL_law_1230 : decode cL_law 1230 = .ok (.iconst 0, 1) := dk_3 (dk_at dksL_law_46 8 rfl rfl)
theorem dL_law_1231 : decode cL_law 1231 = .ok (.invokevirtual 151, 3) := dk_182 0 151 (dk_at dksL_law_46 9 rfl rfl)
theorem dL_law_1234 : decode cL_law 1234 = .ok (.aload_n 2, 1) := dk_44 (dk_at dksL_law_46 12 rfl rfl)
theorem dL_law_1235 : decode cL_law 1235 = .ok (.aload_n 0, 1) := dk_42 (dk_at dksL_law_46 13 rfl rfl)
theorem dL_law_1236 : decode cL_law 1236 = .ok (.iload_n 3, 1) := dk_29 (dk_at dksL_law_46 14 rfl rfl)
theorem dL_law_1237 : decode cL_law 1237 = .ok (.iconst 1, 1) := dk_4 (dk_at dksL_law_46 15 rfl rfl)
theorem dL_law_1238 : decode cL_law 1238 = .ok (.iadd, 1) := dk_96 (dk_at dksL_law_46 16 rfl rfl)
theorem dL_law_1239 : decode cL_law 1239 = .ok (.iaload, 1) := dk_46 (dk_at dksL_law_46 17 rfl rfl)
theorem dL_law_1240 : decode cL_law 1240 = .ok (.aload_n 0, 1) := dk_42 (dk_at dksL_law_46 18 rfl rfl)
theorem dL_law_1241 : decode cL_law 1241 = .ok (.iload_n 3, 1) := dk_29 (dk_at dksL_law_46 19 rfl rfl)
theorem dL_law_1242 : decode cL_law 1242 = .ok (.iconst 2, 1) := dk_5 (dk_at dksL_law_46 20 rfl rfl)
theorem dL_law_1243 : decode cL_law 1243 = .ok (.iadd, 1) := dk_96 (dk_at dksL_law_46 21 rfl rfl)
theorem dL_law_1244 : decode cL_law 1244 = .ok (.iaload, 1) := dk_46 (dk_at dksL_law_46 22 rfl rfl)
theorem dL_law_1245 : decode cL_law 1245 = .ok (.ifCond .eq 7, 3) := dk_153 0 7 (dk_at dksL_law_47 0 rfl rfl)
theorem dL_law_1248 : decode cL_law 1248 = .ok (.iconst 1, 1) := dk_4 (dk_at dksL_law_47 3 rfl rfl)
theorem dL_law_1249 : decode cL_law 1249 = .ok (.goto 4, 3) := dk_167 0 4 (dk_at dksL_law_47 4 rfl rfl)
theorem dL_law_1252 : decode cL_law 1252 = .ok (.iconst 0, 1) := dk_3 (dk_at dksL_law_47 7 rfl rfl)
theorem dL_law_1253 : decode cL_law 1253 = .ok (.invokevirtual 155, 3) := dk_182 0 155 (dk_at dksL_law_47 8 rfl rfl)
theorem dL_law_1256 : decode cL_law 1256 = .ok (.if_icmp .eq 212, 3) := dk_159 0 212 (dk_at dksL_law_47 11 rfl rfl)
theorem dL_law_1259 : decode cL_law 1259 = .ok (.iconst 0, 1) := dk_3 (dk_at dksL_law_47 14 rfl rfl)
theorem dL_law_1260 : decode cL_law 1260 = .ok (.ireturn, 1) := dk_172 (dk_at dksL_law_47 15 rfl rfl)
theorem dL_law_1261 : decode cL_law 1261 = .ok (.aload_n 1, 1) := dk_43 (dk_at dksL_law_47 16 rfl rfl)
theorem dL_law_1262 : decode cL_law 1262 = .ok (.aload_n 0, 1) := dk_42 (dk_at dksL_law_47 17 rfl rfl)
theorem dL_law_1263 : decode cL_law 1263 = .ok (.iload_n 3, 1) := dk_29 (dk_at dksL_law_47 18 rfl rfl)
theorem dL_law_1264 : decode cL_law 1264 = .ok (.iconst 1, 1) := dk_4 (dk_at dksL_law_47 19 rfl rfl)
theorem dL_law_1265 : decode cL_law 1265 = .ok (.iadd, 1) := dk_96 (dk_at dksL_law_47 20 rfl rfl)
theorem dL_law_1266 : decode cL_law 1266 = .ok (.iaload, 1) := dk_46 (dk_at dksL_law_47 21 rfl rfl)
theorem dL_law_1267 : decode cL_law 1267 = .ok (.aload_n 0, 1) := dk_42 (dk_at dksL_law_47 22 rfl rfl)
theorem dL_law_1268 : decode cL_law 1268 = .ok (.iload_n 3, 1) := dk_29 (dk_at dksL_law_47 23 rfl rfl)
theorem dL_law_1269 : decode cL_law 1269 = .ok (.iconst 2, 1) := dk_5 (dk_at dksL_law_48 0 rfl rfl)
theorem dL_law_1270 : decode cL_law 1270 = .ok (.iadd, 1) := dk_96 (dk_at dksL_law_48 1 rfl rfl)
theorem dL_law_1271 : decode cL_law 1271 = .ok (.iaload, 1) := dk_46 (dk_at dksL_law_48 2 rfl rfl)
theorem dL_law_1272 : decode cL_law 1272 = .ok (.invokevirtual 156, 3) := dk_182 0 156 (dk_at dksL_law_48 3 rfl rfl)
theorem dL_law_1275 : decode cL_law 1275 = .ok (.aload_n 2, 1) := dk_44 (dk_at dksL_law_48 6 rfl rfl)
theorem dL_law_1276 : decode cL_law 1276 = .ok (.aload_n 0, 1) := dk_42 (dk_at dksL_law_48 7 rfl rfl)
theorem dL_law_1277 : decode cL_law 1277 = .ok (.iload_n 3, 1) := dk_29 (dk_at dksL_law_48 8 rfl rfl)
theorem dL_law_1278 : decode cL_law 1278 = .ok (.iconst 1, 1) := dk_4 (dk_at dksL_law_48 9 rfl rfl)
theorem dL_law_1279 : decode cL_law 1279 = .ok (.iadd, 1) := dk_96 (dk_at dksL_law_48 10 rfl rfl)
theorem dL_law_1280 : decode cL_law 1280 = .ok (.iaload, 1) := dk_46 (dk_at dksL_law_48 11 rfl rfl)
theorem dL_law_1281 : decode cL_law 1281 = .ok (.aload_n 0, 1) := dk_42 (dk_at dksL_law_48 12 rfl rfl)
theorem dL_law_1282 : decode cL_law 1282 = .ok (.iload_n 3, 1) := dk_29 (dk_at dksL_law_48 13 rfl rfl)
theorem dL_law_1283 : decode cL_law 1283 = .ok (.iconst 2, 1) := dk_5 (dk_at dksL_law_48 14 rfl rfl)
theorem dL_law_1284 : decode cL_law 1284 = .ok (.iadd, 1) := dk_96 (dk_at dksL_law_48 15 rfl rfl)
theorem dL_law_1285 : decode cL_law 1285 = .ok (.iaload, 1) := dk_46 (dk_at dksL_law_48 16 rfl rfl)
theorem dL_law_1286 : decode cL_law 1286 = .ok (.invokevirtual 159, 3) := dk_182 0 159 (dk_at dksL_law_48 17 rfl rfl)
theorem dL_law_1289 : decode cL_law 1289 = .ok (.if_icmp .eq 179, 3) := dk_159 0 179 (dk_at dksL_law_48 20 rfl rfl)
theorem dL_law_1292 : decode cL_law 1292 = .ok (.iconst 0, 1) := dk_3 (dk_at dksL_law_48 23 rfl rfl)
theorem dL_law_1293 : decode cL_law 1293 = .ok (.ireturn, 1) := dk_172 (dk_at dksL_law_49 0 rfl rfl)
theorem dL_law_1294 : decode cL_law 1294 = .ok (.aload_n 1, 1) := dk_43 (dk_at dksL_law_49 1 rfl rfl)
theorem dL_law_1295 : decode cL_law 1295 = .ok (.aload_n 0, 1) := dk_42 (dk_at dksL_law_49 2 rfl rfl)
theorem dL_law_1296 : decode cL_law 1296 = .ok (.iload_n 3, 1) := dk_29 (dk_at dksL_law_49 3 rfl rfl)
theorem dL_law_1297 : decode cL_law 1297 = .ok (.iconst 1, 1) := dk_4 (dk_at dksL_law_49 4 rfl rfl)
theorem dL_law_1298 : decode cL_law 1298 = .ok (.iadd, 1) := dk_96 (dk_at dksL_law_49 5 rfl rfl)
theorem dL_law_1299 : decode cL_law 1299 = .ok (.iaload, 1) := dk_46 (dk_at dksL_law_49 6 rfl rfl)
theorem dL_law_1300 : decode cL_law 1300 = .ok (.aload_n 0, 1) := dk_42 (dk_at dksL_law_49 7 rfl rfl)
theorem dL_law_1301 : decode cL_law 1301 = .ok (.iload_n 3, 1) := dk_29 (dk_at dksL_law_49 8 rfl rfl)
theorem dL_law_1302 : decode cL_law 1302 = .ok (.iconst 2, 1) := dk_5 (dk_at dksL_law_49 9 rfl rfl)
theorem dL_law_1303 : decode cL_law 1303 = .ok (.iadd, 1) := dk_96 (dk_at dksL_law_49 10 rfl rfl)
theorem dL_law_1304 : decode cL_law 1304 = .ok (.iaload, 1) := dk_46 (dk_at dksL_law_49 11 rfl rfl)
theorem dL_law_1305 : decode cL_law 1305 = .ok (.aload_n 0, 1) := dk_42 (dk_at dksL_law_49 12 rfl rfl)
theorem dL_law_1306 : decode cL_law 1306 = .ok (.iload_n 3, 1) := dk_29 (dk_at dksL_law_49 13 rfl rfl)
theorem dL_law_1307 : decode cL_law 1307 = .ok (.iconst 3, 1) := dk_6 (dk_at dksL_law_49 14 rfl rfl)
theorem dL_law_1308 : decode cL_law 1308 = .ok (.iadd, 1) := dk_96 (dk_at dksL_law_49 15 rfl rfl)
theorem dL_law_1309 : decode cL_law 1309 = .ok (.iaload, 1) := dk_46 (dk_at dksL_law_49 16 rfl rfl)
theorem dL_law_1310 : decode cL_law 1310 = .ok (.ifCond .eq 7, 3) := dk_153 0 7 (dk_at dksL_law_49 17 rfl rfl)
theorem dL_law_1313 : decode cL_law 1313 = .ok (.iconst 1, 1) := dk_4 (dk_at dksL_law_49 20 rfl rfl)
theorem dL_law_1314 : decode cL_law 1314 = .ok (.goto 4, 3) := dk_167 0 4 (dk_at dksL_law_49 21 rfl rfl)
theorem dL_law_1317 : decode cL_law 1317 = .ok (.iconst 0, 1) := dk_3 (dk_at dksL_law_50 0 rfl rfl)
theorem dL_law_1318 : decode cL_law 1318 = .ok (.invokevirtual 160, 3) := dk_182 0 160 (dk_at dksL_law_50 1 rfl rfl)
theorem dL_law_1321 : decode cL_law 1321 = .ok (.aload_n 2, 1) := dk_44 (dk_at dksL_law_50 4 rfl rfl)
theorem dL_law_1322 : decode cL_law 1322 = .ok (.aload_n 0, 1) := dk_42 (dk_at dksL_law_50 5 rfl rfl)
theorem dL_law_1323 : decode cL_law 1323 = .ok (.iload_n 3, 1) := dk_29 (dk_at dksL_law_50 6 rfl rfl)
theorem dL_law_1324 : decode cL_law 1324 = .ok (.iconst 1, 1) := dk_4 (dk_at dksL_law_50 7 rfl rfl)
theorem dL_law_1325 : decode cL_law 1325 = .ok (.iadd, 1) := dk_96 (dk_at dksL_law_50 8 rfl rfl)
theorem dL_law_1326 : decode cL_law 1326 = .ok (.iaload, 1) := dk_46 (dk_at dksL_law_50 9 rfl rfl)
theorem dL_law_1327 : decode cL_law 1327 = .ok (.aload_n 0, 1) := dk_42 (dk_at dksL_law_50 10 rfl rfl)
theorem dL_law_1328 : decode cL_law 1328 = .ok (.iload_n 3, 1) := dk_29 (dk_at dksL_law_50 11 rfl rfl)
theorem dL_law_1329 : decode cL_law 1329 = .ok (.iconst 2, 1) := dk_5 (dk_at dksL_law_50 12 rfl rfl)
theorem dL_law_1330 : decode cL_law 1330 = .ok (.iadd, 1) := dk_96 (dk_at dksL_law_50 13 rfl rfl)
theorem dL_law_1331 : decode cL_law 1331 = .ok (.iaload, 1) := dk_46 (dk_at dksL_law_50 14 rfl rfl)
theorem dL_law_1332 : decode cL_law 1332 = .ok (.aload_n 0, 1) := dk_42 (dk_at dksL_law_50 15 rfl rfl)
theorem dL_law_1333 : decode cL_law 1333 = .ok (.iload_n 3, 1) := dk_29 (dk_at dksL_law_50 16 rfl rfl)
theorem dL_law_1334 : decode cL_law 1334 = .ok (.iconst 3, 1) := dk_6 (dk_at dksL_law_50 17 rfl rfl)
theorem dL_law_1335 : decode cL_law 1335 = .ok (.iadd, 1) := dk_96 (dk_at dksL_law_50 18 rfl rfl)
theorem dL_law_1336 : decode cL_law 1336 = .ok (.iaload, 1) := dk_46 (dk_at dksL_law_50 19 rfl rfl)
theorem dL_law_1337 : decode cL_law 1337 = .ok (.ifCond .eq 7, 3) := dk_153 0 7 (dk_at dksL_law_50 20 rfl rfl)
theorem dL_law_1340 : decode cL_law 1340 = .ok (.iconst 1, 1) := dk_4 (dk_at dksL_law_50 23 rfl rfl)
theorem dL_law_1341 : decode cL_law 1341 = .ok (.goto 4, 3) := dk_167 0 4 (dk_at dksL_law_51 0 rfl rfl)
theorem dL_law_1344 : decode cL_law 1344 = .ok (.iconst 0, 1) := dk_3 (dk_at dksL_law_51 3 rfl rfl)
theorem dL_law_1345 : decode cL_law 1345 = .ok (.invokevirtual 163, 3) := dk_182 0 163 (dk_at dksL_law_51 4 rfl rfl)
theorem dL_law_1348 : decode cL_law 1348 = .ok (.if_icmp .eq 120, 3) := dk_159 0 120 (dk_at dksL_law_51 7 rfl rfl)
theorem dL_law_1351 : decode cL_law 1351 = .ok (.iconst 0, 1) := dk_3 (dk_at dksL_law_51 10 rfl rfl)
theorem dL_law_1352 : decode cL_law 1352 = .ok (.ireturn, 1) := dk_172 (dk_at dksL_law_51 11 rfl rfl)
theorem dL_law_1353 : decode cL_law 1353 = .ok (.aload_n 1, 1) := dk_43 (dk_at dksL_law_51 12 rfl rfl)
theorem dL_law_1354 : decode cL_law 1354 = .ok (.aload_n 0, 1) := dk_42 (dk_at dksL_law_51 13 rfl rfl)
theorem dL_law_1355 : decode cL_law 1355 = .ok (.iload_n 3, 1) := dk_29 (dk_at dksL_law_51 14 rfl rfl)
theorem dL_law_1356 : decode cL_law 1356 = .ok (.iconst 1, 1) := dk_4 (dk_at dksL_law_51 15 rfl rfl)
theorem dL_law_1357 : decode cL_law 1357 = .ok (.iadd, 1) := dk_96 (dk_at dksL_law_51 16 rfl rfl)
theorem dL_law_1358 : decode cL_law 1358 = .ok (.iaload, 1) := dk_46 (dk_at dksL_law_51 17 rfl rfl)
theorem dL_law_1359 : decode cL_law 1359 = .ok (.aload_n 0, 1) := dk_42 (dk_at dksL_law_51 18 rfl rfl)
theorem dL_law_1360 : decode cL_law 1360 = .ok (.iload_n 3, 1) := dk_29 (dk_at dksL_law_51 19 rfl rfl)
theorem dL_law_1361 : decode cL_law 1361 = .ok (.iconst 2, 1) := dk_5 (dk_at dksL_law_51 20 rfl rfl)
theorem dL_law_1362 : decode cL_law 1362 = .ok (.iadd, 1) := dk_96 (dk_at dksL_law_51 21 rfl rfl)
theorem dL_law_1363 : decode cL_law 1363 = .ok (.iaload, 1) := dk_46 (dk_at dksL_law_51 22 rfl rfl)
theorem dL_law_1364 : decode cL_law 1364 = .ok (.invokevirtual 164, 3) := dk_182 0 164 (dk_at dksL_law_52 0 rfl rfl)
theorem dL_law_1367 : decode cL_law 1367 = .ok (.aload_n 2, 1) := dk_44 (dk_at dksL_law_52 3 rfl rfl)
theorem dL_law_1368 : decode cL_law 1368 = .ok (.aload_n 0, 1) := dk_42 (dk_at dksL_law_52 4 rfl rfl)
theorem dL_law_1369 : decode cL_law 1369 = .ok (.iload_n 3, 1) := dk_29 (dk_at dksL_law_52 5 rfl rfl)
theorem dL_law_1370 : decode cL_law 1370 = .ok (.iconst 1, 1) := dk_4 (dk_at dksL_law_52 6 rfl rfl)
theorem dL_law_1371 : decode cL_law 1371 = .ok (.iadd, 1) := dk_96 (dk_at dksL_law_52 7 rfl rfl)
theorem dL_law_1372 : decode cL_law 1372 = .ok (.iaload, 1) := dk_46 (dk_at dksL_law_52 8 rfl rfl)
theorem dL_law_1373 : decode cL_law 1373 = .ok (.aload_n 0, 1) := dk_42 (dk_at dksL_law_52 9 rfl rfl)
theorem dL_law_1374 : decode cL_law 1374 = .ok (.iload_n 3, 1) := dk_29 (dk_at dksL_law_52 10 rfl rfl)
theorem dL_law_1375 : decode cL_law 1375 = .ok (.iconst 2, 1) := dk_5 (dk_at dksL_law_52 11 rfl rfl)
theorem dL_law_1376 : decode cL_law 1376 = .ok (.iadd, 1) := dk_96 (dk_at dksL_law_52 12 rfl rfl)
theorem dL_law_1377 : decode cL_law 1377 = .ok (.iaload, 1) := dk_46 (dk_at dksL_law_52 13 rfl rfl)
theorem dL_law_1378 : decode cL_law 1378 = .ok (.invokevirtual 167, 3) := dk_182 0 167 (dk_at dksL_law_52 14 rfl rfl)
theorem dL_law_1381 : decode cL_law 1381 = .ok (.if_icmp .eq 87, 3) := dk_159 0 87 (dk_at dksL_law_52 17 rfl rfl)
theorem dL_law_1384 : decode cL_law 1384 = .ok (.iconst 0, 1) := dk_3 (dk_at dksL_law_52 20 rfl rfl)
theorem dL_law_1385 : decode cL_law 1385 = .ok (.ireturn, 1) := dk_172 (dk_at dksL_law_52 21 rfl rfl)
theorem dL_law_1386 : decode cL_law 1386 = .ok (.aload_n 1, 1) := dk_43 (dk_at dksL_law_52 22 rfl rfl)
theorem dL_law_1387 : decode cL_law 1387 = .ok (.aload_n 0, 1) := dk_42 (dk_at dksL_law_52 23 rfl rfl)
theorem dL_law_1388 : decode cL_law 1388 = .ok (.iload_n 3, 1) := dk_29 (dk_at dksL_law_53 0 rfl rfl)
theorem dL_law_1389 : decode cL_law 1389 = .ok (.iconst 1, 1) := dk_4 (dk_at dksL_law_53 1 rfl rfl)
theorem dL_law_1390 : decode cL_law 1390 = .ok (.iadd, 1) := dk_96 (dk_at dksL_law_53 2 rfl rfl)
theorem dL_law_1391 : decode cL_law 1391 = .ok (.iaload, 1) := dk_46 (dk_at dksL_law_53 3 rfl rfl)
theorem dL_law_1392 : decode cL_law 1392 = .ok (.aload_n 0, 1) := dk_42 (dk_at dksL_law_53 4 rfl rfl)
theorem dL_law_1393 : decode cL_law 1393 = .ok (.iload_n 3, 1) := dk_29 (dk_at dksL_law_53 5 rfl rfl)
theorem dL_law_1394 : decode cL_law 1394 = .ok (.iconst 2, 1) := dk_5 (dk_at dksL_law_53 6 rfl rfl)
theorem dL_law_1395 : decode cL_law 1395 = .ok (.iadd, 1) := dk_96 (dk_at dksL_law_53 7 rfl rfl)
theorem dL_law_1396 : decode cL_law 1396 = .ok (.iaload, 1) := dk_46 (dk_at dksL_law_53 8 rfl rfl)
theorem dL_law_1397 : decode cL_law 1397 = .ok (.invokevirtual 168, 3) := dk_182 0 168 (dk_at dksL_law_53 9 rfl rfl)
theorem dL_law_1400 : decode cL_law 1400 = .ok (.aload_n 2, 1) := dk_44 (dk_at dksL_law_53 12 rfl rfl)
theorem dL_law_1401 : decode cL_law 1401 = .ok (.aload_n 0, 1) := dk_42 (dk_at dksL_law_53 13 rfl rfl)
theorem dL_law_1402 : decode cL_law 1402 = .ok (.iload_n 3, 1) := dk_29 (dk_at dksL_law_53 14 rfl rfl)
theorem dL_law_1403 : decode cL_law 1403 = .ok (.iconst 1, 1) := dk_4 (dk_at dksL_law_53 15 rfl rfl)
theorem dL_law_1404 : decode cL_law 1404 = .ok (.iadd, 1) := dk_96 (dk_at dksL_law_53 16 rfl rfl)
theorem dL_law_1405 : decode cL_law 1405 = .ok (.iaload, 1) := dk_46 (dk_at dksL_law_53 17 rfl rfl)
theorem dL_law_1406 : decode cL_law 1406 = .ok (.aload_n 0, 1) := dk_42 (dk_at dksL_law_53 18 rfl rfl)
theorem dL_law_1407 : decode cL_law 1407 = .ok (.iload_n 3, 1) := dk_29 (dk_at dksL_law_53 19 rfl rfl)
theorem dL_law_1408 : decode cL_law 1408 = .ok (.iconst 2, 1) := dk_5 (dk_at dksL_law_53 20 rfl rfl)
theorem dL_law_1409 : decode cL_law 1409 = .ok (.iadd, 1) := dk_96 (dk_at dksL_law_53 21 rfl rfl)
theorem dL_law_1410 : decode cL_law 1410 = .ok (.iaload, 1) := dk_46 (dk_at dksL_law_53 22 rfl rfl)
theorem dL_law_1411 : decode cL_law 1411 = .ok (.invokevirtual 171, 3) := dk_182 0 171 (dk_at dksL_law_54 0 rfl rfl)
theorem dL_law_1414 : decode cL_law 1414 = .ok (.if_icmp .eq 54, 3) := dk_159 0 54 (dk_at dksL_law_54 3 rfl rfl)
theorem dL_law_1417 : decode cL_law 1417 = .ok (.iconst 0, 1) := dk_3 (dk_at dksL_law_54 6 rfl rfl)
theorem dL_law_1418 : decode cL_law 1418 = .ok (.ireturn, 1) := dk_172 (dk_at dksL_law_54 7 rfl rfl)
theorem dL_law_1419 : decode cL_law 1419 = .ok (.aload_n 1, 1) := dk_43 (dk_at dksL_law_54 8 rfl rfl)
theorem dL_law_1420 : decode cL_law 1420 = .ok (.invokevirtual 172, 3) := dk_182 0 172 (dk_at dksL_law_54 9 rfl rfl)
theorem dL_law_1423 : decode cL_law 1423 = .ok (.aload_n 2, 1) := dk_44 (dk_at dksL_law_54 12 rfl rfl)
theorem dL_law_1424 : decode cL_law 1424 = .ok (.invokevirtual 175, 3) := dk_182 0 175 (dk_at dksL_law_54 13 rfl rfl)
theorem dL_law_1427 : decode cL_law 1427 = .ok (.if_icmp .eq 41, 3) := dk_159 0 41 (dk_at dksL_law_54 16 rfl rfl)
theorem dL_law_1430 : decode cL_law 1430 = .ok (.iconst 0, 1) := dk_3 (dk_at dksL_law_54 19 rfl rfl)
theorem dL_law_1431 : decode cL_law 1431 = .ok (.ireturn, 1) := dk_172 (dk_at dksL_law_54 20 rfl rfl)
theorem dL_law_1432 : decode cL_law 1432 = .ok (.aload_n 1, 1) := dk_43 (dk_at dksL_law_54 21 rfl rfl)
theorem dL_law_1433 : decode cL_law 1433 = .ok (.invokevirtual 176, 3) := dk_182 0 176 (dk_at dksL_law_55 0 rfl rfl)
theorem dL_law_1436 : decode cL_law 1436 = .ok (.aload_n 2, 1) := dk_44 (dk_at dksL_law_55 3 rfl rfl)
theorem dL_law_1437 : decode cL_law 1437 = .ok (.invokevirtual 179, 3) := dk_182 0 179 (dk_at dksL_law_55 4 rfl rfl)
theorem dL_law_1440 : decode cL_law 1440 = .ok (.if_icmp .eq 28, 3) := dk_159 0 28 (dk_at dksL_law_55 7 rfl rfl)
theorem dL_law_1443 : decode cL_law 1443 = .ok (.iconst 0, 1) := dk_3 (dk_at dksL_law_55 10 rfl rfl)
theorem dL_law_1444 : decode cL_law 1444 = .ok (.ireturn, 1) := dk_172 (dk_at dksL_law_55 11 rfl rfl)
theorem dL_law_1445 : decode cL_law 1445 = .ok (.aload_n 1, 1) := dk_43 (dk_at dksL_law_55 12 rfl rfl)
theorem dL_law_1446 : decode cL_law 1446 = .ok (.aload_n 0, 1) := dk_42 (dk_at dksL_law_55 13 rfl rfl)
theorem dL_law_1447 : decode cL_law 1447 = .ok (.iload_n 3, 1) := dk_29 (dk_at dksL_law_55 14 rfl rfl)
theorem dL_law_1448 : decode cL_law 1448 = .ok (.iconst 1, 1) := dk_4 (dk_at dksL_law_55 15 rfl rfl)
theorem dL_law_1449 : decode cL_law 1449 = .ok (.iadd, 1) := dk_96 (dk_at dksL_law_55 16 rfl rfl)
theorem dL_law_1450 : decode cL_law 1450 = .ok (.iaload, 1) := dk_46 (dk_at dksL_law_55 17 rfl rfl)
theorem dL_law_1451 : decode cL_law 1451 = .ok (.invokevirtual 180, 3) := dk_182 0 180 (dk_at dksL_law_55 18 rfl rfl)
theorem dL_law_1454 : decode cL_law 1454 = .ok (.aload_n 2, 1) := dk_44 (dk_at dksL_law_55 21 rfl rfl)
theorem dL_law_1455 : decode cL_law 1455 = .ok (.aload_n 0, 1) := dk_42 (dk_at dksL_law_55 22 rfl rfl)
theorem dL_law_1456 : decode cL_law 1456 = .ok (.iload_n 3, 1) := dk_29 (dk_at dksL_law_55 23 rfl rfl)
theorem dL_law_1457 : decode cL_law 1457 = .ok (.iconst 1, 1) := dk_4 (dk_at dksL_law_56 0 rfl rfl)
theorem dL_law_1458 : decode cL_law 1458 = .ok (.iadd, 1) := dk_96 (dk_at dksL_law_56 1 rfl rfl)
theorem dL_law_1459 : decode cL_law 1459 = .ok (.iaload, 1) := dk_46 (dk_at dksL_law_56 2 rfl rfl)
theorem dL_law_1460 : decode cL_law 1460 = .ok (.invokevirtual 183, 3) := dk_182 0 183 (dk_at dksL_law_56 3 rfl rfl)
theorem dL_law_1463 : decode cL_law 1463 = .ok (.if_icmp .eq 5, 3) := dk_159 0 5 (dk_at dksL_law_56 6 rfl rfl)
theorem dL_law_1466 : decode cL_law 1466 = .ok (.iconst 0, 1) := dk_3 (dk_at dksL_law_56 9 rfl rfl)
theorem dL_law_1467 : decode cL_law 1467 = .ok (.ireturn, 1) := dk_172 (dk_at dksL_law_56 10 rfl rfl)
theorem dL_law_1468 : decode cL_law 1468 = .ok (.iinc 3 6, 3) := dk_132 3 6 (dk_at dksL_law_56 11 rfl rfl)
theorem dL_law_1471 : decode cL_law 1471 = .ok (.goto (-1453), 3) := dk_167 250 83 (dk_at dksL_law_56 14 rfl rfl)
theorem dL_law_1474 : decode cL_law 1474 = .ok (.iconst 1, 1) := dk_4 (dk_at dksL_law_56 17 rfl rfl)
theorem dL_law_1475 : decode cL_law 1475 = .ok (.ireturn, 1) := dk_172 (dk_at dksL_law_56 18 rfl rfl)
def dkwX1_init_5 : List UInt8 := [16, 55, 16, 81, 2, 184, 0, 48, 177]
abbrev dktX1_init_5 : List UInt8 := dkwX1_init_5 ++ []
def dkwX1_init_4 : List UInt8 := [180, 0, 15, 5, 16, 17, 79, 42, 180, 0, 15, 16, 29, 16, 55, 4, 184, 0, 48, 42, 180, 0, 15]
abbrev dktX1_init_4 : List UInt8 := dkwX1_init_4 ++ dktX1_init_5
def dkwX1_init_3 : List UInt8 := [197, 0, 35, 2, 181, 0, 39, 42, 7, 189, 0, 42, 181, 0, 44, 42, 180, 0, 9, 6, 2, 79, 42]
abbrev dktX1_init_3 : List UInt8 := dkwX1_init_3 ++ dktX1_init_4
def dkwX1_init_2 : List UInt8 := [189, 0, 30, 181, 0, 31, 42, 16, 12, 6, 197, 0, 35, 2, 181, 0, 36, 42, 16, 30, 17, 0, 192]
abbrev dktX1_init_2 : List UInt8 := dkwX1_init_2 ++ dktX1_init_3
def dkwX1_init_1 : List UInt8 := [188, 10, 181, 0, 18, 42, 7, 188, 10, 181, 0, 21, 42, 16, 24, 189, 0, 24, 181, 0, 26, 42, 16, 8]
abbrev dktX1_init_1 : List UInt8 := dkwX1_init_1 ++ dktX1_init_2
def dkwX1_init_0 : List UInt8 := [42, 183, 0, 3, 42, 16, 7, 188, 10, 181, 0, 9, 42, 17, 0, 192, 188, 10, 181, 0, 15, 42, 16, 26]
abbrev dktX1_init_0 : List UInt8 := dkwX1_init_0 ++ dktX1_init_1
theorem dksX1_init_0 : cX1_init.data.toList.drop 0 = dktX1_init_0 := by decide +kernel
theorem dksX1_init_1 : cX1_init.data.toList.drop 24 = dktX1_init_1 := dk_seg dksX1_init_0 24 rfl rfl
theorem dksX1_init_2 : cX1_init.data.toList.drop 48 = dktX1_init_2 := dk_seg dksX1_init_1 24 rfl rfl
theorem dksX1_init_3 : cX1_init.data.toList.drop 71 = dktX1_init_3 := dk_seg dksX1_init_2 23 rfl rfl
theorem dksX1_init_4 : cX1_init.data.toList.drop 94 = dktX1_init_4 := dk_seg dksX1_init_3 23 rfl rfl
theorem dksX1_init_5 : cX1_init.data.toList.drop 117 = dktX1_init_5 := dk_seg dksX1_init_4 23 rfl rfl
theorem dX1_init_0 : decode cX1_init 0 = .ok (.aload_n 0, 1) := dk_42 (dk_at dksX1_init_0 0 rfl rfl)
theorem dX1_init_1 : decode cX1_init 1 = .ok (.invokespecial 3, 3) := dk_183 0 3 (dk_at dksX1_init_0 1 rfl rfl)
theorem dX1_init_4 : decode cX1_init 4 = .ok (.aload_n 0, 1) := dk_42 (dk_at dksX1_init_0 4 rfl rfl)
theorem dX1_init_5 : decode cX1_init 5 = .ok (.bipush 7, 2) := dk_16 7 (dk_at dksX1_init_0 5 rfl rfl)
theorem dX1_init_7 : decode cX1_init 7 = .ok (.newarray .int, 2) := dk_188_10 (dk_at dksX1_init_0 7 rfl rfl)
theorem dX1_init_9 : decode cX1_init 9 = .ok (.putfield 9, 3) := dk_181 0 9 (dk_at dksX1_init_0 9 rfl rfl)
theorem dX1_init_12 : decode cX1_init 12 = .ok (.aload_n 0, 1) := dk_42 (dk_at dksX1_init_0 12 rfl rfl)
theorem dX1_init_13 : decode cX1_init 13 = .ok (.sipush 192, 3) := dk_17 0 192 (dk_at dksX1_init_0 13 rfl rfl)
theorem dX1_init_16 : decode cX1_init 16 = .ok (.newarray .int, 2) := dk_188_10 (dk_at dksX1_init_0 16 rfl rfl)
theorem dX1_init_18 : decode cX1_init 18 = .ok (.putfield 15, 3) := dk_181 0 15 (dk_at dksX1_init_0 18 rfl rfl)
theorem dX1_init_21 : decode cX1_init 21 = .ok (.aload_n 0, 1) := dk_42 (dk_at dksX1_init_0 21 rfl rfl)
theorem dX1_init_22 : decode cX1_init 22 = .ok (.bipush 26, 2) := dk_16 26 (dk_at dksX1_init_0 22 rfl rfl)
theorem dX1_init_24 : decode cX1_init 24 = .ok (.newarray .int, 2) := dk_188_10 (dk_at dksX1_init_1 0 rfl rfl)
theorem dX1_init_26 : decode cX1_init 26 = .ok (.putfield 18, 3) := dk_181 0 18 (dk_at dksX1_init_1 2 rfl rfl)
theorem dX1_init_29 : decode cX1_init 29 = .ok (.aload_n 0, 1) := dk_42 (dk_at dksX1_init_1 5 rfl rfl)
theorem dX1_init_30 : decode cX1_init 30 = .ok (.iconst 4, 1) := dk_7 (dk_at dksX1_init_1 6 rfl rfl)
theorem dX1_init_31 : decode cX1_init 31 = .ok (.newarray .int, 2) := dk_188_10 (dk_at dksX1_init_1 7 rfl rfl)
theorem dX1_init_33 : decode cX1_init 33 = .ok (.putfield 21, 3) := dk_181 0 21 (dk_at dksX1_init_1 9 rfl rfl)
theorem dX1_init_36 : decode cX1_init 36 = .ok (.aload_n 0, 1) := dk_42 (dk_at dksX1_init_1 12 rfl rfl)
theorem dX1_init_37 : decode cX1_init 37 = .ok (.bipush 24, 2) := dk_16 24 (dk_at dksX1_init_1 13 rfl rfl)
theorem dX1_init_39 : decode cX1_init 39 = .ok (.anewarray 24, 3) := dk_189 0 24 (dk_at dksX1_init_1 15 rfl rfl)
theorem dX1_init_42 : decode cX1_init 42 = .ok (.putfield 26, 3) := dk_181 0 26 (dk_at dksX1_init_1 18 rfl rfl)
theorem dX1_init_45 : decode cX1_init 45 = .ok (.aload_n 0, 1) := dk_42 (dk_at dksX1_init_1 21 rfl rfl)
theorem dX1_init_46 : decode cX1_init 46 = .ok (.bipush 8, 2) := dk_16 8 (dk_at dksX1_init_1 22 rfl rfl)
theorem dX1_init_48 : decode cX1_init 48 = .ok (.anewarray 30, 3) := dk_189 0 30 (dk_at dksX1_init_2 0 rfl rfl)
theorem dX1_init_51 : decode cX1_init 51 = .ok (.putfield 31, 3) := dk_181 0 31 (dk_at dksX1_init_2 3 rfl rfl)
theorem dX1_init_54 : decode cX1_init 54 = .ok (.aload_n 0, 1) := dk_42 (dk_at dksX1_init_2 6 rfl rfl)
theorem dX1_init_55 : decode cX1_init 55 = .ok (.bipush 12, 2) := dk_16 12 (dk_at dksX1_init_2 7 rfl rfl)
theorem dX1_init_57 : decode cX1_init 57 = .ok (.iconst 3, 1) := dk_6 (dk_at dksX1_init_2 9 rfl rfl)
theorem dX1_init_58 : decode cX1_init 58 = .ok (.multianewarray 35 2, 4) := by decide +kernel
theorem dX1_init_62 : decode cX1_init 62 = .ok (.putfield 36, 3) := dk_181 0 36 (dk_at dksX1_init_2 14 rfl rfl)
theorem dX1_init_65 : decode cX1_init 65 = .ok (.aload_n 0, 1) := dk_42 (dk_at dksX1_init_2 17 rfl rfl)
theorem dX1_init_66 : decode cX1_init 66 = .ok (.bipush 30, 2) := dk_16 30 (dk_at dksX1_init_2 18 rfl rfl)
theorem dX1_init_68 : decode cX1_init 68 = .ok (.sipush 192, 3) := dk_17 0 192 (dk_at dksX1_init_2 20 rfl rfl)
theorem dX1_init_71 : decode cX1_init 71 = .ok (.multianewarray 35 2, 4) := by decide +kernel
theorem dX1_init_75 : decode cX1_init 75 = .ok (.putfield 39, 3) := dk_181 0 39 (dk_at dksX1_init_3 4 rfl rfl)
theorem dX1_init_78 : decode cX1_init 78 = .ok (.aload_n 0, 1) := dk_42 (dk_at dksX1_init_3 7 rfl rfl)
theorem dX1_init_79 : decode cX1_init 79 = .ok (.iconst 4, 1) := dk_7 (dk_at dksX1_init_3 8 rfl rfl)
theorem dX1_init_80 : decode cX1_init 80 = .ok (.anewarray 42, 3) := dk_189 0 42 (dk_at dksX1_init_3 9 rfl rfl)
theorem dX1_init_83 : decode cX1_init 83 = .ok (.putfield 44, 3) := dk_181 0 44 (dk_at dksX1_init_3 12 rfl rfl)
theorem dX1_init_86 : decode cX1_init 86 = .ok (.aload_n 0, 1) := dk_42 (dk_at dksX1_init_3 15 rfl rfl)
theorem dX1_init_87 : decode cX1_init 87 = .ok (.getfield 9, 3) := dk_180 0 9 (dk_at dksX1_init_3 16 rfl rfl)
theorem dX1_init_90 : decode cX1_init 90 = .ok (.iconst 3, 1) := dk_6 (dk_at dksX1_init_3 19 rfl rfl)
theorem dX1_init_91 : decode cX1_init 91 = .ok (.iconst (-1), 1) := dk_2 (dk_at dksX1_init_3 20 rfl rfl)
theorem dX1_init_92 : decode cX1_init 92 = .ok (.iastore, 1) := dk_79 (dk_at dksX1_init_3 21 rfl rfl)
theorem dX1_init_93 : decode cX1_init 93 = .ok (.aload_n 0, 1) := dk_42 (dk_at dksX1_init_3 22 rfl rfl)
theorem dX1_init_94 : decode cX1_init 94 = .ok (.getfield 15, 3) := dk_180 0 15 (dk_at dksX1_init_4 0 rfl rfl)
theorem dX1_init_97 : decode cX1_init 97 = .ok (.iconst 2, 1) := dk_5 (dk_at dksX1_init_4 3 rfl rfl)
theorem dX1_init_98 : decode cX1_init 98 = .ok (.bipush 17, 2) := dk_16 17 (dk_at dksX1_init_4 4 rfl rfl)
theorem dX1_init_100 : decode cX1_init 100 = .ok (.iastore, 1) := dk_79 (dk_at dksX1_init_4 6 rfl rfl)
theorem dX1_init_101 : decode cX1_init 101 = .ok (.aload_n 0, 1) := dk_42 (dk_at dksX1_init_4 7 rfl rfl)
theorem dX1_init_102 : decode cX1_init 102 = .ok (.getfield 15, 3) := dk_180 0 15 (dk_at dksX1_init_4 8 rfl rfl)
theorem dX1_init_105 : decode cX1_init 105 = .ok (.bipush 29, 2) := dk_16 29 (dk_at dksX1_init_4 11 rfl rfl)
theorem dX1_init_107 : decode cX1_init 107 = .ok (.bipush 55, 2) := dk_16 55 (dk_at dksX1_init_4 13 rfl rfl)
theorem dX1_init_109 : decode cX1_init 109 = .ok (.iconst 1, 1) := dk_4 (dk_at dksX1_init_4 15 rfl rfl)
theorem dX1_init_110 : decode cX1_init 110 = .ok (.invokestatic 48, 3) := dk_184 0 48 (dk_at dksX1_init_4 16 rfl rfl)
theorem dX1_init_113 : decode cX1_init 113 = .ok (.aload_n 0, 1) := dk_42 (dk_at dksX1_init_4 19 rfl rfl)
theorem dX1_init_114 : decode cX1_init 114 = .ok (.getfield 15, 3) := dk_180 0 15 (dk_at dksX1_init_4 20 rfl rfl)
theorem dX1_init_117 : decode cX1_init 117 = .ok (.bipush 55, 2) := dk_16 55 (dk_at dksX1_init_5 0 rfl rfl)
theorem dX1_init_119 : decode cX1_init 119 = .ok (.bipush 81, 2) := dk_16 81 (dk_at dksX1_init_5 2 rfl rfl)
theorem dX1_init_121 : decode cX1_init 121 = .ok (.iconst (-1), 1) := dk_2 (dk_at dksX1_init_5 4 rfl rfl)
theorem dX1_init_122 : decode cX1_init 122 = .ok (.invokestatic 48, 3) := dk_184 0 48 (dk_at dksX1_init_5 5 rfl rfl)
theorem dX1_init_125 : decode cX1_init 125 = .ok (.return_, 1) := dk_177 (dk_at dksX1_init_5 8 rfl rfl)
def dkwX1_be_4 : List UInt8 := [184, 0, 64, 43, 180, 0, 44, 3, 42, 180, 0, 44, 3, 7, 184, 0, 54, 177]
abbrev dktX1_be_4 : List UInt8 := dkwX1_be_4 ++ []
def dkwX1_be_3 : List UInt8 := [16, 8, 184, 0, 54, 43, 180, 0, 36, 42, 180, 0, 36, 184, 0, 64, 43, 180, 0, 39, 42, 180, 0, 39]
abbrev dktX1_be_3 : List UInt8 := dkwX1_be_3 ++ dktX1_be_4
def dkwX1_be_2 : List UInt8 := [180, 0, 26, 3, 42, 180, 0, 26, 3, 16, 24, 184, 0, 54, 43, 180, 0, 31, 3, 42, 180, 0, 31, 3]
abbrev dktX1_be_2 : List UInt8 := dkwX1_be_2 ++ dktX1_be_3
def dkwX1_be_1 : List UInt8 := [180, 0, 18, 42, 180, 0, 18, 184, 0, 60, 43, 180, 0, 21, 42, 180, 0, 21, 184, 0, 60, 43]
abbrev dktX1_be_1 : List UInt8 := dkwX1_be_1 ++ dktX1_be_2
def dkwX1_be_0 : List UInt8 := [43, 180, 0, 9, 42, 180, 0, 9, 184, 0, 60, 43, 180, 0, 15, 42, 180, 0, 15, 184, 0, 60, 43]
abbrev dktX1_be_0 : List UInt8 := dkwX1_be_0 ++ dktX1_be_1
theorem dksX1_be_0 : cX1_be.data.toList.drop 0 = dktX1_be_0 := by decide +kernel
theorem dksX1_be_1 : cX1_be.data.toList.drop 23 = dktX1_be_1 := dk_seg dksX1_be_0 23 rfl rfl
theorem dksX1_be_2 : cX1_be.data.toList.drop 45 = dktX1_be_2 := dk_seg dksX1_be_1 22 rfl rfl
theorem dksX1_be_3 : cX1_be.data.toList.drop 69 = dktX1_be_3 := dk_seg dksX1_be_2 24 rfl rfl
theorem dksX1_be_4 : cX1_be.data.toList.drop 93 = dktX1_be_4 := dk_seg dksX1_be_3 24 rfl rfl
theorem dX1_be_0 : decode cX1_be 0 = .ok (.aload_n 1, 1) := dk_43 (dk_at dksX1_be_0 0 rfl rfl)
theorem dX1_be_1 : decode cX1_be 1 = .ok (.getfield 9, 3) := dk_180 0 9 (dk_at dksX1_be_0 1 rfl rfl)
theorem dX1_be_4 : decode cX1_be 4 = .ok (.aload_n 0, 1) := dk_42 (dk_at dksX1_be_0 4 rfl rfl)
theorem dX1_be_5 : decode cX1_be 5 = .ok (.getfield 9, 3) := dk_180 0 9 (dk_at dksX1_be_0 5 rfl rfl)
theorem dX1_be_8 : decode cX1_be 8 = .ok (.invokestatic 60, 3) := dk_184 0 60 (dk_at dksX1_be_0 8 rfl rfl)
theorem dX1_be_11 : decode cX1_be 11 = .ok (.aload_n 1, 1) := dk_43 (dk_at dksX1_be_0 11 rfl rfl)
theorem dX1_be_12 : decode cX1_be 12 = .ok (.getfield 15, 3) := dk_180 0 15 (dk_at dksX1_be_0 12 rfl rfl)
theorem dX1_be_15 : decode cX1_be 15 = .ok (.aload_n 0, 1) := dk_42 (dk_at dksX1_be_0 15 rfl rfl)
theorem dX1_be_16 : decode cX1_be 16 = .ok (.getfield 15, 3) := dk_180 0 15 (dk_at dksX1_be_0 16 rfl rfl)
theorem dX1_be_19 : decode cX1_be 19 = .ok (.invokestatic 60, 3) := dk_184 0 60 (dk_at dksX1_be_0 19 rfl rfl)
theorem dX1_be_22 : decode cX1_be 22 = .ok (.aload_n 1, 1) := dk_43 (dk_at dksX1_be_0 22 rfl rfl)
theorem dX1_be_23 : decode cX1_be 23 = .ok (.getfield 18, 3) := dk_180 0 18 (dk_at dksX1_be_1 0 rfl rfl)
theorem dX1_be_26 : decode cX1_be 26 = .ok (.aload_n 0, 1) := dk_42 (dk_at dksX1_be_1 3 rfl rfl)
theorem dX1_be_27 : decode cX1_be 27 = .ok (.getfield 18, 3) := dk_180 0 18 (dk_at dksX1_be_1 4 rfl rfl)
theorem dX1_be_30 : decode cX1_be 30 = .ok (.invokestatic 60, 3) := dk_184 0 60 (dk_at dksX1_be_1 7 rfl rfl)
theorem dX1_be_33 : decode cX1_be 33 = .ok (.aload_n 1, 1) := dk_43 (dk_at dksX1_be_1 10 rfl rfl)
theorem dX1_be_34 : decode cX1_be 34 = .ok (.getfield 21, 3) := dk_180 0 21 (dk_at dksX1_be_1 11 rfl rfl)
theorem dX1_be_37 : decode cX1_be 37 = .ok (.aload_n 0, 1) := dk_42 (dk_at dksX1_be_1 14 rfl rfl)
theorem dX1_be_38 : decode cX1_be 38 = .ok (.getfield 21, 3) := dk_180 0 21 (dk_at dksX1_be_1 15 rfl rfl)
theorem dX1_be_41 : decode cX1_be 41 = .ok (.invokestatic 60, 3) := dk_184 0 60 (dk_at dksX1_be_1 18 rfl rfl)
theorem dX1_be_44 : decode cX1_be 44 = .ok (.aload_n 1, 1) := dk_43 (dk_at dksX1_be_1 21 rfl rfl)
theorem dX1_be_45 : decode cX1_be 45 = .ok (.getfield 26, 3) := dk_180 0 26 (dk_at dksX1_be_2 0 rfl rfl)
theorem dX1_be_48 : decode cX1_be 48 = .ok (.iconst 0, 1) := dk_3 (dk_at dksX1_be_2 3 rfl rfl)
theorem dX1_be_49 : decode cX1_be 49 = .ok (.aload_n 0, 1) := dk_42 (dk_at dksX1_be_2 4 rfl rfl)
theorem dX1_be_50 : decode cX1_be 50 = .ok (.getfield 26, 3) := dk_180 0 26 (dk_at dksX1_be_2 5 rfl rfl)
theorem dX1_be_53 : decode cX1_be 53 = .ok (.iconst 0, 1) := dk_3 (dk_at dksX1_be_2 8 rfl rfl)
theorem dX1_be_54 : decode cX1_be 54 = .ok (.bipush 24, 2) := dk_16 24 (dk_at dksX1_be_2 9 rfl rfl)
theorem dX1_be_56 : decode cX1_be 56 = .ok (.invokestatic 54, 3) := dk_184 0 54 (dk_at dksX1_be_2 11 rfl rfl)
theorem dX1_be_59 : decode cX1_be 59 = .ok (.aload_n 1, 1) := dk_43 (dk_at dksX1_be_2 14 rfl rfl)
theorem dX1_be_60 : decode cX1_be 60 = .ok (.getfield 31, 3) := dk_180 0 31 (dk_at dksX1_be_2 15 rfl rfl)
theorem dX1_be_63 : decode cX1_be 63 = .ok (.iconst 0, 1) := dk_3 (dk_at dksX1_be_2 18 rfl rfl)
theorem dX1_be_64 : decode cX1_be 64 = .ok (.aload_n 0, 1) := dk_42 (dk_at dksX1_be_2 19 rfl rfl)
theorem dX1_be_65 : decode cX1_be 65 = .ok (.getfield 31, 3) := dk_180 0 31 (dk_at dksX1_be_2 20 rfl rfl)
theorem dX1_be_68 : decode cX1_be 68 = .ok (.iconst 0, 1) := dk_3 (dk_at dksX1_be_2 23 rfl rfl)
theorem dX1_be_69 : decode cX1_be 69 = .ok (.bipush 8, 2) := dk_16 8 (dk_at dksX1_be_3 0 rfl rfl)
theorem dX1_be_71 : decode cX1_be 71 = .ok (.invokestatic 54, 3) := dk_184 0 54 (dk_at dksX1_be_3 2 rfl rfl)
theorem dX1_be_74 : decode cX1_be 74 = .ok (.aload_n 1, 1) := dk_43 (dk_at dksX1_be_3 5 rfl rfl)
theorem dX1_be_75 : decode cX1_be 75 = .ok (.getfield 36, 3) := dk_180 0 36 (dk_at dksX1_be_3 6 rfl rfl)
theorem dX1_be_78 : decode cX1_be 78 = .ok (.aload_n 0, 1) := dk_42 (dk_at dksX1_be_3 9 rfl rfl)
theorem dX1_be_79 : decode cX1_be 79 = .ok (.getfield 36, 3) := dk_180 0 36 (dk_at dksX1_be_3 10 rfl rfl)
theorem dX1_be_82 : decode cX1_be 82 = .ok (.invokestatic 64, 3) := dk_184 0 64 (dk_at dksX1_be_3 13 rfl rfl)
theorem dX1_be_85 : decode cX1_be 85 = .ok (.aload_n 1, 1) := dk_43 (dk_at dksX1_be_3 16 rfl rfl)
theorem dX1_be_86 : decode cX1_be 86 = .ok (.getfield 39, 3) := dk_180 0 39 (dk_at dksX1_be_3 17 rfl rfl)
theorem dX1_be_89 : decode cX1_be 89 = .ok (.aload_n 0, 1) := dk_42 (dk_at dksX1_be_3 20 rfl rfl)
theorem dX1_be_90 : decode cX1_be 90 = .ok (.getfield 39, 3) := dk_180 0 39 (dk_at dksX1_be_3 21 rfl rfl)
theorem dX1_be_93 : decode cX1_be 93 = .ok (.invokestatic 64, 3) := dk_184 0 64 (dk_at dksX1_be_4 0 rfl rfl)
theorem dX1_be_96 : decode cX1_be 96 = .ok (.aload_n 1, 1) := dk_43 (dk_at dksX1_be_4 3 rfl rfl)
theorem dX1_be_97 : decode cX1_be 97 = .ok (.getfield 44, 3) := dk_180 0 44 (dk_at dksX1_be_4 4 rfl rfl)
theorem dX1_be_100 : decode cX1_be 100 = .ok (.iconst 0, 1) := dk_3 (dk_at dksX1_be_4 7 rfl rfl)
theorem dX1_be_101 : decode cX1_be 101 = .ok (.aload_n 0, 1) := dk_42 (dk_at dksX1_be_4 8 rfl rfl)
theorem dX1_be_102 : decode cX1_be 102 = .ok (.getfield 44, 3) := dk_180 0 44 (dk_at dksX1_be_4 9 rfl rfl)
theorem dX1_be_105 : decode cX1_be 105 = .ok (.iconst 0, 1) := dk_3 (dk_at dksX1_be_4 12 rfl rfl)
theorem dX1_be_106 : decode cX1_be 106 = .ok (.iconst 4, 1) := dk_7 (dk_at dksX1_be_4 13 rfl rfl)
theorem dX1_be_107 : decode cX1_be 107 = .ok (.invokestatic 54, 3) := dk_184 0 54 (dk_at dksX1_be_4 14 rfl rfl)
theorem dX1_be_110 : decode cX1_be 110 = .ok (.return_, 1) := dk_177 (dk_at dksX1_be_4 17 rfl rfl)
def dkwX1_copy_0 : List UInt8 := [42, 3, 43, 3, 42, 190, 184, 0, 54, 177]
abbrev dktX1_copy_0 : List UInt8 := dkwX1_copy_0 ++ []
theorem dksX1_copy_0 : cX1_copy.data.toList.drop 0 = dktX1_copy_0 := by decide +kernel
theorem dX1_copy_0 : decode cX1_copy 0 = .ok (.aload_n 0, 1) := dk_42 (dk_at dksX1_copy_0 0 rfl rfl)
theorem dX1_copy_1 : decode cX1_copy 1 = .ok (.iconst 0, 1) := dk_3 (dk_at dksX1_copy_0 1 rfl rfl)
theorem dX1_copy_2 : decode cX1_copy 2 = .ok (.aload_n 1, 1) := dk_43 (dk_at dksX1_copy_0 2 rfl rfl)
theorem dX1_copy_3 : decode cX1_copy 3 = .ok (.iconst 0, 1) := dk_3 (dk_at dksX1_copy_0 3 rfl rfl)
theorem dX1_copy_4 : decode cX1_copy 4 = .ok (.aload_n 0, 1) := dk_42 (dk_at dksX1_copy_0 4 rfl rfl)
theorem dX1_copy_5 : decode cX1_copy 5 = .ok (.arraylength, 1) := dk_190 (dk_at dksX1_copy_0 5 rfl rfl)
theorem dX1_copy_6 : decode cX1_copy 6 = .ok (.invokestatic 54, 3) := dk_184 0 54 (dk_at dksX1_copy_0 6 rfl rfl)
theorem dX1_copy_9 : decode cX1_copy 9 = .ok (.return_, 1) := dk_177 (dk_at dksX1_copy_0 9 rfl rfl)
def dkwX1_copy_2_0 : List UInt8 := [3, 61, 28, 42, 190, 162, 0, 18, 42, 28, 50, 43, 28, 50, 184, 0, 60, 132, 2, 1, 167, 255, 238, 177]
abbrev dktX1_copy_2_0 : List UInt8 := dkwX1_copy_2_0 ++ []
theorem dksX1_copy_2_0 : cX1_copy_2.data.toList.drop 0 = dktX1_copy_2_0 := by decide +kernel
theorem dX1_copy_2_0 : decode cX1_copy_2 0 = .ok (.iconst 0, 1) := dk_3 (dk_at dksX1_copy_2_0 0 rfl rfl)
theorem dX1_copy_2_1 : decode cX1_copy_2 1 = .ok (.istore_n 2, 1) := dk_61 (dk_at dksX1_copy_2_0 1 rfl rfl)
theorem dX1_copy_2_2 : decode cX1_copy_2 2 = .ok (.iload_n 2, 1) := dk_28 (dk_at dksX1_copy_2_0 2 rfl rfl)
theorem dX1_copy_2_3 : decode cX1_copy_2 3 = .ok (.aload_n 0, 1) := dk_42 (dk_at dksX1_copy_2_0 3 rfl rfl)
theorem dX1_copy_2_4 : decode cX1_copy_2 4 = .ok (.arraylength, 1) := dk_190 (dk_at dksX1_copy_2_0 4 rfl rfl)
theorem dX1_copy_2_5 : decode cX1_copy_2 5 = .ok (.if_icmp .ge 18, 3) := dk_162 0 18 (dk_at dksX1_copy_2_0 5 rfl rfl)
theorem dX1_copy_2_8 : decode cX1_copy_2 8 = .ok (.aload_n 0, 1) := dk_42 (dk_at dksX1_copy_2_0 8 rfl rfl)
theorem dX1_copy_2_9 : decode cX1_copy_2 9 = .ok (.iload_n 2, 1) := dk_28 (dk_at dksX1_copy_2_0 9 rfl rfl)
theorem dX1_copy_2_10 : decode cX1_copy_2 10 = .ok (.aaload, 1) := dk_50 (dk_at dksX1_copy_2_0 10 rfl rfl)
theorem dX1_copy_2_11 : decode cX1_copy_2 11 = .ok (.aload_n 1, 1) := dk_43 (dk_at dksX1_copy_2_0 11 rfl rfl)
theorem dX1_copy_2_12 : decode cX1_copy_2 12 = .ok (.iload_n 2, 1) := dk_28 (dk_at dksX1_copy_2_0 12 rfl rfl)
theorem dX1_copy_2_13 : decode cX1_copy_2 13 = .ok (.aaload, 1) := dk_50 (dk_at dksX1_copy_2_0 13 rfl rfl)
theorem dX1_copy_2_14 : decode cX1_copy_2 14 = .ok (.invokestatic 60, 3) := dk_184 0 60 (dk_at dksX1_copy_2_0 14 rfl rfl)
theorem dX1_copy_2_17 : decode cX1_copy_2 17 = .ok (.iinc 2 1, 3) := dk_132 2 1 (dk_at dksX1_copy_2_0 17 rfl rfl)
theorem dX1_copy_2_20 : decode cX1_copy_2 20 = .ok (.goto (-18), 3) := dk_167 255 238 (dk_at dksX1_copy_2_0 20 rfl rfl)
theorem dX1_copy_2_23 : decode cX1_copy_2 23 = .ok (.return_, 1) := dk_177 (dk_at dksX1_copy_2_0 23 rfl rfl)
def dkwX1_keeps_3 : List UInt8 := [180, 0, 9, 7, 92, 46, 4, 96, 79, 177]
abbrev dktX1_keeps_3 : List UInt8 := dkwX1_keeps_3 ++ []
def dkwX1_keeps_2 : List UInt8 := [46, 4, 100, 79, 42, 180, 0, 15, 42, 180, 0, 39, 42, 180, 0, 9, 7, 46, 50, 184, 0, 60, 42]
abbrev dktX1_keeps_2 : List UInt8 := dkwX1_keeps_2 ++ dktX1_keeps_3
def dkwX1_keeps_1 : List UInt8 := [50, 42, 180, 0, 39, 27, 4, 100, 50, 184, 0, 60, 132, 1, 1, 167, 255, 230, 42, 180, 0, 9, 7, 92]
abbrev dktX1_keeps_1 : List UInt8 := dkwX1_keeps_1 ++ dktX1_keeps_2
def dkwX1_keeps_0 : List UInt8 := [42, 180, 0, 9, 7, 46, 16, 30, 160, 0, 44, 4, 60, 27, 16, 30, 162, 0, 26, 42, 180, 0, 39, 27]
abbrev dktX1_keeps_0 : List UInt8 := dkwX1_keeps_0 ++ dktX1_keeps_1
theorem dksX1_keeps_0 : cX1_keeps.data.toList.drop 0 = dktX1_keeps_0 := by decide +kernel
theorem dksX1_keeps_1 : cX1_keeps.data.toList.drop 24 = dktX1_keeps_1 := dk_seg dksX1_keeps_0 24 rfl rfl
theorem dksX1_keeps_2 : cX1_keeps.data.toList.drop 48 = dktX1_keeps_2 := dk_seg dksX1_keeps_1 24 rfl rfl
theorem dksX1_keeps_3 : cX1_keeps.data.toList.drop 71 = dktX1_keeps_3 := dk_seg dksX1_keeps_2 23 rfl rfl
theorem dX1_keeps_0 : decode cX1_keeps 0 = .ok (.aload_n 0, 1) := dk_42 (dk_at dksX1_keeps_0 0 rfl rfl)
theorem dX1_keeps_1 : decode cX1_keeps 1 = .ok (.getfield 9, 3) := dk_180 0 9 (dk_at dksX1_keeps_0 1 rfl rfl)
theorem dX1_keeps_4 : decode cX1_keeps 4 = .ok (.iconst 4, 1) := dk_7 (dk_at dksX1_keeps_0 4 rfl rfl)
theorem dX1_keeps_5 : decode cX1_keeps 5 = .ok (.iaload, 1) := dk_46 (dk_at dksX1_keeps_0 5 rfl rfl)
theorem dX1_keeps_6 : decode cX1_keeps 6 = .ok (.bipush 30, 2) := dk_16 30 (dk_at dksX1_keeps_0 6 rfl rfl)
theorem dX1_keeps_8 : decode cX1_keeps 8 = .ok (.if_icmp .ne 44, 3) := dk_160 0 44 (dk_at dksX1_keeps_0 8 rfl rfl)
theorem dX1_keeps_11 : decode cX1_keeps 11 = .ok (.iconst 1, 1) := dk_4 (dk_at dksX1_keeps_0 11 rfl rfl)
theorem dX1_keeps_12 : decode cX1_keeps 12 = .ok (.istore_n 1, 1) := dk_60 (dk_at dksX1_keeps_0 12 rfl rfl)
theorem dX1_keeps_13 : decode cX1_keeps 13 = .ok (.iload_n 1, 1) := dk_27 (dk_at dksX1_keeps_0 13 rfl rfl)
theorem dX1_keeps_14 : decode cX1_keeps 14 = .ok (.bipush 30, 2) := dk_16 30 (dk_at dksX1_keeps_0 14 rfl rfl)
theorem dX1_keeps_16 : decode cX1_keeps 16 = .ok (.if_icmp .ge 26, 3) := dk_162 0 26 (dk_at dksX1_keeps_0 16 rfl rfl)
theorem dX1_keeps_19 : decode cX1_keeps 19 = .ok (.aload_n 0, 1) := dk_42 (dk_at dksX1_keeps_0 19 rfl rfl)
theorem dX1_keeps_20 : decode cX1_keeps 20 = .ok (.getfield 39, 3) := dk_180 0 39 (dk_at dksX1_keeps_0 20 rfl rfl)
theorem dX1_keeps_23 : decode cX1_keeps 23 = .ok (.iload_n 1, 1) := dk_27 (dk_at dksX1_keeps_0 23 rfl rfl)
theorem dX1_keeps_24 : decode cX1_keeps 24 = .ok (.aaload, 1) := dk_50 (dk_at dksX1_keeps_1 0 rfl rfl)
theorem dX1_keeps_25 : decode cX1_keeps 25 = .ok (.aload_n 0, 1) := dk_42 (dk_at dksX1_keeps_1 1 rfl rfl)
theorem dX1_keeps_26 : decode cX1_keeps 26 = .ok (.getfield 39, 3) := dk_180 0 39 (dk_at dksX1_keeps_1 2 rfl rfl)
theorem dX1_keeps_29 : decode cX1_keeps 29 = .ok (.iload_n 1, 1) := dk_27 (dk_at dksX1_keeps_1 5 rfl rfl)
theorem dX1_keeps_30 : decode cX1_keeps 30 = .ok (.iconst 1, 1) := dk_4 (dk_at dksX1_keeps_1 6 rfl rfl)
theorem dX1_keeps_31 : decode cX1_keeps 31 = .ok (.isub, 1) := dk_100 (dk_at dksX1_keeps_1 7 rfl rfl)
theorem dX1_keeps_32 : decode cX1_keeps 32 = .ok (.aaload, 1) := dk_50 (dk_at dksX1_keeps_1 8 rfl rfl)
theorem dX1_keeps_33 : decode cX1_keeps 33 = .ok (.invokestatic 60, 3) := dk_184 0 60 (dk_at dksX1_keeps_1 9 rfl rfl)
theorem dX1_keeps_36 : decode cX1_keeps 36 = .ok (.iinc 1 1, 3) := dk_132 1 1 (dk_at dksX1_keeps_1 12 rfl rfl)
theorem dX1_keeps_39 : decode cX1_keeps 39 = .ok (.goto (-26), 3) := dk_167 255 230 (dk_at dksX1_keeps_1 15 rfl rfl)
theorem dX1_keeps_42 : decode cX1_keeps 42 = .ok (.aload_n 0, 1) := dk_42 (dk_at dksX1_keeps_1 18 rfl rfl)
theorem dX1_keeps_43 : decode cX1_keeps 43 = .ok (.getfield 9, 3) := dk_180 0 9 (dk_at dksX1_keeps_1 19 rfl rfl)
theorem dX1_keeps_46 : decode cX1_keeps 46 = .ok (.iconst 4, 1) := dk_7 (dk_at dksX1_keeps_1 22 rfl rfl)
theorem dX1_keeps_47 : decode cX1_keeps 47 = .ok (.dup2, 1) := dk_92 (dk_at dksX1_keeps_1 23 rfl rfl)
theorem dX1_keeps_48 : decode cX1_keeps 48 = .ok (.iaload, 1) := dk_46 (dk_at dksX1_keeps_2 0 rfl rfl)
theorem dX1_keeps_49 : decode cX1_keeps 49 = .ok (.iconst 1, 1) := dk_4 (dk_at dksX1_keeps_2 1 rfl rfl)
theorem dX1_keeps_50 : decode cX1_keeps 50 = .ok (.isub, 1) := dk_100 (dk_at dksX1_keeps_2 2 rfl rfl)
theorem dX1_keeps_51 : decode cX1_keeps 51 = .ok (.iastore, 1) := dk_79 (dk_at dksX1_keeps_2 3 rfl rfl)
theorem dX1_keeps_52 : decode cX1_keeps 52 = .ok (.aload_n 0, 1) := dk_42 (dk_at dksX1_keeps_2 4 rfl rfl)
theorem dX1_keeps_53 : decode cX1_keeps 53 = .ok (.getfield 15, 3) := dk_180 0 15 (dk_at dksX1_keeps_2 5 rfl rfl)
theorem dX1_keeps_56 : decode cX1_keeps 56 = .ok (.aload_n 0, 1) := dk_42 (dk_at dksX1_keeps_2 8 rfl rfl)
theorem dX1_keeps_57 : decode cX1_keeps 57 = .ok (.getfield 39, 3) := dk_180 0 39 (dk_at dksX1_keeps_2 9 rfl rfl)
theorem dX1_keeps_60 : decode cX1_keeps 60 = .ok (.aload_n 0, 1) := dk_42 (dk_at dksX1_keeps_2 12 rfl rfl)
theorem dX1_keeps_61 : decode cX1_keeps 61 = .ok (.getfield 9, 3) := dk_180 0 9 (dk_at dksX1_keeps_2 13 rfl rfl)
theorem dX1_keeps_64 : decode cX1_keeps 64 = .ok (.iconst 4, 1) := dk_7 (dk_at dksX1_keeps_2 16 rfl rfl)
theorem dX1_keeps_65 : decode cX1_keeps 65 = .ok (.iaload, 1) := dk_46 (dk_at dksX1_keeps_2 17 rfl rfl)
theorem dX1_keeps_66 : decode cX1_keeps 66 = .ok (.aaload, 1) := dk_50 (dk_at dksX1_keeps_2 18 rfl rfl)
theorem dX1_keeps_67 : decode cX1_keeps 67 = .ok (.invokestatic 60, 3) := dk_184 0 60 (dk_at dksX1_keeps_2 19 rfl rfl)
theorem dX1_keeps_70 : decode cX1_keeps 70 = .ok (.aload_n 0, 1) := dk_42 (dk_at dksX1_keeps_2 22 rfl rfl)
theorem dX1_keeps_71 : decode cX1_keeps 71 = .ok (.getfield 9, 3) := dk_180 0 9 (dk_at dksX1_keeps_3 0 rfl rfl)
theorem dX1_keeps_74 : decode cX1_keeps 74 = .ok (.iconst 4, 1) := dk_7 (dk_at dksX1_keeps_3 3 rfl rfl)
theorem dX1_keeps_75 : decode cX1_keeps 75 = .ok (.dup2, 1) := dk_92 (dk_at dksX1_keeps_3 4 rfl rfl)
theorem dX1_keeps_76 : decode cX1_keeps 76 = .ok (.iaload, 1) := dk_46 (dk_at dksX1_keeps_3 5 rfl rfl)
theorem dX1_keeps_77 : decode cX1_keeps 77 = .ok (.iconst 1, 1) := dk_4 (dk_at dksX1_keeps_3 6 rfl rfl)
theorem dX1_keeps_78 : decode cX1_keeps 78 = .ok (.iadd, 1) := dk_96 (dk_at dksX1_keeps_3 7 rfl rfl)
theorem dX1_keeps_79 : decode cX1_keeps 79 = .ok (.iastore, 1) := dk_79 (dk_at dksX1_keeps_3 8 rfl rfl)
theorem dX1_keeps_80 : decode cX1_keeps 80 = .ok (.return_, 1) := dk_177 (dk_at dksX1_keeps_3 9 rfl rfl)
def dkwX1_isOut_0 : List UInt8 := [42, 180, 0, 15, 3, 46, 27, 184, 0, 67, 172]
abbrev dktX1_isOut_0 : List UInt8 := dkwX1_isOut_0 ++ []
theorem dksX1_isOut_0 : cX1_isOut.data.toList.drop 0 = dktX1_isOut_0 := by decide +kernel
theorem dX1_isOut_0 : decode cX1_isOut 0 = .ok (.aload_n 0, 1) := dk_42 (dk_at dksX1_isOut_0 0 rfl rfl)
theorem dX1_isOut_1 : decode cX1_isOut 1 = .ok (.getfield 15, 3) := dk_180 0 15 (dk_at dksX1_isOut_0 1 rfl rfl)
theorem dX1_isOut_4 : decode cX1_isOut 4 = .ok (.iconst 0, 1) := dk_3 (dk_at dksX1_isOut_0 4 rfl rfl)
theorem dX1_isOut_5 : decode cX1_isOut 5 = .ok (.iaload, 1) := dk_46 (dk_at dksX1_isOut_0 5 rfl rfl)
theorem dX1_isOut_6 : decode cX1_isOut 6 = .ok (.iload_n 1, 1) := dk_27 (dk_at dksX1_isOut_0 6 rfl rfl)
theorem dX1_isOut_7 : decode cX1_isOut 7 = .ok (.invokestatic 67, 3) := dk_184 0 67 (dk_at dksX1_isOut_0 7 rfl rfl)
theorem dX1_isOut_10 : decode cX1_isOut 10 = .ok (.ireturn, 1) := dk_172 (dk_at dksX1_isOut_0 10 rfl rfl)
def dkwX1_silent_2 : List UInt8 := [27, 172]
abbrev dktX1_silent_2 : List UInt8 := dkwX1_silent_2 ++ []
def dkwX1_silent_1 : List UInt8 := [16, 55, 28, 96, 46, 2, 160, 0, 9, 4, 28, 120, 167, 0, 4, 3, 128, 60, 132, 2, 1, 167, 255, 216]
abbrev dktX1_silent_1 : List UInt8 := dkwX1_silent_1 ++ dktX1_silent_2
def dkwX1_silent_0 : List UInt8 := [3, 60, 3, 61, 28, 16, 26, 162, 0, 40, 27, 42, 28, 182, 0, 71, 153, 0, 22, 42, 180, 0, 15]
abbrev dktX1_silent_0 : List UInt8 := dkwX1_silent_0 ++ dktX1_silent_1
theorem dksX1_silent_0 : cX1_silent.data.toList.drop 0 = dktX1_silent_0 := by decide +kernel
theorem dksX1_silent_1 : cX1_silent.data.toList.drop 23 = dktX1_silent_1 := dk_seg dksX1_silent_0 23 rfl rfl
theorem dksX1_silent_2 : cX1_silent.data.toList.drop 47 = dktX1_silent_2 := dk_seg dksX1_silent_1 24 rfl rfl
theorem dX1_silent_0 : decode cX1_silent 0 = .ok (.iconst 0, 1) := dk_3 (dk_at dksX1_silent_0 0 rfl rfl)
theorem dX1_silent_1 : decode cX1_silent 1 = .ok (.istore_n 1, 1) := dk_60 (dk_at dksX1_silent_0 1 rfl rfl)
theorem dX1_silent_2 : decode cX1_silent 2 = .ok (.iconst 0, 1) := dk_3 (dk_at dksX1_silent_0 2 rfl rfl)
theorem dX1_silent_3 : decode cX1_silent 3 = .ok (.istore_n 2, 1) := dk_61 (dk_at dksX1_silent_0 3 rfl rfl)
theorem dX1_silent_4 : decode cX1_silent 4 = .ok (.iload_n 2, 1) := dk_28 (dk_at dksX1_silent_0 4 rfl rfl)
theorem dX1_silent_5 : decode cX1_silent 5 = .ok (.bipush 26, 2) := dk_16 26 (dk_at dksX1_silent_0 5 rfl rfl)
theorem dX1_silent_7 : decode cX1_silent 7 = .ok (.if_icmp .ge 40, 3) := dk_162 0 40 (dk_at dksX1_silent_0 7 rfl rfl)
theorem dX1_silent_10 : decode cX1_silent 10 = .ok (.iload_n 1, 1) := dk_27 (dk_at dksX1_silent_0 10 rfl rfl)
theorem dX1_silent_11 : decode cX1_silent 11 = .ok (.aload_n 0, 1) := dk_42 (dk_at dksX1_silent_0 11 rfl rfl)
theorem dX1_silent_12 : decode cX1_silent 12 = .ok (.iload_n 2, 1) := dk_28 (dk_at dksX1_silent_0 12 rfl rfl)
theorem dX1_silent_13 : decode cX1_silent 13 = .ok (.invokevirtual 71, 3) := dk_182 0 71 (dk_at dksX1_silent_0 13 rfl rfl)
theorem dX1_silent_16 : decode cX1_silent 16 = .ok (.ifCond .eq 22, 3) := dk_153 0 22 (dk_at dksX1_silent_0 16 rfl rfl)
theorem dX1_silent_19 : decode cX1_silent 19 = .ok (.aload_n 0, 1) := dk_42 (dk_at dksX1_silent_0 19 rfl rfl)
theorem dX1_silent_20 : decode cX1_silent 20 = .ok (.getfield 15, 3) := dk_180 0 15 (dk_at dksX1_silent_0 20 rfl rfl)
theorem dX1_silent_23 : decode cX1_silent 23 = .ok (.bipush 55, 2) := dk_16 55 (dk_at dksX1_silent_1 0 rfl rfl)
theorem dX1_silent_25 : decode cX1_silent 25 = .ok (.iload_n 2, 1) := dk_28 (dk_at dksX1_silent_1 2 rfl rfl)
theorem dX1_silent_26 : decode cX1_silent 26 = .ok (.iadd, 1) := dk_96 (dk_at dksX1_silent_1 3 rfl rfl)
theorem dX1_silent_27 : decode cX1_silent 27 = .ok (.iaload, 1) := dk_46 (dk_at dksX1_silent_1 4 rfl rfl)
theorem dX1_silent_28 : decode cX1_silent 28 = .ok (.iconst (-1), 1) := dk_2 (dk_at dksX1_silent_1 5 rfl rfl)
theorem dX1_silent_29 : decode cX1_silent 29 = .ok (.if_icmp .ne 9, 3) := dk_160 0 9 (dk_at dksX1_silent_1 6 rfl rfl)
theorem dX1_silent_32 : decode cX1_silent 32 = .ok (.iconst 1, 1) := dk_4 (dk_at dksX1_silent_1 9 rfl rfl)
theorem dX1_silent_33 : decode cX1_silent 33 = .ok (.iload_n 2, 1) := dk_28 (dk_at dksX1_silent_1 10 rfl rfl)
theorem dX1_silent_34 : decode cX1_silent 34 = .ok (.ishl, 1) := dk_120 (dk_at dksX1_silent_1 11 rfl rfl)
theorem dX1_silent_35 : decode cX1_silent 35 = .ok (.goto 4, 3) := dk_167 0 4 (dk_at dksX1_silent_1 12 rfl rfl)
theorem dX1_silent_38 : decode cX1_silent 38 = .ok (.iconst 0, 1) := dk_3 (dk_at dksX1_silent_1 15 rfl rfl)
theorem dX1_silent_39 : decode cX1_silent 39 = .ok (.ior, 1) := dk_128 (dk_at dksX1_silent_1 16 rfl rfl)
theorem dX1_silent_40 : decode cX1_silent 40 = .ok (.istore_n 1, 1) := dk_60 (dk_at dksX1_silent_1 17 rfl rfl)
theorem dX1_silent_41 : decode cX1_silent 41 = .ok (.iinc 2 1, 3) := dk_132 2 1 (dk_at dksX1_silent_1 18 rfl rfl)
theorem dX1_silent_44 : decode cX1_silent 44 = .ok (.goto (-40), 3) := dk_167 255 216 (dk_at dksX1_silent_1 21 rfl rfl)
theorem dX1_silent_47 : decode cX1_silent 47 = .ok (.iload_n 1, 1) := dk_27 (dk_at dksX1_silent_2 0 rfl rfl)
theorem dX1_silent_48 : decode cX1_silent 48 = .ok (.ireturn, 1) := dk_172 (dk_at dksX1_silent_2 1 rfl rfl)
def dkwX10_init_0 : List UInt8 := [42, 183, 0, 1, 42, 27, 181, 0, 7, 177]
abbrev dktX10_init_0 : List UInt8 := dkwX10_init_0 ++ []
theorem dksX10_init_0 : cX10_init.data.toList.drop 0 = dktX10_init_0 := by decide +kernel
theorem dX10_init_0 : decode cX10_init 0 = .ok (.aload_n 0, 1) := dk_42 (dk_at dksX10_init_0 0 rfl rfl)
theorem dX10_init_1 : decode cX10_init 1 = .ok (.invokespecial 1, 3) := dk_183 0 1 (dk_at dksX10_init_0 1 rfl rfl)
theorem dX10_init_4 : decode cX10_init 4 = .ok (.aload_n 0, 1) := dk_42 (dk_at dksX10_init_0 4 rfl rfl)
theorem dX10_init_5 : decode cX10_init 5 = .ok (.iload_n 1, 1) := dk_27 (dk_at dksX10_init_0 5 rfl rfl)
theorem dX10_init_6 : decode cX10_init 6 = .ok (.putfield 7, 3) := dk_181 0 7 (dk_at dksX10_init_0 6 rfl rfl)
theorem dX10_init_9 : decode cX10_init 9 = .ok (.return_, 1) := dk_177 (dk_at dksX10_init_0 9 rfl rfl)
def dkwX10_of_0 : List UInt8 := [43, 42, 180, 0, 7, 46, 133, 173]
abbrev dktX10_of_0 : List UInt8 := dkwX10_of_0 ++ []
theorem dksX10_of_0 : cX10_of.data.toList.drop 0 = dktX10_of_0 := by decide +kernel
theorem dX10_of_0 : decode cX10_of 0 = .ok (.aload_n 1, 1) := dk_43 (dk_at dksX10_of_0 0 rfl rfl)
theorem dX10_of_1 : decode cX10_of 1 = .ok (.aload_n 0, 1) := dk_42 (dk_at dksX10_of_0 1 rfl rfl)
theorem dX10_of_2 : decode cX10_of 2 = .ok (.getfield 7, 3) := dk_180 0 7 (dk_at dksX10_of_0 2 rfl rfl)
theorem dX10_of_5 : decode cX10_of 5 = .ok (.iaload, 1) := dk_46 (dk_at dksX10_of_0 5 rfl rfl)
theorem dX10_of_6 : decode cX10_of 6 = .ok (.i2l, 1) := dk_133 (dk_at dksX10_of_0 6 rfl rfl)
theorem dX10_of_7 : decode cX10_of 7 = .ok (.lreturn, 1) := dk_173 (dk_at dksX10_of_0 7 rfl rfl)
def dkwX11_init_0 : List UInt8 := [42, 183, 0, 1, 42, 43, 181, 0, 7, 177]
abbrev dktX11_init_0 : List UInt8 := dkwX11_init_0 ++ []
theorem dksX11_init_0 : cX11_init.data.toList.drop 0 = dktX11_init_0 := by decide +kernel
theorem dX11_init_0 : decode cX11_init 0 = .ok (.aload_n 0, 1) := dk_42 (dk_at dksX11_init_0 0 rfl rfl)
theorem dX11_init_1 : decode cX11_init 1 = .ok (.invokespecial 1, 3) := dk_183 0 1 (dk_at dksX11_init_0 1 rfl rfl)
theorem dX11_init_4 : decode cX11_init 4 = .ok (.aload_n 0, 1) := dk_42 (dk_at dksX11_init_0 4 rfl rfl)
theorem dX11_init_5 : decode cX11_init 5 = .ok (.aload_n 1, 1) := dk_43 (dk_at dksX11_init_0 5 rfl rfl)
theorem dX11_init_6 : decode cX11_init 6 = .ok (.putfield 7, 3) := dk_181 0 7 (dk_at dksX11_init_0 6 rfl rfl)
theorem dX11_init_9 : decode cX11_init 9 = .ok (.return_, 1) := dk_177 (dk_at dksX11_init_0 9 rfl rfl)
def dkwX11_of_0 : List UInt8 := [42, 180, 0, 7, 43, 185, 0, 13, 2, 0, 117, 173]
abbrev dktX11_of_0 : List UInt8 := dkwX11_of_0 ++ []
theorem dksX11_of_0 : cX11_of.data.toList.drop 0 = dktX11_of_0 := by decide +kernel
theorem dX11_of_0 : decode cX11_of 0 = .ok (.aload_n 0, 1) := dk_42 (dk_at dksX11_of_0 0 rfl rfl)
theorem dX11_of_1 : decode cX11_of 1 = .ok (.getfield 7, 3) := dk_180 0 7 (dk_at dksX11_of_0 1 rfl rfl)
theorem dX11_of_4 : decode cX11_of 4 = .ok (.aload_n 1, 1) := dk_43 (dk_at dksX11_of_0 4 rfl rfl)
theorem dX11_of_5 : decode cX11_of 5 = .ok (.invokeinterface 13 2, 5) := by decide +kernel
theorem dX11_of_10 : decode cX11_of 10 = .ok (.lneg, 1) := dk_117 (dk_at dksX11_of_0 10 rfl rfl)
theorem dX11_of_11 : decode cX11_of 11 = .ok (.lreturn, 1) := dk_173 (dk_at dksX11_of_0 11 rfl rfl)
def dkwX12_init_0 : List UInt8 := [42, 183, 0, 1, 42, 27, 181, 0, 7, 42, 44, 181, 0, 13, 42, 45, 181, 0, 17, 177]
abbrev dktX12_init_0 : List UInt8 := dkwX12_init_0 ++ []
theorem dksX12_init_0 : cX12_init.data.toList.drop 0 = dktX12_init_0 := by decide +kernel
theorem dX12_init_0 : decode cX12_init 0 = .ok (.aload_n 0, 1) := dk_42 (dk_at dksX12_init_0 0 rfl rfl)
theorem dX12_init_1 : decode cX12_init 1 = .ok (.invokespecial 1, 3) := dk_183 0 1 (dk_at dksX12_init_0 1 rfl rfl)
theorem dX12_init_4 : decode cX12_init 4 = .ok (.aload_n 0, 1) := dk_42 (dk_at dksX12_init_0 4 rfl rfl)
theorem dX12_init_5 : decode cX12_init 5 = .ok (.iload_n 1, 1) := dk_27 (dk_at dksX12_init_0 5 rfl rfl)
theorem dX12_init_6 : decode cX12_init 6 = .ok (.putfield 7, 3) := dk_181 0 7 (dk_at dksX12_init_0 6 rfl rfl)
theorem dX12_init_9 : decode cX12_init 9 = .ok (.aload_n 0, 1) := dk_42 (dk_at dksX12_init_0 9 rfl rfl)
theorem dX12_init_10 : decode cX12_init 10 = .ok (.aload_n 2, 1) := dk_44 (dk_at dksX12_init_0 10 rfl rfl)
theorem dX12_init_11 : decode cX12_init 11 = .ok (.putfield 13, 3) := dk_181 0 13 (dk_at dksX12_init_0 11 rfl rfl)
theorem dX12_init_14 : decode cX12_init 14 = .ok (.aload_n 0, 1) := dk_42 (dk_at dksX12_init_0 14 rfl rfl)
theorem dX12_init_15 : decode cX12_init 15 = .ok (.aload_n 3, 1) := dk_45 (dk_at dksX12_init_0 15 rfl rfl)
theorem dX12_init_16 : decode cX12_init 16 = .ok (.putfield 17, 3) := dk_181 0 17 (dk_at dksX12_init_0 16 rfl rfl)
theorem dX12_init_19 : decode cX12_init 19 = .ok (.return_, 1) := dk_177 (dk_at dksX12_init_0 19 rfl rfl)
def dkwX12_is_5 : List UInt8 := [32, 9, 148, 157, 0, 7, 4, 167, 0, 4, 3, 172, 32, 9, 148, 155, 0, 7, 4, 167, 0, 4, 3, 172]
abbrev dktX12_is_5 : List UInt8 := dkwX12_is_5 ++ []
def dkwX12_is_4 : List UInt8 := [32, 9, 148, 154, 0, 7, 4, 167, 0, 4, 3, 172, 32, 9, 148, 153, 0, 7, 4, 167, 0, 4, 3, 172]
abbrev dktX12_is_4 : List UInt8 := dkwX12_is_4 ++ dktX12_is_5
def dkwX12_is_3 : List UInt8 := [32, 9, 148, 156, 0, 7, 4, 167, 0, 4, 3, 172, 32, 9, 148, 158, 0, 7, 4, 167, 0, 4, 3, 172]
abbrev dktX12_is_3 : List UInt8 := dkwX12_is_3 ++ dktX12_is_4
def dkwX12_is_2 : List UInt8 := [171, 0, 0, 0, 0, 110, 0, 0, 0, 5, 0, 0, 0, 35, 0, 0, 0, 86, 0, 0, 0, 60, 0, 0, 0, 50, 0, 0, 0, 61, 0, 0, 0, 74, 0, 0, 0, 62, 0, 0, 0, 62, 0, 0, 1, 47, 0, 0, 0, 98]
abbrev dktX12_is_2 : List UInt8 := dkwX12_is_2 ++ dktX12_is_3
def dkwX12_is_1 : List UInt8 := [180, 0, 7]
abbrev dktX12_is_1 : List UInt8 := dkwX12_is_1 ++ dktX12_is_2
def dkwX12_is_0 : List UInt8 := [42, 180, 0, 13, 43, 185, 0, 20, 2, 0, 42, 180, 0, 17, 43, 185, 0, 20, 2, 0, 101, 65, 42]
abbrev dktX12_is_0 : List UInt8 := dkwX12_is_0 ++ dktX12_is_1
theorem dksX12_is_0 : cX12_is.data.toList.drop 0 = dktX12_is_0 := by decide +kernel
theorem dksX12_is_1 : cX12_is.data.toList.drop 23 = dktX12_is_1 := dk_seg dksX12_is_0 23 rfl rfl
theorem dksX12_is_2 : cX12_is.data.toList.drop 26 = dktX12_is_2 := dk_seg dksX12_is_1 3 rfl rfl
theorem dksX12_is_3 : cX12_is.data.toList.drop 76 = dktX12_is_3 := dk_seg dksX12_is_2 50 rfl rfl
theorem dksX12_is_4 : cX12_is.data.toList.drop 100 = dktX12_is_4 := dk_seg dksX12_is_3 24 rfl rfl
theorem dksX12_is_5 : cX12_is.data.toList.drop 124 = dktX12_is_5 := dk_seg dksX12_is_4 24 rfl rfl
theorem dX12_is_0 : decode cX12_is 0 = .ok (.aload_n 0, 1) := dk_42 (dk_at dksX12_is_0 0 rfl rfl)
theorem dX12_is_1 : decode cX12_is 1 = .ok (.getfield 13, 3) := dk_180 0 13 (dk_at dksX12_is_0 1 rfl rfl)
theorem dX12_is_4 : decode cX12_is 4 = .ok (.aload_n 1, 1) := dk_43 (dk_at dksX12_is_0 4 rfl rfl)
theorem dX12_is_5 : decode cX12_is 5 = .ok (.invokeinterface 20 2, 5) := by decide +kernel
theorem dX12_is_10 : decode cX12_is 10 = .ok (.aload_n 0, 1) := dk_42 (dk_at dksX12_is_0 10 rfl rfl)
theorem dX12_is_11 : decode cX12_is 11 = .ok (.getfield 17, 3) := dk_180 0 17 (dk_at dksX12_is_0 11 rfl rfl)
theorem dX12_is_14 : decode cX12_is 14 = .ok (.aload_n 1, 1) := dk_43 (dk_at dksX12_is_0 14 rfl rfl)
theorem dX12_is_15 : decode cX12_is 15 = .ok (.invokeinterface 20 2, 5) := by decide +kernel
theorem dX12_is_20 : decode cX12_is 20 = .ok (.lsub, 1) := dk_101 (dk_at dksX12_is_0 20 rfl rfl)
theorem dX12_is_21 : decode cX12_is 21 = .ok (.lstore_n 2, 1) := dk_65 (dk_at dksX12_is_0 21 rfl rfl)
theorem dX12_is_22 : decode cX12_is 22 = .ok (.aload_n 0, 1) := dk_42 (dk_at dksX12_is_0 22 rfl rfl)
theorem dX12_is_23 : decode cX12_is 23 = .ok (.getfield 7, 3) := dk_180 0 7 (dk_at dksX12_is_1 0 rfl rfl)
theorem dX12_is_26 : decode cX12_is 26 = .ok (.lookupswitch 110 #[(35, 86), (60, 50), (61, 74), (62, 62), (303, 98)], 50) := by decide +kernel
theorem dX12_is_76 : decode cX12_is 76 = .ok (.lload_n 2, 1) := dk_32 (dk_at dksX12_is_3 0 rfl rfl)
theorem dX12_is_77 : decode cX12_is 77 = .ok (.lconst 0, 1) := dk_9 (dk_at dksX12_is_3 1 rfl rfl)
theorem dX12_is_78 : decode cX12_is 78 = .ok (.lcmp, 1) := dk_148 (dk_at dksX12_is_3 2 rfl rfl)
theorem dX12_is_79 : decode cX12_is 79 = .ok (.ifCond .ge 7, 3) := dk_156 0 7 (dk_at dksX12_is_3 3 rfl rfl)
theorem dX12_is_82 : decode cX12_is 82 = .ok (.iconst 1, 1) := dk_4 (dk_at dksX12_is_3 6 rfl rfl)
theorem dX12_is_83 : decode cX12_is 83 = .ok (.goto 4, 3) := dk_167 0 4 (dk_at dksX12_is_3 7 rfl rfl)
theorem dX12_is_86 : decode cX12_is 86 = .ok (.iconst 0, 1) := dk_3 (dk_at dksX12_is_3 10 rfl rfl)
theorem dX12_is_87 : decode cX12_is 87 = .ok (.ireturn, 1) := dk_172 (dk_at dksX12_is_3 11 rfl rfl)
theorem dX12_is_88 : decode cX12_is 88 = .ok (.lload_n 2, 1) := dk_32 (dk_at dksX12_is_3 12 rfl rfl)
theorem dX12_is_89 : decode cX12_is 89 = .ok (.lconst 0, 1) := dk_9 (dk_at dksX12_is_3 13 rfl rfl)
theorem dX12_is_90 : decode cX12_is 90 = .ok (.lcmp, 1) := dk_148 (dk_at dksX12_is_3 14 rfl rfl)
theorem dX12_is_91 : decode cX12_is 91 = .ok (.ifCond .le 7, 3) := dk_158 0 7 (dk_at dksX12_is_3 15 rfl rfl)
theorem dX12_is_94 : decode cX12_is 94 = .ok (.iconst 1, 1) := dk_4 (dk_at dksX12_is_3 18 rfl rfl)
theorem dX12_is_95 : decode cX12_is 95 = .ok (.goto 4, 3) := dk_167 0 4 (dk_at dksX12_is_3 19 rfl rfl)
theorem dX12_is_98 : decode cX12_is 98 = .ok (.iconst 0, 1) := dk_3 (dk_at dksX12_is_3 22 rfl rfl)
theorem dX12_is_99 : decode cX12_is 99 = .ok (.ireturn, 1) := dk_172 (dk_at dksX12_is_3 23 rfl rfl)
theorem dX12_is_100 : decode cX12_is 100 = .ok (.lload_n 2, 1) := dk_32 (dk_at dksX12_is_4 0 rfl rfl)
theorem dX12_is_101 : decode cX12_is 101 = .ok (.lconst 0, 1) := dk_9 (dk_at dksX12_is_4 1 rfl rfl)
theorem dX12_is_102 : decode cX12_is 102 = .ok (.lcmp, 1) := dk_148 (dk_at dksX12_is_4 2 rfl rfl)
theorem dX12_is_103 : decode cX12_is 103 = .ok (.ifCond .ne 7, 3) := dk_154 0 7 (dk_at dksX12_is_4 3 rfl rfl)
theorem dX12_is_106 : decode cX12_is 106 = .ok (.iconst 1, 1) := dk_4 (dk_at dksX12_is_4 6 rfl rfl)
theorem dX12_is_107 : decode cX12_is 107 = .ok (.goto 4, 3) := dk_167 0 4 (dk_at dksX12_is_4 7 rfl rfl)
theorem dX12_is_110 : decode cX12_is 110 = .ok (.iconst 0, 1) := dk_3 (dk_at dksX12_is_4 10 rfl rfl)
theorem dX12_is_111 : decode cX12_is 111 = .ok (.ireturn, 1) := dk_172 (dk_at dksX12_is_4 11 rfl rfl)
theorem dX12_is_112 : decode cX12_is 112 = .ok (.lload_n 2, 1) := dk_32 (dk_at dksX12_is_4 12 rfl rfl)
theorem dX12_is_113 : decode cX12_is 113 = .ok (.lconst 0, 1) := dk_9 (dk_at dksX12_is_4 13 rfl rfl)
theorem dX12_is_114 : decode cX12_is 114 = .ok (.lcmp, 1) := dk_148 (dk_at dksX12_is_4 14 rfl rfl)
theorem dX12_is_115 : decode cX12_is 115 = .ok (.ifCond .eq 7, 3) := dk_153 0 7 (dk_at dksX12_is_4 15 rfl rfl)
theorem dX12_is_118 : decode cX12_is 118 = .ok (.iconst 1, 1) := dk_4 (dk_at dksX12_is_4 18 rfl rfl)
theorem dX12_is_119 : decode cX12_is 119 = .ok (.goto 4, 3) := dk_167 0 4 (dk_at dksX12_is_4 19 rfl rfl)
theorem dX12_is_122 : decode cX12_is 122 = .ok (.iconst 0, 1) := dk_3 (dk_at dksX12_is_4 22 rfl rfl)
theorem dX12_is_123 : decode cX12_is 123 = .ok (.ireturn, 1) := dk_172 (dk_at dksX12_is_4 23 rfl rfl)
theorem dX12_is_124 : decode cX12_is 124 = .ok (.lload_n 2, 1) := dk_32 (dk_at dksX12_is_5 0 rfl rfl)
theorem dX12_is_125 : decode cX12_is 125 = .ok (.lconst 0, 1) := dk_9 (dk_at dksX12_is_5 1 rfl rfl)
theorem dX12_is_126 : decode cX12_is 126 = .ok (.lcmp, 1) := dk_148 (dk_at dksX12_is_5 2 rfl rfl)
theorem dX12_is_127 : decode cX12_is 127 = .ok (.ifCond .gt 7, 3) := dk_157 0 7 (dk_at dksX12_is_5 3 rfl rfl)
theorem dX12_is_130 : decode cX12_is 130 = .ok (.iconst 1, 1) := dk_4 (dk_at dksX12_is_5 6 rfl rfl)
theorem dX12_is_131 : decode cX12_is 131 = .ok (.goto 4, 3) := dk_167 0 4 (dk_at dksX12_is_5 7 rfl rfl)
theorem dX12_is_134 : decode cX12_is 134 = .ok (.iconst 0, 1) := dk_3 (dk_at dksX12_is_5 10 rfl rfl)
theorem dX12_is_135 : decode cX12_is 135 = .ok (.ireturn, 1) := dk_172 (dk_at dksX12_is_5 11 rfl rfl)
theorem dX12_is_136 : decode cX12_is 136 = .ok (.lload_n 2, 1) := dk_32 (dk_at dksX12_is_5 12 rfl rfl)
theorem dX12_is_137 : decode cX12_is 137 = .ok (.lconst 0, 1) := dk_9 (dk_at dksX12_is_5 13 rfl rfl)
theorem dX12_is_138 : decode cX12_is 138 = .ok (.lcmp, 1) := dk_148 (dk_at dksX12_is_5 14 rfl rfl)
theorem dX12_is_139 : decode cX12_is 139 = .ok (.ifCond .lt 7, 3) := dk_155 0 7 (dk_at dksX12_is_5 15 rfl rfl)
theorem dX12_is_142 : decode cX12_is 142 = .ok (.iconst 1, 1) := dk_4 (dk_at dksX12_is_5 18 rfl rfl)
theorem dX12_is_143 : decode cX12_is 143 = .ok (.goto 4, 3) := dk_167 0 4 (dk_at dksX12_is_5 19 rfl rfl)
theorem dX12_is_146 : decode cX12_is 146 = .ok (.iconst 0, 1) := dk_3 (dk_at dksX12_is_5 22 rfl rfl)
theorem dX12_is_147 : decode cX12_is 147 = .ok (.ireturn, 1) := dk_172 (dk_at dksX12_is_5 23 rfl rfl)
def dkwX13_init_0 : List UInt8 := [42, 183, 0, 1, 42, 27, 181, 0, 7, 42, 44, 181, 0, 13, 177]
abbrev dktX13_init_0 : List UInt8 := dkwX13_init_0 ++ []
theorem dksX13_init_0 : cX13_init.data.toList.drop 0 = dktX13_init_0 := by decide +kernel
theorem dX13_init_0 : decode cX13_init 0 = .ok (.aload_n 0, 1) := dk_42 (dk_at dksX13_init_0 0 rfl rfl)
theorem dX13_init_1 : decode cX13_init 1 = .ok (.invokespecial 1, 3) := dk_183 0 1 (dk_at dksX13_init_0 1 rfl rfl)
theorem dX13_init_4 : decode cX13_init 4 = .ok (.aload_n 0, 1) := dk_42 (dk_at dksX13_init_0 4 rfl rfl)
theorem dX13_init_5 : decode cX13_init 5 = .ok (.iload_n 1, 1) := dk_27 (dk_at dksX13_init_0 5 rfl rfl)
theorem dX13_init_6 : decode cX13_init 6 = .ok (.putfield 7, 3) := dk_181 0 7 (dk_at dksX13_init_0 6 rfl rfl)
theorem dX13_init_9 : decode cX13_init 9 = .ok (.aload_n 0, 1) := dk_42 (dk_at dksX13_init_0 9 rfl rfl)
theorem dX13_init_10 : decode cX13_init 10 = .ok (.aload_n 2, 1) := dk_44 (dk_at dksX13_init_0 10 rfl rfl)
theorem dX13_init_11 : decode cX13_init 11 = .ok (.putfield 13, 3) := dk_181 0 13 (dk_at dksX13_init_0 11 rfl rfl)
theorem dX13_init_14 : decode cX13_init 14 = .ok (.return_, 1) := dk_177 (dk_at dksX13_init_0 14 rfl rfl)
def dkwX13_is_3 : List UInt8 := [167, 0, 16, 3, 167, 0, 12, 28, 158, 0, 7, 4, 167, 0, 4, 3, 172]
abbrev dktX13_is_3 : List UInt8 := dkwX13_is_3 ++ []
def dkwX13_is_2 : List UInt8 := [167, 255, 214, 42, 180, 0, 7, 153, 0, 22, 28, 42, 180, 0, 13, 182, 0, 17, 160, 0, 7, 4]
abbrev dktX13_is_2 : List UInt8 := dkwX13_is_2 ++ dktX13_is_3
def dkwX13_is_1 : List UInt8 := [192, 0, 27, 43, 185, 0, 29, 2, 0, 153, 0, 7, 4, 167, 0, 4, 3, 96, 61, 132, 3, 1]
abbrev dktX13_is_1 : List UInt8 := dkwX13_is_1 ++ dktX13_is_2
def dkwX13_is_0 : List UInt8 := [3, 61, 3, 62, 29, 42, 180, 0, 13, 182, 0, 17, 162, 0, 37, 28, 42, 180, 0, 13, 29, 182, 0, 23]
abbrev dktX13_is_0 : List UInt8 := dkwX13_is_0 ++ dktX13_is_1
theorem dksX13_is_0 : cX13_is.data.toList.drop 0 = dktX13_is_0 := by decide +kernel
theorem dksX13_is_1 : cX13_is.data.toList.drop 24 = dktX13_is_1 := dk_seg dksX13_is_0 24 rfl rfl
theorem dksX13_is_2 : cX13_is.data.toList.drop 46 = dktX13_is_2 := dk_seg dksX13_is_1 22 rfl rfl
theorem dksX13_is_3 : cX13_is.data.toList.drop 68 = dktX13_is_3 := dk_seg dksX13_is_2 22 rfl rfl
theorem dX13_is_0 : decode cX13_is 0 = .ok (.iconst 0, 1) := dk_3 (dk_at dksX13_is_0 0 rfl rfl)
theorem dX13_is_1 : decode cX13_is 1 = .ok (.istore_n 2, 1) := dk_61 (dk_at dksX13_is_0 1 rfl rfl)
theorem dX13_is_2 : decode cX13_is 2 = .ok (.iconst 0, 1) := dk_3 (dk_at dksX13_is_0 2 rfl rfl)
theorem dX13_is_3 : decode cX13_is 3 = .ok (.istore_n 3, 1) := dk_62 (dk_at dksX13_is_0 3 rfl rfl)
theorem dX13_is_4 : decode cX13_is 4 = .ok (.iload_n 3, 1) := dk_29 (dk_at dksX13_is_0 4 rfl rfl)
theorem dX13_is_5 : decode cX13_is 5 = .ok (.aload_n 0, 1) := dk_42 (dk_at dksX13_is_0 5 rfl rfl)
theorem dX13_is_6 : decode cX13_is 6 = .ok (.getfield 13, 3) := dk_180 0 13 (dk_at dksX13_is_0 6 rfl rfl)
theorem dX13_is_9 : decode cX13_is 9 = .ok (.invokevirtual 17, 3) := dk_182 0 17 (dk_at dksX13_is_0 9 rfl rfl)
theorem dX13_is_12 : decode cX13_is 12 = .ok (.if_icmp .ge 37, 3) := dk_162 0 37 (dk_at dksX13_is_0 12 rfl rfl)
theorem dX13_is_15 : decode cX13_is 15 = .ok (.iload_n 2, 1) := dk_28 (dk_at dksX13_is_0 15 rfl rfl)
theorem dX13_is_16 : decode cX13_is 16 = .ok (.aload_n 0, 1) := dk_42 (dk_at dksX13_is_0 16 rfl rfl)
theorem dX13_is_17 : decode cX13_is 17 = .ok (.getfield 13, 3) := dk_180 0 13 (dk_at dksX13_is_0 17 rfl rfl)
theorem dX13_is_20 : decode cX13_is 20 = .ok (.iload_n 3, 1) := dk_29 (dk_at dksX13_is_0 20 rfl rfl)
theorem dX13_is_21 : decode cX13_is 21 = .ok (.invokevirtual 23, 3) := dk_182 0 23 (dk_at dksX13_is_0 21 rfl rfl)
theorem dX13_is_24 : decode cX13_is 24 = .ok (.checkcast 27, 3) := dk_192 0 27 (dk_at dksX13_is_1 0 rfl rfl)
theorem dX13_is_27 : decode cX13_is 27 = .ok (.aload_n 1, 1) := dk_43 (dk_at dksX13_is_1 3 rfl rfl)
theorem dX13_is_28 : decode cX13_is 28 = .ok (.invokeinterface 29 2, 5) := by decide +kernel
theorem dX13_is_33 : decode cX13_is 33 = .ok (.ifCond .eq 7, 3) := dk_153 0 7 (dk_at dksX13_is_1 9 rfl rfl)
theorem dX13_is_36 : decode cX13_is 36 = .ok (.iconst 1, 1) := dk_4 (dk_at dksX13_is_1 12 rfl rfl)
theorem dX13_is_37 : decode cX13_is 37 = .ok (.goto 4, 3) := dk_167 0 4 (dk_at dksX13_is_1 13 rfl rfl)
theorem dX13_is_40 : decode cX13_is 40 = .ok (.iconst 0, 1) := dk_3 (dk_at dksX13_is_1 16 rfl rfl)
theorem dX13_is_41 : decode cX13_is 41 = .ok (.iadd, 1) := dk_96 (dk_at dksX13_is_1 17 rfl rfl)
theorem dX13_is_42 : decode cX13_is 42 = .ok (.istore_n 2, 1) := dk_61 (dk_at dksX13_is_1 18 rfl rfl)
theorem dX13_is_43 : decode cX13_is 43 = .ok (.iinc 3 1, 3) := dk_132 3 1 (dk_at dksX13_is_1 19 rfl rfl)
theorem dX13_is_46 : decode cX13_is 46 = .ok (.goto (-42), 3) := dk_167 255 214 (dk_at dksX13_is_2 0 rfl rfl)
theorem dX13_is_49 : decode cX13_is 49 = .ok (.aload_n 0, 1) := dk_42 (dk_at dksX13_is_2 3 rfl rfl)
theorem dX13_is_50 : decode cX13_is 50 = .ok (.getfield 7, 3) := dk_180 0 7 (dk_at dksX13_is_2 4 rfl rfl)
theorem dX13_is_53 : decode cX13_is 53 = .ok (.ifCond .eq 22, 3) := dk_153 0 22 (dk_at dksX13_is_2 7 rfl rfl)
theorem dX13_is_56 : decode cX13_is 56 = .ok (.iload_n 2, 1) := dk_28 (dk_at dksX13_is_2 10 rfl rfl)
theorem dX13_is_57 : decode cX13_is 57 = .ok (.aload_n 0, 1) := dk_42 (dk_at dksX13_is_2 11 rfl rfl)
theorem dX13_is_58 : decode cX13_is 58 = .ok (.getfield 13, 3) := dk_180 0 13 (dk_at dksX13_is_2 12 rfl rfl)
theorem dX13_is_61 : decode cX13_is 61 = .ok (.invokevirtual 17, 3) := dk_182 0 17 (dk_at dksX13_is_2 15 rfl rfl)
theorem dX13_is_64 : decode cX13_is 64 = .ok (.if_icmp .ne 7, 3) := dk_160 0 7 (dk_at dksX13_is_2 18 rfl rfl)
theorem dX13_is_67 : decode cX13_is 67 = .ok (.iconst 1, 1) := dk_4 (dk_at dksX13_is_2 21 rfl rfl)
theorem dX13_is_68 : decode cX13_is 68 = .ok (.goto 16, 3) := dk_167 0 16 (dk_at dksX13_is_3 0 rfl rfl)
theorem dX13_is_71 : decode cX13_is 71 = .ok (.iconst 0, 1) := dk_3 (dk_at dksX13_is_3 3 rfl rfl)
theorem dX13_is_72 : decode cX13_is 72 = .ok (.goto 12, 3) := dk_167 0 12 (dk_at dksX13_is_3 4 rfl rfl)
theorem dX13_is_75 : decode cX13_is 75 = .ok (.iload_n 2, 1) := dk_28 (dk_at dksX13_is_3 7 rfl rfl)
theorem dX13_is_76 : decode cX13_is 76 = .ok (.ifCond .le 7, 3) := dk_158 0 7 (dk_at dksX13_is_3 8 rfl rfl)
theorem dX13_is_79 : decode cX13_is 79 = .ok (.iconst 1, 1) := dk_4 (dk_at dksX13_is_3 11 rfl rfl)
theorem dX13_is_80 : decode cX13_is 80 = .ok (.goto 4, 3) := dk_167 0 4 (dk_at dksX13_is_3 12 rfl rfl)
theorem dX13_is_83 : decode cX13_is 83 = .ok (.iconst 0, 1) := dk_3 (dk_at dksX13_is_3 15 rfl rfl)
theorem dX13_is_84 : decode cX13_is 84 = .ok (.ireturn, 1) := dk_172 (dk_at dksX13_is_3 16 rfl rfl)
def dkwX14_init_1 : List UInt8 := [181, 0, 20, 42, 21, 5, 181, 0, 23, 177]
abbrev dktX14_init_1 : List UInt8 := dkwX14_init_1 ++ []
def dkwX14_init_0 : List UInt8 := [42, 183, 0, 1, 42, 27, 181, 0, 7, 42, 44, 181, 0, 13, 42, 45, 181, 0, 17, 42, 21, 4]
abbrev dktX14_init_0 : List UInt8 := dkwX14_init_0 ++ dktX14_init_1
theorem dksX14_init_0 : cX14_init.data.toList.drop 0 = dktX14_init_0 := by decide +kernel
theorem dksX14_init_1 : cX14_init.data.toList.drop 22 = dktX14_init_1 := dk_seg dksX14_init_0 22 rfl rfl
theorem dX14_init_0 : decode cX14_init 0 = .ok (.aload_n 0, 1) := dk_42 (dk_at dksX14_init_0 0 rfl rfl)
theorem dX14_init_1 : decode cX14_init 1 = .ok (.invokespecial 1, 3) := dk_183 0 1 (dk_at dksX14_init_0 1 rfl rfl)
theorem dX14_init_4 : decode cX14_init 4 = .ok (.aload_n 0, 1) := dk_42 (dk_at dksX14_init_0 4 rfl rfl)
theorem dX14_init_5 : decode cX14_init 5 = .ok (.iload_n 1, 1) := dk_27 (dk_at dksX14_init_0 5 rfl rfl)
theorem dX14_init_6 : decode cX14_init 6 = .ok (.putfield 7, 3) := dk_181 0 7 (dk_at dksX14_init_0 6 rfl rfl)
theorem dX14_init_9 : decode cX14_init 9 = .ok (.aload_n 0, 1) := dk_42 (dk_at dksX14_init_0 9 rfl rfl)
theorem dX14_init_10 : decode cX14_init 10 = .ok (.aload_n 2, 1) := dk_44 (dk_at dksX14_init_0 10 rfl rfl)
theorem dX14_init_11 : decode cX14_init 11 = .ok (.putfield 13, 3) := dk_181 0 13 (dk_at dksX14_init_0 11 rfl rfl)
theorem dX14_init_14 : decode cX14_init 14 = .ok (.aload_n 0, 1) := dk_42 (dk_at dksX14_init_0 14 rfl rfl)
theorem dX14_init_15 : decode cX14_init 15 = .ok (.aload_n 3, 1) := dk_45 (dk_at dksX14_init_0 15 rfl rfl)
theorem dX14_init_16 : decode cX14_init 16 = .ok (.putfield 17, 3) := dk_181 0 17 (dk_at dksX14_init_0 16 rfl rfl)
theorem dX14_init_19 : decode cX14_init 19 = .ok (.aload_n 0, 1) := dk_42 (dk_at dksX14_init_0 19 rfl rfl)
theorem dX14_init_20 : decode cX14_init 20 = .ok (.iload 4, 2) := dk_21 4 (dk_at dksX14_init_0 20 rfl rfl)
theorem dX14_init_22 : decode cX14_init 22 = .ok (.putfield 20, 3) := dk_181 0 20 (dk_at dksX14_init_1 0 rfl rfl)
theorem dX14_init_25 : decode cX14_init 25 = .ok (.aload_n 0, 1) := dk_42 (dk_at dksX14_init_1 3 rfl rfl)
theorem dX14_init_26 : decode cX14_init 26 = .ok (.iload 5, 2) := dk_21 5 (dk_at dksX14_init_1 4 rfl rfl)
theorem dX14_init_28 : decode cX14_init 28 = .ok (.putfield 23, 3) := dk_181 0 23 (dk_at dksX14_init_1 6 rfl rfl)
theorem dX14_init_31 : decode cX14_init 31 = .ok (.return_, 1) := dk_177 (dk_at dksX14_init_1 9 rfl rfl)
theorem dX14_sort_0 : decode cX14_sort 0 = .ok (.aload_n 0, 1) := by decide +kernel
theorem dX14_sort_1 : decode cX14_sort 1 = .ok (.getfield 7, 3) := by decide +kernel
theorem dX14_sort_4 : decode cX14_sort 4 = .ok (.ireturn, 1) := by decide +kernel
theorem dX14_letters_0 : decode cX14_letters 0 = .ok (.aload_n 0, 1) := by decide +kernel
theorem dX14_letters_1 : decode cX14_letters 1 = .ok (.getfield 13, 3) := by decide +kernel
theorem dX14_letters_4 : decode cX14_letters 4 = .ok (.areturn, 1) := by decide +kernel
theorem dX14_a_0 : decode cX14_a 0 = .ok (.aload_n 0, 1) := by decide +kernel
theorem dX14_a_1 : decode cX14_a 1 = .ok (.getfield 20, 3) := by decide +kernel
theorem dX14_a_4 : decode cX14_a 4 = .ok (.ireturn, 1) := by decide +kernel
theorem dX14_more_0 : decode cX14_more 0 = .ok (.aload_n 0, 1) := by decide +kernel
theorem dX14_more_1 : decode cX14_more 1 = .ok (.getfield 17, 3) := by decide +kernel
theorem dX14_more_4 : decode cX14_more 4 = .ok (.areturn, 1) := by decide +kernel
theorem dX14_number_0 : decode cX14_number 0 = .ok (.aload_n 0, 1) := by decide +kernel
theorem dX14_number_1 : decode cX14_number 1 = .ok (.getfield 23, 3) := by decide +kernel
theorem dX14_number_4 : decode cX14_number 4 = .ok (.ireturn, 1) := by decide +kernel
theorem dX3_letter_0 : decode cX3_letter 0 = .ok (.aload_n 0, 1) := by decide +kernel
theorem dX3_letter_1 : decode cX3_letter 1 = .ok (.getfield 7, 3) := by decide +kernel
theorem dX3_letter_4 : decode cX3_letter 4 = .ok (.areturn, 1) := by decide +kernel
def dkwX3_init_0 : List UInt8 := [42, 183, 0, 1, 42, 43, 181, 0, 7, 42, 28, 181, 0, 13, 42, 29, 181, 0, 17, 177]
abbrev dktX3_init_0 : List UInt8 := dkwX3_init_0 ++ []
theorem dksX3_init_0 : cX3_init.data.toList.drop 0 = dktX3_init_0 := by decide +kernel
theorem dX3_init_0 : decode cX3_init 0 = .ok (.aload_n 0, 1) := dk_42 (dk_at dksX3_init_0 0 rfl rfl)
theorem dX3_init_1 : decode cX3_init 1 = .ok (.invokespecial 1, 3) := dk_183 0 1 (dk_at dksX3_init_0 1 rfl rfl)
theorem dX3_init_4 : decode cX3_init 4 = .ok (.aload_n 0, 1) := dk_42 (dk_at dksX3_init_0 4 rfl rfl)
theorem dX3_init_5 : decode cX3_init 5 = .ok (.aload_n 1, 1) := dk_43 (dk_at dksX3_init_0 5 rfl rfl)
theorem dX3_init_6 : decode cX3_init 6 = .ok (.putfield 7, 3) := dk_181 0 7 (dk_at dksX3_init_0 6 rfl rfl)
theorem dX3_init_9 : decode cX3_init 9 = .ok (.aload_n 0, 1) := dk_42 (dk_at dksX3_init_0 9 rfl rfl)
theorem dX3_init_10 : decode cX3_init 10 = .ok (.iload_n 2, 1) := dk_28 (dk_at dksX3_init_0 10 rfl rfl)
theorem dX3_init_11 : decode cX3_init 11 = .ok (.putfield 13, 3) := dk_181 0 13 (dk_at dksX3_init_0 11 rfl rfl)
theorem dX3_init_14 : decode cX3_init 14 = .ok (.aload_n 0, 1) := dk_42 (dk_at dksX3_init_0 14 rfl rfl)
theorem dX3_init_15 : decode cX3_init 15 = .ok (.iload_n 3, 1) := dk_29 (dk_at dksX3_init_0 15 rfl rfl)
theorem dX3_init_16 : decode cX3_init 16 = .ok (.putfield 17, 3) := dk_181 0 17 (dk_at dksX3_init_0 16 rfl rfl)
theorem dX3_init_19 : decode cX3_init 19 = .ok (.return_, 1) := dk_177 (dk_at dksX3_init_0 19 rfl rfl)
theorem dX3_bits_0 : decode cX3_bits 0 = .ok (.aload_n 0, 1) := by decide +kernel
theorem dX3_bits_1 : decode cX3_bits 1 = .ok (.getfield 13, 3) := by decide +kernel
theorem dX3_bits_4 : decode cX3_bits 4 = .ok (.ireturn, 1) := by decide +kernel
theorem dX3_sense_0 : decode cX3_sense 0 = .ok (.aload_n 0, 1) := by decide +kernel
theorem dX3_sense_1 : decode cX3_sense 1 = .ok (.getfield 17, 3) := by decide +kernel
theorem dX3_sense_4 : decode cX3_sense 4 = .ok (.ireturn, 1) := by decide +kernel
def dkwX3_length_0 : List UInt8 := [42, 180, 0, 7, 190, 172]
abbrev dktX3_length_0 : List UInt8 := dkwX3_length_0 ++ []
theorem dksX3_length_0 : cX3_length.data.toList.drop 0 = dktX3_length_0 := by decide +kernel
theorem dX3_length_0 : decode cX3_length 0 = .ok (.aload_n 0, 1) := dk_42 (dk_at dksX3_length_0 0 rfl rfl)
theorem dX3_length_1 : decode cX3_length 1 = .ok (.getfield 7, 3) := dk_180 0 7 (dk_at dksX3_length_0 1 rfl rfl)
theorem dX3_length_4 : decode cX3_length 4 = .ok (.arraylength, 1) := dk_190 (dk_at dksX3_length_0 4 rfl rfl)
theorem dX3_length_5 : decode cX3_length 5 = .ok (.ireturn, 1) := dk_172 (dk_at dksX3_length_0 5 rfl rfl)
def dkwX4_init_0 : List UInt8 := [42, 183, 0, 3, 42, 43, 181, 0, 9, 42, 28, 181, 0, 15, 177]
abbrev dktX4_init_0 : List UInt8 := dkwX4_init_0 ++ []
theorem dksX4_init_0 : cX4_init.data.toList.drop 0 = dktX4_init_0 := by decide +kernel
theorem dX4_init_0 : decode cX4_init 0 = .ok (.aload_n 0, 1) := dk_42 (dk_at dksX4_init_0 0 rfl rfl)
theorem dX4_init_1 : decode cX4_init 1 = .ok (.invokespecial 3, 3) := dk_183 0 3 (dk_at dksX4_init_0 1 rfl rfl)
theorem dX4_init_4 : decode cX4_init 4 = .ok (.aload_n 0, 1) := dk_42 (dk_at dksX4_init_0 4 rfl rfl)
theorem dX4_init_5 : decode cX4_init 5 = .ok (.aload_n 1, 1) := dk_43 (dk_at dksX4_init_0 5 rfl rfl)
theorem dX4_init_6 : decode cX4_init 6 = .ok (.putfield 9, 3) := dk_181 0 9 (dk_at dksX4_init_0 6 rfl rfl)
theorem dX4_init_9 : decode cX4_init 9 = .ok (.aload_n 0, 1) := dk_42 (dk_at dksX4_init_0 9 rfl rfl)
theorem dX4_init_10 : decode cX4_init 10 = .ok (.iload_n 2, 1) := dk_28 (dk_at dksX4_init_0 10 rfl rfl)
theorem dX4_init_11 : decode cX4_init 11 = .ok (.putfield 15, 3) := dk_181 0 15 (dk_at dksX4_init_0 11 rfl rfl)
theorem dX4_init_14 : decode cX4_init 14 = .ok (.return_, 1) := dk_177 (dk_at dksX4_init_0 14 rfl rfl)
def dkwX4_read_7 : List UInt8 := [4, 96, 181, 0, 100, 167, 255, 97, 43, 176]
abbrev dktX4_read_7 : List UInt8 := dkwX4_read_7 ++ []
def dkwX4_read_6 : List UInt8 := [182, 0, 70, 191, 42, 182, 0, 74, 42, 43, 182, 0, 103, 42, 16, 59, 182, 0, 107, 43, 89, 180, 0, 100]
abbrev dktX4_read_6 : List UInt8 := dkwX4_read_6 ++ dktX4_read_7
def dkwX4_read_5 : List UInt8 := [180, 0, 97, 198, 0, 9, 42, 7, 182, 0, 70, 191, 43, 180, 0, 100, 16, 24, 160, 0, 10, 42, 16, 6]
abbrev dktX4_read_5 : List UInt8 := dkwX4_read_5 ++ dktX4_read_6
def dkwX4_read_4 : List UInt8 := [17, 0, 202, 160, 0, 10, 43, 180, 0, 93, 199, 0, 20, 42, 180, 0, 83, 17, 0, 203, 160, 0, 16, 43]
abbrev dktX4_read_4 : List UInt8 := dkwX4_read_4 ++ dktX4_read_5
def dkwX4_read_3 : List UInt8 := [199, 0, 54, 42, 180, 0, 83, 17, 0, 201, 160, 0, 10, 43, 180, 0, 90, 199, 0, 37, 42, 180, 0, 83]
abbrev dktX4_read_3 : List UInt8 := dkwX4_read_3 ++ dktX4_read_4
def dkwX4_read_2 : List UInt8 := [191, 42, 42, 180, 0, 25, 181, 0, 83, 42, 180, 0, 83, 17, 0, 200, 160, 0, 10, 43, 180, 0, 86]
abbrev dktX4_read_2 : List UInt8 := dkwX4_read_2 ++ dktX4_read_3
def dkwX4_read_1 : List UInt8 := [180, 0, 25, 17, 0, 200, 161, 0, 13, 42, 180, 0, 25, 17, 0, 212, 164, 0, 9, 42, 4, 182, 0, 70]
abbrev dktX4_read_1 : List UInt8 := dkwX4_read_1 ++ dktX4_read_2
def dkwX4_read_0 : List UInt8 := [187, 0, 80, 89, 183, 0, 82, 76, 42, 182, 0, 74, 42, 180, 0, 25, 17, 1, 45, 159, 0, 155, 42]
abbrev dktX4_read_0 : List UInt8 := dkwX4_read_0 ++ dktX4_read_1
theorem dksX4_read_0 : cX4_read.data.toList.drop 0 = dktX4_read_0 := by decide +kernel
theorem dksX4_read_1 : cX4_read.data.toList.drop 23 = dktX4_read_1 := dk_seg dksX4_read_0 23 rfl rfl
theorem dksX4_read_2 : cX4_read.data.toList.drop 47 = dktX4_read_2 := dk_seg dksX4_read_1 24 rfl rfl
theorem dksX4_read_3 : cX4_read.data.toList.drop 70 = dktX4_read_3 := dk_seg dksX4_read_2 23 rfl rfl
theorem dksX4_read_4 : cX4_read.data.toList.drop 94 = dktX4_read_4 := dk_seg dksX4_read_3 24 rfl rfl
theorem dksX4_read_5 : cX4_read.data.toList.drop 118 = dktX4_read_5 := dk_seg dksX4_read_4 24 rfl rfl
theorem dksX4_read_6 : cX4_read.data.toList.drop 142 = dktX4_read_6 := dk_seg dksX4_read_5 24 rfl rfl
theorem dksX4_read_7 : cX4_read.data.toList.drop 166 = dktX4_read_7 := dk_seg dksX4_read_6 24 rfl rfl
theorem dX4_read_0 : decode cX4_read 0 = .ok (.new 80, 3) := dk_187 0 80 (dk_at dksX4_read_0 0 rfl rfl)
theorem dX4_read_3 : decode cX4_read 3 = .ok (.dup, 1) := dk_89 (dk_at dksX4_read_0 3 rfl rfl)
theorem dX4_read_4 : decode cX4_read 4 = .ok (.invokespecial 82, 3) := dk_183 0 82 (dk_at dksX4_read_0 4 rfl rfl)
theorem dX4_read_7 : decode cX4_read 7 = .ok (.astore_n 1, 1) := dk_76 (dk_at dksX4_read_0 7 rfl rfl)
theorem dX4_read_8 : decode cX4_read 8 = .ok (.aload_n 0, 1) := dk_42 (dk_at dksX4_read_0 8 rfl rfl)
theorem dX4_read_9 : decode cX4_read 9 = .ok (.invokevirtual 74, 3) := dk_182 0 74 (dk_at dksX4_read_0 9 rfl rfl)
theorem dX4_read_12 : decode cX4_read 12 = .ok (.aload_n 0, 1) := dk_42 (dk_at dksX4_read_0 12 rfl rfl)
theorem dX4_read_13 : decode cX4_read 13 = .ok (.getfield 25, 3) := dk_180 0 25 (dk_at dksX4_read_0 13 rfl rfl)
theorem dX4_read_16 : decode cX4_read 16 = .ok (.sipush 301, 3) := dk_17 1 45 (dk_at dksX4_read_0 16 rfl rfl)
theorem dX4_read_19 : decode cX4_read 19 = .ok (.if_icmp .eq 155, 3) := dk_159 0 155 (dk_at dksX4_read_0 19 rfl rfl)
theorem dX4_read_22 : decode cX4_read 22 = .ok (.aload_n 0, 1) := dk_42 (dk_at dksX4_read_0 22 rfl rfl)
theorem dX4_read_23 : decode cX4_read 23 = .ok (.getfield 25, 3) := dk_180 0 25 (dk_at dksX4_read_1 0 rfl rfl)
theorem dX4_read_26 : decode cX4_read 26 = .ok (.sipush 200, 3) := dk_17 0 200 (dk_at dksX4_read_1 3 rfl rfl)
theorem dX4_read_29 : decode cX4_read 29 = .ok (.if_icmp .lt 13, 3) := dk_161 0 13 (dk_at dksX4_read_1 6 rfl rfl)
theorem dX4_read_32 : decode cX4_read 32 = .ok (.aload_n 0, 1) := dk_42 (dk_at dksX4_read_1 9 rfl rfl)
theorem dX4_read_33 : decode cX4_read 33 = .ok (.getfield 25, 3) := dk_180 0 25 (dk_at dksX4_read_1 10 rfl rfl)
theorem dX4_read_36 : decode cX4_read 36 = .ok (.sipush 212, 3) := dk_17 0 212 (dk_at dksX4_read_1 13 rfl rfl)
theorem dX4_read_39 : decode cX4_read 39 = .ok (.if_icmp .le 9, 3) := dk_164 0 9 (dk_at dksX4_read_1 16 rfl rfl)
theorem dX4_read_42 : decode cX4_read 42 = .ok (.aload_n 0, 1) := dk_42 (dk_at dksX4_read_1 19 rfl rfl)
theorem dX4_read_43 : decode cX4_read 43 = .ok (.iconst 1, 1) := dk_4 (dk_at dksX4_read_1 20 rfl rfl)
theorem dX4_read_44 : decode cX4_read 44 = .ok (.invokevirtual 70, 3) := dk_182 0 70 (dk_at dksX4_read_1 21 rfl rfl)
theorem dX4_read_47 : decode cX4_read 47 = .ok (.athrow, 1) := dk_191 (dk_at dksX4_read_2 0 rfl rfl)
theorem dX4_read_48 : decode cX4_read 48 = .ok (.aload_n 0, 1) := dk_42 (dk_at dksX4_read_2 1 rfl rfl)
theorem dX4_read_49 : decode cX4_read 49 = .ok (.aload_n 0, 1) := dk_42 (dk_at dksX4_read_2 2 rfl rfl)
theorem dX4_read_50 : decode cX4_read 50 = .ok (.getfield 25, 3) := dk_180 0 25 (dk_at dksX4_read_2 3 rfl rfl)
theorem dX4_read_53 : decode cX4_read 53 = .ok (.putfield 83, 3) := dk_181 0 83 (dk_at dksX4_read_2 6 rfl rfl)
theorem dX4_read_56 : decode cX4_read 56 = .ok (.aload_n 0, 1) := dk_42 (dk_at dksX4_read_2 9 rfl rfl)
theorem dX4_read_57 : decode cX4_read 57 = .ok (.getfield 83, 3) := dk_180 0 83 (dk_at dksX4_read_2 10 rfl rfl)
theorem dX4_read_60 : decode cX4_read 60 = .ok (.sipush 200, 3) := dk_17 0 200 (dk_at dksX4_read_2 13 rfl rfl)
theorem dX4_read_63 : decode cX4_read 63 = .ok (.if_icmp .ne 10, 3) := dk_160 0 10 (dk_at dksX4_read_2 16 rfl rfl)
theorem dX4_read_66 : decode cX4_read 66 = .ok (.aload_n 1, 1) := dk_43 (dk_at dksX4_read_2 19 rfl rfl)
theorem dX4_read_67 : decode cX4_read 67 = .ok (.getfield 86, 3) := dk_180 0 86 (dk_at dksX4_read_2 20 rfl rfl)
theorem dX4_read_70 : decode cX4_read 70 = .ok (.ifnonnull 54, 3) := dk_199 0 54 (dk_at dksX4_read_3 0 rfl rfl)
theorem dX4_read_73 : decode cX4_read 73 = .ok (.aload_n 0, 1) := dk_42 (dk_at dksX4_read_3 3 rfl rfl)
theorem dX4_read_74 : decode cX4_read 74 = .ok (.getfield 83, 3) := dk_180 0 83 (dk_at dksX4_read_3 4 rfl rfl)
theorem dX4_read_77 : decode cX4_read 77 = .ok (.sipush 201, 3) := dk_17 0 201 (dk_at dksX4_read_3 7 rfl rfl)
theorem dX4_read_80 : decode cX4_read 80 = .ok (.if_icmp .ne 10, 3) := dk_160 0 10 (dk_at dksX4_read_3 10 rfl rfl)
theorem dX4_read_83 : decode cX4_read 83 = .ok (.aload_n 1, 1) := dk_43 (dk_at dksX4_read_3 13 rfl rfl)
theorem dX4_read_84 : decode cX4_read 84 = .ok (.getfield 90, 3) := dk_180 0 90 (dk_at dksX4_read_3 14 rfl rfl)
theorem dX4_read_87 : decode cX4_read 87 = .ok (.ifnonnull 37, 3) := dk_199 0 37 (dk_at dksX4_read_3 17 rfl rfl)
theorem dX4_read_90 : decode cX4_read 90 = .ok (.aload_n 0, 1) := dk_42 (dk_at dksX4_read_3 20 rfl rfl)
theorem dX4_read_91 : decode cX4_read 91 = .ok (.getfield 83, 3) := dk_180 0 83 (dk_at dksX4_read_3 21 rfl rfl)
theorem dX4_read_94 : decode cX4_read 94 = .ok (.sipush 202, 3) := dk_17 0 202 (dk_at dksX4_read_4 0 rfl rfl)
theorem dX4_read_97 : decode cX4_read 97 = .ok (.if_icmp .ne 10, 3) := dk_160 0 10 (dk_at dksX4_read_4 3 rfl rfl)
theorem dX4_read_100 : decode cX4_read 100 = .ok (.aload_n 1, 1) := dk_43 (dk_at dksX4_read_4 6 rfl rfl)
theorem dX4_read_101 : decode cX4_read 101 = .ok (.getfield 93, 3) := dk_180 0 93 (dk_at dksX4_read_4 7 rfl rfl)
theorem dX4_read_104 : decode cX4_read 104 = .ok (.ifnonnull 20, 3) := dk_199 0 20 (dk_at dksX4_read_4 10 rfl rfl)
theorem dX4_read_107 : decode cX4_read 107 = .ok (.aload_n 0, 1) := dk_42 (dk_at dksX4_read_4 13 rfl rfl)
theorem dX4_read_108 : decode cX4_read 108 = .ok (.getfield 83, 3) := dk_180 0 83 (dk_at dksX4_read_4 14 rfl rfl)
theorem dX4_read_111 : decode cX4_read 111 = .ok (.sipush 203, 3) := dk_17 0 203 (dk_at dksX4_read_4 17 rfl rfl)
theorem dX4_read_114 : decode cX4_read 114 = .ok (.if_icmp .ne 16, 3) := dk_160 0 16 (dk_at dksX4_read_4 20 rfl rfl)
theorem dX4_read_117 : decode cX4_read 117 = .ok (.aload_n 1, 1) := dk_43 (dk_at dksX4_read_4 23 rfl rfl)
theorem dX4_read_118 : decode cX4_read 118 = .ok (.getfield 97, 3) := dk_180 0 97 (dk_at dksX4_read_5 0 rfl rfl)
theorem dX4_read_121 : decode cX4_read 121 = .ok (.ifnull 9, 3) := dk_198 0 9 (dk_at dksX4_read_5 3 rfl rfl)
theorem dX4_read_124 : decode cX4_read 124 = .ok (.aload_n 0, 1) := dk_42 (dk_at dksX4_read_5 6 rfl rfl)
theorem dX4_read_125 : decode cX4_read 125 = .ok (.iconst 4, 1) := dk_7 (dk_at dksX4_read_5 7 rfl rfl)
theorem dX4_read_126 : decode cX4_read 126 = .ok (.invokevirtual 70, 3) := dk_182 0 70 (dk_at dksX4_read_5 8 rfl rfl)
theorem dX4_read_129 : decode cX4_read 129 = .ok (.athrow, 1) := dk_191 (dk_at dksX4_read_5 11 rfl rfl)
theorem dX4_read_130 : decode cX4_read 130 = .ok (.aload_n 1, 1) := dk_43 (dk_at dksX4_read_5 12 rfl rfl)
theorem dX4_read_131 : decode cX4_read 131 = .ok (.getfield 100, 3) := dk_180 0 100 (dk_at dksX4_read_5 13 rfl rfl)
theorem dX4_read_134 : decode cX4_read 134 = .ok (.bipush 24, 2) := dk_16 24 (dk_at dksX4_read_5 16 rfl rfl)
theorem dX4_read_136 : decode cX4_read 136 = .ok (.if_icmp .ne 10, 3) := dk_160 0 10 (dk_at dksX4_read_5 18 rfl rfl)
theorem dX4_read_139 : decode cX4_read 139 = .ok (.aload_n 0, 1) := dk_42 (dk_at dksX4_read_5 21 rfl rfl)
theorem dX4_read_140 : decode cX4_read 140 = .ok (.bipush 6, 2) := dk_16 6 (dk_at dksX4_read_5 22 rfl rfl)
theorem dX4_read_142 : decode cX4_read 142 = .ok (.invokevirtual 70, 3) := dk_182 0 70 (dk_at dksX4_read_6 0 rfl rfl)
theorem dX4_read_145 : decode cX4_read 145 = .ok (.athrow, 1) := dk_191 (dk_at dksX4_read_6 3 rfl rfl)
theorem dX4_read_146 : decode cX4_read 146 = .ok (.aload_n 0, 1) := dk_42 (dk_at dksX4_read_6 4 rfl rfl)
theorem dX4_read_147 : decode cX4_read 147 = .ok (.invokevirtual 74, 3) := dk_182 0 74 (dk_at dksX4_read_6 5 rfl rfl)
theorem dX4_read_150 : decode cX4_read 150 = .ok (.aload_n 0, 1) := dk_42 (dk_at dksX4_read_6 8 rfl rfl)
theorem dX4_read_151 : decode cX4_read 151 = .ok (.aload_n 1, 1) := dk_43 (dk_at dksX4_read_6 9 rfl rfl)
theorem dX4_read_152 : decode cX4_read 152 = .ok (.invokevirtual 103, 3) := dk_182 0 103 (dk_at dksX4_read_6 10 rfl rfl)
theorem dX4_read_155 : decode cX4_read 155 = .ok (.aload_n 0, 1) := dk_42 (dk_at dksX4_read_6 13 rfl rfl)
theorem dX4_read_156 : decode cX4_read 156 = .ok (.bipush 59, 2) := dk_16 59 (dk_at dksX4_read_6 14 rfl rfl)
theorem dX4_read_158 : decode cX4_read 158 = .ok (.invokevirtual 107, 3) := dk_182 0 107 (dk_at dksX4_read_6 16 rfl rfl)
theorem dX4_read_161 : decode cX4_read 161 = .ok (.aload_n 1, 1) := dk_43 (dk_at dksX4_read_6 19 rfl rfl)
theorem dX4_read_162 : decode cX4_read 162 = .ok (.dup, 1) := dk_89 (dk_at dksX4_read_6 20 rfl rfl)
theorem dX4_read_163 : decode cX4_read 163 = .ok (.getfield 100, 3) := dk_180 0 100 (dk_at dksX4_read_6 21 rfl rfl)
theorem dX4_read_166 : decode cX4_read 166 = .ok (.iconst 1, 1) := dk_4 (dk_at dksX4_read_7 0 rfl rfl)
theorem dX4_read_167 : decode cX4_read 167 = .ok (.iadd, 1) := dk_96 (dk_at dksX4_read_7 1 rfl rfl)
theorem dX4_read_168 : decode cX4_read 168 = .ok (.putfield 100, 3) := dk_181 0 100 (dk_at dksX4_read_7 2 rfl rfl)
theorem dX4_read_171 : decode cX4_read 171 = .ok (.goto (-159), 3) := dk_167 255 97 (dk_at dksX4_read_7 5 rfl rfl)
theorem dX4_read_174 : decode cX4_read 174 = .ok (.aload_n 1, 1) := dk_43 (dk_at dksX4_read_7 8 rfl rfl)
theorem dX4_read_175 : decode cX4_read 175 = .ok (.areturn, 1) := dk_176 (dk_at dksX4_read_7 9 rfl rfl)
def dkwX4_next_17 : List UInt8 := [4, 96, 181, 0, 19, 177]
abbrev dktX4_next_17 : List UInt8 := dkwX4_next_17 ++ []
def dkwX4_next_16 : List UInt8 := [42, 27, 16, 60, 160, 0, 9, 17, 1, 47, 167, 0, 6, 17, 1, 48, 181, 0, 25, 42, 89, 180, 0, 19]
abbrev dktX4_next_16 : List UInt8 := dkwX4_next_16 ++ dktX4_next_17
def dkwX4_next_15 : List UInt8 := [180, 0, 19, 42, 180, 0, 15, 162, 0, 46, 42, 180, 0, 9, 42, 180, 0, 19, 51, 16, 61, 160, 0, 32]
abbrev dktX4_next_15 : List UInt8 := dkwX4_next_15 ++ dktX4_next_16
def dkwX4_next_14 : List UInt8 := [42, 27, 181, 0, 25, 132, 2, 1, 167, 255, 229, 27, 16, 60, 159, 0, 9, 27, 16, 62, 160, 0, 57, 42]
abbrev dktX4_next_14 : List UInt8 := dkwX4_next_14 ++ dktX4_next_15
def dkwX4_next_13 : List UInt8 := [181, 0, 25, 3, 61, 28, 18, 53, 182, 0, 55, 162, 0, 24, 18, 53, 28, 182, 0, 61, 27, 160, 0, 8]
abbrev dktX4_next_13 : List UInt8 := dkwX4_next_13 ++ dktX4_next_14
def dkwX4_next_12 : List UInt8 := [42, 180, 0, 9, 42, 180, 0, 19, 51, 60, 42, 89, 180, 0, 19, 4, 96, 181, 0, 19, 42, 17, 1, 46]
abbrev dktX4_next_12 : List UInt8 := dkwX4_next_12 ++ dktX4_next_13
def dkwX4_next_11 : List UInt8 := [51, 96, 16, 48, 100, 184, 0, 47, 181, 0, 43, 42, 89, 180, 0, 19, 4, 96, 181, 0, 19, 167, 255, 191]
abbrev dktX4_next_11 : List UInt8 := dkwX4_next_11 ++ dktX4_next_12
def dkwX4_next_10 : List UInt8 := [184, 0, 40, 153, 0, 170, 42, 18, 46, 16, 10, 42, 180, 0, 43, 104, 42, 180, 0, 9, 42, 180, 0, 19]
abbrev dktX4_next_10 : List UInt8 := dkwX4_next_10 ++ dktX4_next_11
def dkwX4_next_9 : List UInt8 := [181, 0, 43, 42, 180, 0, 19, 42, 180, 0, 15, 162, 0, 185, 42, 180, 0, 9, 42, 180, 0, 19, 51]
abbrev dktX4_next_9 : List UInt8 := dkwX4_next_9 ++ dktX4_next_10
def dkwX4_next_8 : List UInt8 := [42, 180, 0, 9, 42, 180, 0, 19, 51, 184, 0, 40, 153, 0, 83, 42, 17, 1, 44, 181, 0, 25, 42, 3]
abbrev dktX4_next_8 : List UInt8 := dkwX4_next_8 ++ dktX4_next_9
def dkwX4_next_7 : List UInt8 := [182, 0, 36, 153, 0, 12, 42, 17, 0, 200, 27, 96, 181, 0, 25, 132, 1, 1, 167, 255, 224, 167, 0, 223]
abbrev dktX4_next_7 : List UInt8 := dkwX4_next_7 ++ dktX4_next_8
def dkwX4_next_6 : List UInt8 := [17, 1, 46, 181, 0, 25, 3, 60, 27, 178, 0, 32, 190, 162, 0, 30, 42, 178, 0, 32, 27, 50]
abbrev dktX4_next_6 : List UInt8 := dkwX4_next_6 ++ dktX4_next_7
def dkwX4_next_5 : List UInt8 := [180, 0, 19, 51, 184, 0, 28, 153, 0, 16, 42, 89, 180, 0, 19, 4, 96, 181, 0, 19, 167, 255, 220, 42]
abbrev dktX4_next_5 : List UInt8 := dkwX4_next_5 ++ dktX4_next_6
def dkwX4_next_4 : List UInt8 := [184, 0, 28, 153, 0, 89, 42, 180, 0, 19, 42, 180, 0, 15, 162, 0, 31, 42, 180, 0, 9, 42]
abbrev dktX4_next_4 : List UInt8 := dkwX4_next_4 ++ dktX4_next_5
def dkwX4_next_3 : List UInt8 := [160, 0, 13, 42, 17, 1, 45, 181, 0, 25, 167, 1, 68, 42, 180, 0, 9, 42, 180, 0, 19, 51]
abbrev dktX4_next_3 : List UInt8 := dkwX4_next_3 ++ dktX4_next_4
def dkwX4_next_2 : List UInt8 := [181, 0, 19, 167, 255, 207, 42, 42, 180, 0, 19, 181, 0, 22, 42, 180, 0, 19, 42, 180, 0, 15]
abbrev dktX4_next_2 : List UInt8 := dkwX4_next_2 ++ dktX4_next_3
def dkwX4_next_1 : List UInt8 := [159, 0, 17, 42, 180, 0, 9, 42, 180, 0, 19, 51, 16, 10, 160, 0, 16, 42, 89, 180, 0, 19, 4, 96]
abbrev dktX4_next_1 : List UInt8 := dkwX4_next_1 ++ dktX4_next_2
def dkwX4_next_0 : List UInt8 := [42, 180, 0, 19, 42, 180, 0, 15, 162, 0, 44, 42, 180, 0, 9, 42, 180, 0, 19, 51, 16, 32]
abbrev dktX4_next_0 : List UInt8 := dkwX4_next_0 ++ dktX4_next_1
theorem dksX4_next_0 : cX4_next.data.toList.drop 0 = dktX4_next_0 := by decide +kernel
theorem dksX4_next_1 : cX4_next.data.toList.drop 22 = dktX4_next_1 := dk_seg dksX4_next_0 22 rfl rfl
theorem dksX4_next_2 : cX4_next.data.toList.drop 46 = dktX4_next_2 := dk_seg dksX4_next_1 24 rfl rfl
theorem dksX4_next_3 : cX4_next.data.toList.drop 68 = dktX4_next_3 := dk_seg dksX4_next_2 22 rfl rfl
theorem dksX4_next_4 : cX4_next.data.toList.drop 90 = dktX4_next_4 := dk_seg dksX4_next_3 22 rfl rfl
theorem dksX4_next_5 : cX4_next.data.toList.drop 112 = dktX4_next_5 := dk_seg dksX4_next_4 22 rfl rfl
theorem dksX4_next_6 : cX4_next.data.toList.drop 136 = dktX4_next_6 := dk_seg dksX4_next_5 24 rfl rfl
theorem dksX4_next_7 : cX4_next.data.toList.drop 158 = dktX4_next_7 := dk_seg dksX4_next_6 22 rfl rfl
theorem dksX4_next_8 : cX4_next.data.toList.drop 182 = dktX4_next_8 := dk_seg dksX4_next_7 24 rfl rfl
theorem dksX4_next_9 : cX4_next.data.toList.drop 206 = dktX4_next_9 := dk_seg dksX4_next_8 24 rfl rfl
theorem dksX4_next_10 : cX4_next.data.toList.drop 229 = dktX4_next_10 := dk_seg dksX4_next_9 23 rfl rfl
theorem dksX4_next_11 : cX4_next.data.toList.drop 253 = dktX4_next_11 := dk_seg dksX4_next_10 24 rfl rfl
theorem dksX4_next_12 : cX4_next.data.toList.drop 277 = dktX4_next_12 := dk_seg dksX4_next_11 24 rfl rfl
theorem dksX4_next_13 : cX4_next.data.toList.drop 301 = dktX4_next_13 := dk_seg dksX4_next_12 24 rfl rfl
theorem dksX4_next_14 : cX4_next.data.toList.drop 325 = dktX4_next_14 := dk_seg dksX4_next_13 24 rfl rfl
theorem dksX4_next_15 : cX4_next.data.toList.drop 349 = dktX4_next_15 := dk_seg dksX4_next_14 24 rfl rfl
theorem dksX4_next_16 : cX4_next.data.toList.drop 373 = dktX4_next_16 := dk_seg dksX4_next_15 24 rfl rfl
theorem dksX4_next_17 : cX4_next.data.toList.drop 397 = dktX4_next_17 := dk_seg dksX4_next_16 24 rfl rfl
theorem dX4_next_0 : decode cX4_next 0 = .ok (.aload_n 0, 1) := dk_42 (dk_at dksX4_next_0 0 rfl rfl)
theorem dX4_next_1 : decode cX4_next 1 = .ok (.getfield 19, 3) := dk_180 0 19 (dk_at dksX4_next_0 1 rfl rfl)
theorem dX4_next_4 : decode cX4_next 4 = .ok (.aload_n 0, 1) := dk_42 (dk_at dksX4_next_0 4 rfl rfl)
theorem dX4_next_5 : decode cX4_next 5 = .ok (.getfield 15, 3) := dk_180 0 15 (dk_at dksX4_next_0 5 rfl rfl)
theorem dX4_next_8 : decode cX4_next 8 = .ok (.if_icmp .ge 44, 3) := dk_162 0 44 (dk_at dksX4_next_0 8 rfl rfl)
theorem dX4_next_11 : decode cX4_next 11 = .ok (.aload_n 0, 1) := dk_42 (dk_at dksX4_next_0 11 rfl rfl)
theorem dX4_next_12 : decode cX4_next 12 = .ok (.getfield 9, 3) := dk_180 0 9 (dk_at dksX4_next_0 12 rfl rfl)
theorem dX4_next_15 : decode cX4_next 15 = .ok (.aload_n 0, 1) := dk_42 (dk_at dksX4_next_0 15 rfl rfl)
theorem dX4_next_16 : decode cX4_next 16 = .ok (.getfield 19, 3) := dk_180 0 19 (dk_at dksX4_next_0 16 rfl rfl)
theorem dX4_next_19 : decode cX4_next 19 = .ok (.baload, 1) := dk_51 (dk_at dksX4_next_0 19 rfl rfl)
theorem dX4_next_20 : decode cX4_next 20 = .ok (.bipush 32, 2) := dk_16 32 (dk_at dksX4_next_0 20 rfl rfl)
theorem dX4_next_22 : decode cX4_next 22 = .ok (.if_icmp .eq 17, 3) := dk_159 0 17 (dk_at dksX4_next_1 0 rfl rfl)
theorem dX4_next_25 : decode cX4_next 25 = .ok (.aload_n 0, 1) := dk_42 (dk_at dksX4_next_1 3 rfl rfl)
theorem dX4_next_26 : decode cX4_next 26 = .ok (.getfield 9, 3) := dk_180 0 9 (dk_at dksX4_next_1 4 rfl rfl)
theorem dX4_next_29 : decode cX4_next 29 = .ok (.aload_n 0, 1) := dk_42 (dk_at dksX4_next_1 7 rfl rfl)
theorem dX4_next_30 : decode cX4_next 30 = .ok (.getfield 19, 3) := dk_180 0 19 (dk_at dksX4_next_1 8 rfl rfl)
theorem dX4_next_33 : decode cX4_next 33 = .ok (.baload, 1) := dk_51 (dk_at dksX4_next_1 11 rfl rfl)
theorem dX4_next_34 : decode cX4_next 34 = .ok (.bipush 10, 2) := dk_16 10 (dk_at dksX4_next_1 12 rfl rfl)
theorem dX4_next_36 : decode cX4_next 36 = .ok (.if_icmp .ne 16, 3) := dk_160 0 16 (dk_at dksX4_next_1 14 rfl rfl)
theorem dX4_next_39 : decode cX4_next 39 = .ok (.aload_n 0, 1) := dk_42 (dk_at dksX4_next_1 17 rfl rfl)
theorem dX4_next_40 : decode cX4_next 40 = .ok (.dup, 1) := dk_89 (dk_at dksX4_next_1 18 rfl rfl)
theorem dX4_next_41 : decode cX4_next 41 = .ok (.getfield 19, 3) := dk_180 0 19 (dk_at dksX4_next_1 19 rfl rfl)
theorem dX4_next_44 : decode cX4_next 44 = .ok (.iconst 1, 1) := dk_4 (dk_at dksX4_next_1 22 rfl rfl)
theorem dX4_next_45 : decode cX4_next 45 = .ok (.iadd, 1) := dk_96 (dk_at dksX4_next_1 23 rfl rfl)
theorem dX4_next_46 : decode cX4_next 46 = .ok (.putfield 19, 3) := dk_181 0 19 (dk_at dksX4_next_2 0 rfl rfl)
theorem dX4_next_49 : decode cX4_next 49 = .ok (.goto (-49), 3) := dk_167 255 207 (dk_at dksX4_next_2 3 rfl rfl)
theorem dX4_next_52 : decode cX4_next 52 = .ok (.aload_n 0, 1) := dk_42 (dk_at dksX4_next_2 6 rfl rfl)
theorem dX4_next_53 : decode cX4_next 53 = .ok (.aload_n 0, 1) := dk_42 (dk_at dksX4_next_2 7 rfl rfl)
theorem dX4_next_54 : decode cX4_next 54 = .ok (.getfield 19, 3) := dk_180 0 19 (dk_at dksX4_next_2 8 rfl rfl)
theorem dX4_next_57 : decode cX4_next 57 = .ok (.putfield 22, 3) := dk_181 0 22 (dk_at dksX4_next_2 11 rfl rfl)
theorem dX4_next_60 : decode cX4_next 60 = .ok (.aload_n 0, 1) := dk_42 (dk_at dksX4_next_2 14 rfl rfl)
theorem dX4_next_61 : decode cX4_next 61 = .ok (.getfield 19, 3) := dk_180 0 19 (dk_at dksX4_next_2 15 rfl rfl)
theorem dX4_next_64 : decode cX4_next 64 = .ok (.aload_n 0, 1) := dk_42 (dk_at dksX4_next_2 18 rfl rfl)
theorem dX4_next_65 : decode cX4_next 65 = .ok (.getfield 15, 3) := dk_180 0 15 (dk_at dksX4_next_2 19 rfl rfl)
theorem dX4_next_68 : decode cX4_next 68 = .ok (.if_icmp .ne 13, 3) := dk_160 0 13 (dk_at dksX4_next_3 0 rfl rfl)
theorem dX4_next_71 : decode cX4_next 71 = .ok (.aload_n 0, 1) := dk_42 (dk_at dksX4_next_3 3 rfl rfl)
theorem dX4_next_72 : decode cX4_next 72 = .ok (.sipush 301, 3) := dk_17 1 45 (dk_at dksX4_next_3 4 rfl rfl)
theorem dX4_next_75 : decode cX4_next 75 = .ok (.putfield 25, 3) := dk_181 0 25 (dk_at dksX4_next_3 7 rfl rfl)
theorem dX4_next_78 : decode cX4_next 78 = .ok (.goto 324, 3) := dk_167 1 68 (dk_at dksX4_next_3 10 rfl rfl)
theorem dX4_next_81 : decode cX4_next 81 = .ok (.aload_n 0, 1) := dk_42 (dk_at dksX4_next_3 13 rfl rfl)
theorem dX4_next_82 : decode cX4_next 82 = .ok (.getfield 9, 3) := dk_180 0 9 (dk_at dksX4_next_3 14 rfl rfl)
theorem dX4_next_85 : decode cX4_next 85 = .ok (.aload_n 0, 1) := dk_42 (dk_at dksX4_next_3 17 rfl rfl)
theorem dX4_next_86 : decode cX4_next 86 = .ok (.getfield 19, 3) := dk_180 0 19 (dk_at dksX4_next_3 18 rfl rfl)
theorem dX4_next_89 : decode cX4_next 89 = .ok (.baload, 1) := dk_51 (dk_at dksX4_next_3 21 rfl rfl)
theorem dX4_next_90 : decode cX4_next 90 = .ok (.invokestatic 28, 3) := dk_184 0 28 (dk_at dksX4_next_4 0 rfl rfl)
theorem dX4_next_93 : decode cX4_next 93 = .ok (.ifCond .eq 89, 3) := dk_153 0 89 (dk_at dksX4_next_4 3 rfl rfl)
theorem dX4_next_96 : decode cX4_next 96 = .ok (.aload_n 0, 1) := dk_42 (dk_at dksX4_next_4 6 rfl rfl)
theorem dX4_next_97 : decode cX4_next 97 = .ok (.getfield 19, 3) := dk_180 0 19 (dk_at dksX4_next_4 7 rfl rfl)
theorem dX4_next_100 : decode cX4_next 100 = .ok (.aload_n 0, 1) := dk_42 (dk_at dksX4_next_4 10 rfl rfl)
theorem dX4_next_101 : decode cX4_next 101 = .ok (.getfield 15, 3) := dk_180 0 15 (dk_at dksX4_next_4 11 rfl rfl)
theorem dX4_next_104 : decode cX4_next 104 = .ok (.if_icmp .ge 31, 3) := dk_162 0 31 (dk_at dksX4_next_4 14 rfl rfl)
theorem dX4_next_107 : decode cX4_next 107 = .ok (.aload_n 0, 1) := dk_42 (dk_at dksX4_next_4 17 rfl rfl)
theorem dX4_next_108 : decode cX4_next 108 = .ok (.getfield 9, 3) := dk_180 0 9 (dk_at dksX4_next_4 18 rfl rfl)
theorem dX4_next_111 : decode cX4_next 111 = .ok (.aload_n 0, 1) := dk_42 (dk_at dksX4_next_4 21 rfl rfl)
theorem dX4_next_112 : decode cX4_next 112 = .ok (.getfield 19, 3) := dk_180 0 19 (dk_at dksX4_next_5 0 rfl rfl)
theorem dX4_next_115 : decode cX4_next 115 = .ok (.baload, 1) := dk_51 (dk_at dksX4_next_5 3 rfl rfl)
theorem dX4_next_116 : decode cX4_next 116 = .ok (.invokestatic 28, 3) := dk_184 0 28 (dk_at dksX4_next_5 4 rfl rfl)
theorem dX4_next_119 : decode cX4_next 119 = .ok (.ifCond .eq 16, 3) := dk_153 0 16 (dk_at dksX4_next_5 7 rfl rfl)
theorem dX4_next_122 : decode cX4_next 122 = .ok (.aload_n 0, 1) := dk_42 (dk_at dksX4_next_5 10 rfl rfl)
theorem dX4_next_123 : decode cX4_next 123 = .ok (.dup, 1) := dk_89 (dk_at dksX4_next_5 11 rfl rfl)
theorem dX4_next_124 : decode cX4_next 124 = .ok (.getfield 19, 3) := dk_180 0 19 (dk_at dksX4_next_5 12 rfl rfl)
theorem dX4_next_127 : decode cX4_next 127 = .ok (.iconst 1, 1) := dk_4 (dk_at dksX4_next_5 15 rfl rfl)
theorem dX4_next_128 : decode cX4_next 128 = .ok (.iadd, 1) := dk_96 (dk_at dksX4_next_5 16 rfl rfl)
theorem dX4_next_129 : decode cX4_next 129 = .ok (.putfield 19, 3) := dk_181 0 19 (dk_at dksX4_next_5 17 rfl rfl)
theorem dX4_next_132 : decode cX4_next 132 = .ok (.goto (-36), 3) := dk_167 255 220 (dk_at dksX4_next_5 20 rfl rfl)
theorem dX4_next_135 : decode cX4_next 135 = .ok (.aload_n 0, 1) := dk_42 (dk_at dksX4_next_5 23 rfl rfl)
theorem dX4_next_136 : decode cX4_next 136 = .ok (.sipush 302, 3) := dk_17 1 46 (dk_at dksX4_next_6 0 rfl rfl)
theorem dX4_next_139 : decode cX4_next 139 = .ok (.putfield 25, 3) := dk_181 0 25 (dk_at dksX4_next_6 3 rfl rfl)
theorem dX4_next_142 : decode cX4_next 142 = .ok (.iconst 0, 1) := dk_3 (dk_at dksX4_next_6 6 rfl rfl)
theorem dX4_next_143 : decode cX4_next 143 = .ok (.istore_n 1, 1) := dk_60 (dk_at dksX4_next_6 7 rfl rfl)
theorem dX4_next_144 : decode cX4_next 144 = .ok (.iload_n 1, 1) := dk_27 (dk_at dksX4_next_6 8 rfl rfl)
theorem dX4_next_145 : decode cX4_next 145 = .ok (.getstatic 32, 3) := dk_178 0 32 (dk_at dksX4_next_6 9 rfl rfl)
theorem dX4_next_148 : decode cX4_next 148 = .ok (.arraylength, 1) := dk_190 (dk_at dksX4_next_6 12 rfl rfl)
theorem dX4_next_149 : decode cX4_next 149 = .ok (.if_icmp .ge 30, 3) := dk_162 0 30 (dk_at dksX4_next_6 13 rfl rfl)
theorem dX4_next_152 : decode cX4_next 152 = .ok (.aload_n 0, 1) := dk_42 (dk_at dksX4_next_6 16 rfl rfl)
theorem dX4_next_153 : decode cX4_next 153 = .ok (.getstatic 32, 3) := dk_178 0 32 (dk_at dksX4_next_6 17 rfl rfl)
theorem dX4_next_156 : decode cX4_next 156 = .ok (.iload_n 1, 1) := dk_27 (dk_at dksX4_next_6 20 rfl rfl)
theorem dX4_next_157 : decode cX4_next 157 = .ok (.aaload, 1) := dk_50 (dk_at dksX4_next_6 21 rfl rfl)
theorem dX4_next_158 : decode cX4_next 158 = .ok (.invokevirtual 36, 3) := dk_182 0 36 (dk_at dksX4_next_7 0 rfl rfl)
theorem dX4_next_161 : decode cX4_next 161 = .ok (.ifCond .eq 12, 3) := dk_153 0 12 (dk_at dksX4_next_7 3 rfl rfl)
theorem dX4_next_164 : decode cX4_next 164 = .ok (.aload_n 0, 1) := dk_42 (dk_at dksX4_next_7 6 rfl rfl)
theorem dX4_next_165 : decode cX4_next 165 = .ok (.sipush 200, 3) := dk_17 0 200 (dk_at dksX4_next_7 7 rfl rfl)
theorem dX4_next_168 : decode cX4_next 168 = .ok (.iload_n 1, 1) := dk_27 (dk_at dksX4_next_7 10 rfl rfl)
theorem dX4_next_169 : decode cX4_next 169 = .ok (.iadd, 1) := dk_96 (dk_at dksX4_next_7 11 rfl rfl)
theorem dX4_next_170 : decode cX4_next 170 = .ok (.putfield 25, 3) := dk_181 0 25 (dk_at dksX4_next_7 12 rfl rfl)
theorem dX4_next_173 : decode cX4_next 173 = .ok (.iinc 1 1, 3) := dk_132 1 1 (dk_at dksX4_next_7 15 rfl rfl)
theorem dX4_next_176 : decode cX4_next 176 = .ok (.goto (-32), 3) := dk_167 255 224 (dk_at dksX4_next_7 18 rfl rfl)
theorem dX4_next_179 : decode cX4_next 179 = .ok (.goto 223, 3) := dk_167 0 223 (dk_at dksX4_next_7 21 rfl rfl)
theorem dX4_next_182 : decode cX4_next 182 = .ok (.aload_n 0, 1) := dk_42 (dk_at dksX4_next_8 0 rfl rfl)
theorem dX4_next_183 : decode cX4_next 183 = .ok (.getfield 9, 3) := dk_180 0 9 (dk_at dksX4_next_8 1 rfl rfl)
theorem dX4_next_186 : decode cX4_next 186 = .ok (.aload_n 0, 1) := dk_42 (dk_at dksX4_next_8 4 rfl rfl)
theorem dX4_next_187 : decode cX4_next 187 = .ok (.getfield 19, 3) := dk_180 0 19 (dk_at dksX4_next_8 5 rfl rfl)
theorem dX4_next_190 : decode cX4_next 190 = .ok (.baload, 1) := dk_51 (dk_at dksX4_next_8 8 rfl rfl)
theorem dX4_next_191 : decode cX4_next 191 = .ok (.invokestatic 40, 3) := dk_184 0 40 (dk_at dksX4_next_8 9 rfl rfl)
theorem dX4_next_194 : decode cX4_next 194 = .ok (.ifCond .eq 83, 3) := dk_153 0 83 (dk_at dksX4_next_8 12 rfl rfl)
theorem dX4_next_197 : decode cX4_next 197 = .ok (.aload_n 0, 1) := dk_42 (dk_at dksX4_next_8 15 rfl rfl)
theorem dX4_next_198 : decode cX4_next 198 = .ok (.sipush 300, 3) := dk_17 1 44 (dk_at dksX4_next_8 16 rfl rfl)
theorem dX4_next_201 : decode cX4_next 201 = .ok (.putfield 25, 3) := dk_181 0 25 (dk_at dksX4_next_8 19 rfl rfl)
theorem dX4_next_204 : decode cX4_next 204 = .ok (.aload_n 0, 1) := dk_42 (dk_at dksX4_next_8 22 rfl rfl)
theorem dX4_next_205 : decode cX4_next 205 = .ok (.iconst 0, 1) := dk_3 (dk_at dksX4_next_8 23 rfl rfl)
theorem dX4_next_206 : decode cX4_next 206 = .ok (.putfield 43, 3) := dk_181 0 43 (dk_at dksX4_next_9 0 rfl rfl)
theorem dX4_next_209 : decode cX4_next 209 = .ok (.aload_n 0, 1) := dk_42 (dk_at dksX4_next_9 3 rfl rfl)
theorem dX4_next_210 : decode cX4_next 210 = .ok (.getfield 19, 3) := dk_180 0 19 (dk_at dksX4_next_9 4 rfl rfl)
theorem dX4_next_213 : decode cX4_next 213 = .ok (.aload_n 0, 1) := dk_42 (dk_at dksX4_next_9 7 rfl rfl)
theorem dX4_next_214 : decode cX4_next 214 = .ok (.getfield 15, 3) := dk_180 0 15 (dk_at dksX4_next_9 8 rfl rfl)
theorem dX4_next_217 : decode cX4_next 217 = .ok (.if_icmp .ge 185, 3) := dk_162 0 185 (dk_at dksX4_next_9 11 rfl rfl)
theorem dX4_next_220 : decode cX4_next 220 = .ok (.aload_n 0, 1) := dk_42 (dk_at dksX4_next_9 14 rfl rfl)
theorem dX4_next_221 : decode cX4_next 221 = .ok (.getfield 9, 3) := dk_180 0 9 (dk_at dksX4_next_9 15 rfl rfl)
theorem dX4_next_224 : decode cX4_next 224 = .ok (.aload_n 0, 1) := dk_42 (dk_at dksX4_next_9 18 rfl rfl)
theorem dX4_next_225 : decode cX4_next 225 = .ok (.getfield 19, 3) := dk_180 0 19 (dk_at dksX4_next_9 19 rfl rfl)
theorem dX4_next_228 : decode cX4_next 228 = .ok (.baload, 1) := dk_51 (dk_at dksX4_next_9 22 rfl rfl)
theorem dX4_next_229 : decode cX4_next 229 = .ok (.invokestatic 40, 3) := dk_184 0 40 (dk_at dksX4_next_10 0 rfl rfl)
theorem dX4_next_232 : decode cX4_next 232 = .ok (.ifCond .eq 170, 3) := dk_153 0 170 (dk_at dksX4_next_10 3 rfl rfl)
theorem dX4_next_235 : decode cX4_next 235 = .ok (.aload_n 0, 1) := dk_42 (dk_at dksX4_next_10 6 rfl rfl)
theorem dX4_next_236 : decode cX4_next 236 = .ok (.ldc 46, 2) := dk_18 46 (dk_at dksX4_next_10 7 rfl rfl)
theorem dX4_next_238 : decode cX4_next 238 = .ok (.bipush 10, 2) := dk_16 10 (dk_at dksX4_next_10 9 rfl rfl)
theorem dX4_next_240 : decode cX4_next 240 = .ok (.aload_n 0, 1) := dk_42 (dk_at dksX4_next_10 11 rfl rfl)
theorem dX4_next_241 : decode cX4_next 241 = .ok (.getfield 43, 3) := dk_180 0 43 (dk_at dksX4_next_10 12 rfl rfl)
theorem dX4_next_244 : decode cX4_next 244 = .ok (.imul, 1) := dk_104 (dk_at dksX4_next_10 15 rfl rfl)
theorem dX4_next_245 : decode cX4_next 245 = .ok (.aload_n 0, 1) := dk_42 (dk_at dksX4_next_10 16 rfl rfl)
theorem dX4_next_246 : decode cX4_next 246 = .ok (.getfield 9, 3) := dk_180 0 9 (dk_at dksX4_next_10 17 rfl rfl)
theorem dX4_next_249 : decode cX4_next 249 = .ok (.aload_n 0, 1) := dk_42 (dk_at dksX4_next_10 20 rfl rfl)
theorem dX4_next_250 : decode cX4_next 250 = .ok (.getfield 19, 3) := dk_180 0 19 (dk_at dksX4_next_10 21 rfl rfl)
theorem dX4_next_253 : decode cX4_next 253 = .ok (.baload, 1) := dk_51 (dk_at dksX4_next_11 0 rfl rfl)
theorem dX4_next_254 : decode cX4_next 254 = .ok (.iadd, 1) := dk_96 (dk_at dksX4_next_11 1 rfl rfl)
theorem dX4_next_255 : decode cX4_next 255 = .ok (.bipush 48, 2) := dk_16 48 (dk_at dksX4_next_11 2 rfl rfl)
theorem dX4_next_257 : decode cX4_next 257 = .ok (.isub, 1) := dk_100 (dk_at dksX4_next_11 4 rfl rfl)
theorem dX4_next_258 : decode cX4_next 258 = .ok (.invokestatic 47, 3) := dk_184 0 47 (dk_at dksX4_next_11 5 rfl rfl)
theorem dX4_next_261 : decode cX4_next 261 = .ok (.putfield 43, 3) := dk_181 0 43 (dk_at dksX4_next_11 8 rfl rfl)
theorem dX4_next_264 : decode cX4_next 264 = .ok (.aload_n 0, 1) := dk_42 (dk_at dksX4_next_11 11 rfl rfl)
theorem dX4_next_265 : decode cX4_next 265 = .ok (.dup, 1) := dk_89 (dk_at dksX4_next_11 12 rfl rfl)
theorem dX4_next_266 : decode cX4_next 266 = .ok (.getfield 19, 3) := dk_180 0 19 (dk_at dksX4_next_11 13 rfl rfl)
theorem dX4_next_269 : decode cX4_next 269 = .ok (.iconst 1, 1) := dk_4 (dk_at dksX4_next_11 16 rfl rfl)
theorem dX4_next_270 : decode cX4_next 270 = .ok (.iadd, 1) := dk_96 (dk_at dksX4_next_11 17 rfl rfl)
theorem dX4_next_271 : decode cX4_next 271 = .ok (.putfield 19, 3) := dk_181 0 19 (dk_at dksX4_next_11 18 rfl rfl)
theorem dX4_next_274 : decode cX4_next 274 = .ok (.goto (-65), 3) := dk_167 255 191 (dk_at dksX4_next_11 21 rfl rfl)
theorem dX4_next_277 : decode cX4_next 277 = .ok (.aload_n 0, 1) := dk_42 (dk_at dksX4_next_12 0 rfl rfl)
theorem dX4_next_278 : decode cX4_next 278 = .ok (.getfield 9, 3) := dk_180 0 9 (dk_at dksX4_next_12 1 rfl rfl)
theorem dX4_next_281 : decode cX4_next 281 = .ok (.aload_n 0, 1) := dk_42 (dk_at dksX4_next_12 4 rfl rfl)
theorem dX4_next_282 : decode cX4_next 282 = .ok (.getfield 19, 3) := dk_180 0 19 (dk_at dksX4_next_12 5 rfl rfl)
theorem dX4_next_285 : decode cX4_next 285 = .ok (.baload, 1) := dk_51 (dk_at dksX4_next_12 8 rfl rfl)
theorem dX4_next_286 : decode cX4_next 286 = .ok (.istore_n 1, 1) := dk_60 (dk_at dksX4_next_12 9 rfl rfl)
theorem dX4_next_287 : decode cX4_next 287 = .ok (.aload_n 0, 1) := dk_42 (dk_at dksX4_next_12 10 rfl rfl)
theorem dX4_next_288 : decode cX4_next 288 = .ok (.dup, 1) := dk_89 (dk_at dksX4_next_12 11 rfl rfl)
theorem dX4_next_289 : decode cX4_next 289 = .ok (.getfield 19, 3) := dk_180 0 19 (dk_at dksX4_next_12 12 rfl rfl)
theorem dX4_next_292 : decode cX4_next 292 = .ok (.iconst 1, 1) := dk_4 (dk_at dksX4_next_12 15 rfl rfl)
theorem dX4_next_293 : decode cX4_next 293 = .ok (.iadd, 1) := dk_96 (dk_at dksX4_next_12 16 rfl rfl)
theorem dX4_next_294 : decode cX4_next 294 = .ok (.putfield 19, 3) := dk_181 0 19 (dk_at dksX4_next_12 17 rfl rfl)
theorem dX4_next_297 : decode cX4_next 297 = .ok (.aload_n 0, 1) := dk_42 (dk_at dksX4_next_12 20 rfl rfl)
theorem dX4_next_298 : decode cX4_next 298 = .ok (.sipush 302, 3) := dk_17 1 46 (dk_at dksX4_next_12 21 rfl rfl)
theorem dX4_next_301 : decode cX4_next 301 = .ok (.putfield 25, 3) := dk_181 0 25 (dk_at dksX4_next_13 0 rfl rfl)
theorem dX4_next_304 : decode cX4_next 304 = .ok (.iconst 0, 1) := dk_3 (dk_at dksX4_next_13 3 rfl rfl)
theorem dX4_next_305 : decode cX4_next 305 = .ok (.istore_n 2, 1) := dk_61 (dk_at dksX4_next_13 4 rfl rfl)
theorem dX4_next_306 : decode cX4_next 306 = .ok (.iload_n 2, 1) := dk_28 (dk_at dksX4_next_13 5 rfl rfl)
theorem dX4_next_307 : decode cX4_next 307 = .ok (.ldc 53, 2) := dk_18 53 (dk_at dksX4_next_13 6 rfl rfl)
theorem dX4_next_309 : decode cX4_next 309 = .ok (.invokevirtual 55, 3) := dk_182 0 55 (dk_at dksX4_next_13 8 rfl rfl)
theorem dX4_next_312 : decode cX4_next 312 = .ok (.if_icmp .ge 24, 3) := dk_162 0 24 (dk_at dksX4_next_13 11 rfl rfl)
theorem dX4_next_315 : decode cX4_next 315 = .ok (.ldc 53, 2) := dk_18 53 (dk_at dksX4_next_13 14 rfl rfl)
theorem dX4_next_317 : decode cX4_next 317 = .ok (.iload_n 2, 1) := dk_28 (dk_at dksX4_next_13 16 rfl rfl)
theorem dX4_next_318 : decode cX4_next 318 = .ok (.invokevirtual 61, 3) := dk_182 0 61 (dk_at dksX4_next_13 17 rfl rfl)
theorem dX4_next_321 : decode cX4_next 321 = .ok (.iload_n 1, 1) := dk_27 (dk_at dksX4_next_13 20 rfl rfl)
theorem dX4_next_322 : decode cX4_next 322 = .ok (.if_icmp .ne 8, 3) := dk_160 0 8 (dk_at dksX4_next_13 21 rfl rfl)
theorem dX4_next_325 : decode cX4_next 325 = .ok (.aload_n 0, 1) := dk_42 (dk_at dksX4_next_14 0 rfl rfl)
theorem dX4_next_326 : decode cX4_next 326 = .ok (.iload_n 1, 1) := dk_27 (dk_at dksX4_next_14 1 rfl rfl)
theorem dX4_next_327 : decode cX4_next 327 = .ok (.putfield 25, 3) := dk_181 0 25 (dk_at dksX4_next_14 2 rfl rfl)
theorem dX4_next_330 : decode cX4_next 330 = .ok (.iinc 2 1, 3) := dk_132 2 1 (dk_at dksX4_next_14 5 rfl rfl)
theorem dX4_next_333 : decode cX4_next 333 = .ok (.goto (-27), 3) := dk_167 255 229 (dk_at dksX4_next_14 8 rfl rfl)
theorem dX4_next_336 : decode cX4_next 336 = .ok (.iload_n 1, 1) := dk_27 (dk_at dksX4_next_14 11 rfl rfl)
theorem dX4_next_337 : decode cX4_next 337 = .ok (.bipush 60, 2) := dk_16 60 (dk_at dksX4_next_14 12 rfl rfl)
theorem dX4_next_339 : decode cX4_next 339 = .ok (.if_icmp .eq 9, 3) := dk_159 0 9 (dk_at dksX4_next_14 14 rfl rfl)
theorem dX4_next_342 : decode cX4_next 342 = .ok (.iload_n 1, 1) := dk_27 (dk_at dksX4_next_14 17 rfl rfl)
theorem dX4_next_343 : decode cX4_next 343 = .ok (.bipush 62, 2) := dk_16 62 (dk_at dksX4_next_14 18 rfl rfl)
theorem dX4_next_345 : decode cX4_next 345 = .ok (.if_icmp .ne 57, 3) := dk_160 0 57 (dk_at dksX4_next_14 20 rfl rfl)
theorem dX4_next_348 : decode cX4_next 348 = .ok (.aload_n 0, 1) := dk_42 (dk_at dksX4_next_14 23 rfl rfl)
theorem dX4_next_349 : decode cX4_next 349 = .ok (.getfield 19, 3) := dk_180 0 19 (dk_at dksX4_next_15 0 rfl rfl)
theorem dX4_next_352 : decode cX4_next 352 = .ok (.aload_n 0, 1) := dk_42 (dk_at dksX4_next_15 3 rfl rfl)
theorem dX4_next_353 : decode cX4_next 353 = .ok (.getfield 15, 3) := dk_180 0 15 (dk_at dksX4_next_15 4 rfl rfl)
theorem dX4_next_356 : decode cX4_next 356 = .ok (.if_icmp .ge 46, 3) := dk_162 0 46 (dk_at dksX4_next_15 7 rfl rfl)
theorem dX4_next_359 : decode cX4_next 359 = .ok (.aload_n 0, 1) := dk_42 (dk_at dksX4_next_15 10 rfl rfl)
theorem dX4_next_360 : decode cX4_next 360 = .ok (.getfield 9, 3) := dk_180 0 9 (dk_at dksX4_next_15 11 rfl rfl)
theorem dX4_next_363 : decode cX4_next 363 = .ok (.aload_n 0, 1) := dk_42 (dk_at dksX4_next_15 14 rfl rfl)
theorem dX4_next_364 : decode cX4_next 364 = .ok (.getfield 19, 3) := dk_180 0 19 (dk_at dksX4_next_15 15 rfl rfl)
theorem dX4_next_367 : decode cX4_next 367 = .ok (.baload, 1) := dk_51 (dk_at dksX4_next_15 18 rfl rfl)
theorem dX4_next_368 : decode cX4_next 368 = .ok (.bipush 61, 2) := dk_16 61 (dk_at dksX4_next_15 19 rfl rfl)
theorem dX4_next_370 : decode cX4_next 370 = .ok (.if_icmp .ne 32, 3) := dk_160 0 32 (dk_at dksX4_next_15 21 rfl rfl)
theorem dX4_next_373 : decode cX4_next 373 = .ok (.aload_n 0, 1) := dk_42 (dk_at dksX4_next_16 0 rfl rfl)
theorem dX4_next_374 : decode cX4_next 374 = .ok (.iload_n 1, 1) := dk_27 (dk_at dksX4_next_16 1 rfl rfl)
theorem dX4_next_375 : decode cX4_next 375 = .ok (.bipush 60, 2) := dk_16 60 (dk_at dksX4_next_16 2 rfl rfl)
theorem dX4_next_377 : decode cX4_next 377 = .ok (.if_icmp .ne 9, 3) := dk_160 0 9 (dk_at dksX4_next_16 4 rfl rfl)
theorem dX4_next_380 : decode cX4_next 380 = .ok (.sipush 303, 3) := dk_17 1 47 (dk_at dksX4_next_16 7 rfl rfl)
theorem dX4_next_383 : decode cX4_next 383 = .ok (.goto 6, 3) := dk_167 0 6 (dk_at dksX4_next_16 10 rfl rfl)
theorem dX4_next_386 : decode cX4_next 386 = .ok (.sipush 304, 3) := dk_17 1 48 (dk_at dksX4_next_16 13 rfl rfl)
theorem dX4_next_389 : decode cX4_next 389 = .ok (.putfield 25, 3) := dk_181 0 25 (dk_at dksX4_next_16 16 rfl rfl)
theorem dX4_next_392 : decode cX4_next 392 = .ok (.aload_n 0, 1) := dk_42 (dk_at dksX4_next_16 19 rfl rfl)
theorem dX4_next_393 : decode cX4_next 393 = .ok (.dup, 1) := dk_89 (dk_at dksX4_next_16 20 rfl rfl)
theorem dX4_next_394 : decode cX4_next 394 = .ok (.getfield 19, 3) := dk_180 0 19 (dk_at dksX4_next_16 21 rfl rfl)
theorem dX4_next_397 : decode cX4_next 397 = .ok (.iconst 1, 1) := dk_4 (dk_at dksX4_next_17 0 rfl rfl)
theorem dX4_next_398 : decode cX4_next 398 = .ok (.iadd, 1) := dk_96 (dk_at dksX4_next_17 1 rfl rfl)
theorem dX4_next_399 : decode cX4_next 399 = .ok (.putfield 19, 3) := dk_181 0 19 (dk_at dksX4_next_17 2 rfl rfl)
theorem dX4_next_402 : decode cX4_next 402 = .ok (.return_, 1) := dk_177 (dk_at dksX4_next_17 5 rfl rfl)
def dkwX4_isLetter_1 : List UInt8 := [4, 167, 0, 4, 3, 172]
abbrev dktX4_isLetter_1 : List UInt8 := dkwX4_isLetter_1 ++ []
def dkwX4_isLetter_0 : List UInt8 := [26, 16, 97, 161, 0, 9, 26, 16, 122, 164, 0, 15, 26, 16, 65, 161, 0, 13, 26, 16, 90, 163, 0, 7]
abbrev dktX4_isLetter_0 : List UInt8 := dkwX4_isLetter_0 ++ dktX4_isLetter_1
theorem dksX4_isLetter_0 : cX4_isLetter.data.toList.drop 0 = dktX4_isLetter_0 := by decide +kernel
theorem dksX4_isLetter_1 : cX4_isLetter.data.toList.drop 24 = dktX4_isLetter_1 := dk_seg dksX4_isLetter_0 24 rfl rfl
theorem dX4_isLetter_0 : decode cX4_isLetter 0 = .ok (.iload_n 0, 1) := dk_26 (dk_at dksX4_isLetter_0 0 rfl rfl)
theorem dX4_isLetter_1 : decode cX4_isLetter 1 = .ok (.bipush 97, 2) := dk_16 97 (dk_at dksX4_isLetter_0 1 rfl rfl)
theorem dX4_isLetter_3 : decode cX4_isLetter 3 = .ok (.if_icmp .lt 9, 3) := dk_161 0 9 (dk_at dksX4_isLetter_0 3 rfl rfl)
theorem dX4_isLetter_6 : decode cX4_isLetter 6 = .ok (.iload_n 0, 1) := dk_26 (dk_at dksX4_isLetter_0 6 rfl rfl)
theorem dX4_isLetter_7 : decode cX4_isLetter 7 = .ok (.bipush 122, 2) := dk_16 122 (dk_at dksX4_isLetter_0 7 rfl rfl)
theorem dX4_isLetter_9 : decode cX4_isLetter 9 = .ok (.if_icmp .le 15, 3) := dk_164 0 15 (dk_at dksX4_isLetter_0 9 rfl rfl)
theorem dX4_isLetter_12 : decode cX4_isLetter 12 = .ok (.iload_n 0, 1) := dk_26 (dk_at dksX4_isLetter_0 12 rfl rfl)
theorem dX4_isLetter_13 : decode cX4_isLetter 13 = .ok (.bipush 65, 2) := dk_16 65 (dk_at dksX4_isLetter_0 13 rfl rfl)
theorem dX4_isLetter_15 : decode cX4_isLetter 15 = .ok (.if_icmp .lt 13, 3) := dk_161 0 13 (dk_at dksX4_isLetter_0 15 rfl rfl)
theorem dX4_isLetter_18 : decode cX4_isLetter 18 = .ok (.iload_n 0, 1) := dk_26 (dk_at dksX4_isLetter_0 18 rfl rfl)
theorem dX4_isLetter_19 : decode cX4_isLetter 19 = .ok (.bipush 90, 2) := dk_16 90 (dk_at dksX4_isLetter_0 19 rfl rfl)
theorem dX4_isLetter_21 : decode cX4_isLetter 21 = .ok (.if_icmp .gt 7, 3) := dk_163 0 7 (dk_at dksX4_isLetter_0 21 rfl rfl)
theorem dX4_isLetter_24 : decode cX4_isLetter 24 = .ok (.iconst 1, 1) := dk_4 (dk_at dksX4_isLetter_1 0 rfl rfl)
theorem dX4_isLetter_25 : decode cX4_isLetter 25 = .ok (.goto 4, 3) := dk_167 0 4 (dk_at dksX4_isLetter_1 1 rfl rfl)
theorem dX4_isLetter_28 : decode cX4_isLetter 28 = .ok (.iconst 0, 1) := dk_3 (dk_at dksX4_isLetter_1 4 rfl rfl)
theorem dX4_isLetter_29 : decode cX4_isLetter 29 = .ok (.ireturn, 1) := dk_172 (dk_at dksX4_isLetter_1 5 rfl rfl)
def dkwX4_isWord_2 : List UInt8 := [159, 0, 5, 3, 172, 132, 2, 1, 167, 255, 224, 4, 172]
abbrev dktX4_isWord_2 : List UInt8 := dkwX4_isWord_2 ++ []
def dkwX4_isWord_1 : List UInt8 := [182, 0, 55, 162, 0, 30, 42, 180, 0, 9, 42, 180, 0, 22, 28, 96, 51, 43, 28, 182, 0, 61]
abbrev dktX4_isWord_1 : List UInt8 := dkwX4_isWord_1 ++ dktX4_isWord_2
def dkwX4_isWord_0 : List UInt8 := [42, 180, 0, 19, 42, 180, 0, 22, 100, 43, 182, 0, 55, 159, 0, 5, 3, 172, 3, 61, 28, 43]
abbrev dktX4_isWord_0 : List UInt8 := dkwX4_isWord_0 ++ dktX4_isWord_1
theorem dksX4_isWord_0 : cX4_isWord.data.toList.drop 0 = dktX4_isWord_0 := by decide +kernel
theorem dksX4_isWord_1 : cX4_isWord.data.toList.drop 22 = dktX4_isWord_1 := dk_seg dksX4_isWord_0 22 rfl rfl
theorem dksX4_isWord_2 : cX4_isWord.data.toList.drop 44 = dktX4_isWord_2 := dk_seg dksX4_isWord_1 22 rfl rfl
theorem dX4_isWord_0 : decode cX4_isWord 0 = .ok (.aload_n 0, 1) := dk_42 (dk_at dksX4_isWord_0 0 rfl rfl)
theorem dX4_isWord_1 : decode cX4_isWord 1 = .ok (.getfield 19, 3) := dk_180 0 19 (dk_at dksX4_isWord_0 1 rfl rfl)
theorem dX4_isWord_4 : decode cX4_isWord 4 = .ok (.aload_n 0, 1) := dk_42 (dk_at dksX4_isWord_0 4 rfl rfl)
theorem dX4_isWord_5 : decode cX4_isWord 5 = .ok (.getfield 22, 3) := dk_180 0 22 (dk_at dksX4_isWord_0 5 rfl rfl)
theorem dX4_isWord_8 : decode cX4_isWord 8 = .ok (.isub, 1) := dk_100 (dk_at dksX4_isWord_0 8 rfl rfl)
theorem dX4_isWord_9 : decode cX4_isWord 9 = .ok (.aload_n 1, 1) := dk_43 (dk_at dksX4_isWord_0 9 rfl rfl)
theorem dX4_isWord_10 : decode cX4_isWord 10 = .ok (.invokevirtual 55, 3) := dk_182 0 55 (dk_at dksX4_isWord_0 10 rfl rfl)
theorem dX4_isWord_13 : decode cX4_isWord 13 = .ok (.if_icmp .eq 5, 3) := dk_159 0 5 (dk_at dksX4_isWord_0 13 rfl rfl)
theorem dX4_isWord_16 : decode cX4_isWord 16 = .ok (.iconst 0, 1) := dk_3 (dk_at dksX4_isWord_0 16 rfl rfl)
theorem dX4_isWord_17 : decode cX4_isWord 17 = .ok (.ireturn, 1) := dk_172 (dk_at dksX4_isWord_0 17 rfl rfl)
theorem dX4_isWord_18 : decode cX4_isWord 18 = .ok (.iconst 0, 1) := dk_3 (dk_at dksX4_isWord_0 18 rfl rfl)
theorem dX4_isWord_19 : decode cX4_isWord 19 = .ok (.istore_n 2, 1) := dk_61 (dk_at dksX4_isWord_0 19 rfl rfl)
theorem dX4_isWord_20 : decode cX4_isWord 20 = .ok (.iload_n 2, 1) := dk_28 (dk_at dksX4_isWord_0 20 rfl rfl)
theorem dX4_isWord_21 : decode cX4_isWord 21 = .ok (.aload_n 1, 1) := dk_43 (dk_at dksX4_isWord_0 21 rfl rfl)
theorem dX4_isWord_22 : decode cX4_isWord 22 = .ok (.invokevirtual 55, 3) := dk_182 0 55 (dk_at dksX4_isWord_1 0 rfl rfl)
theorem dX4_isWord_25 : decode cX4_isWord 25 = .ok (.if_icmp .ge 30, 3) := dk_162 0 30 (dk_at dksX4_isWord_1 3 rfl rfl)
theorem dX4_isWord_28 : decode cX4_isWord 28 = .ok (.aload_n 0, 1) := dk_42 (dk_at dksX4_isWord_1 6 rfl rfl)
theorem dX4_isWord_29 : decode cX4_isWord 29 = .ok (.getfield 9, 3) := dk_180 0 9 (dk_at dksX4_isWord_1 7 rfl rfl)
theorem dX4_isWord_32 : decode cX4_isWord 32 = .ok (.aload_n 0, 1) := dk_42 (dk_at dksX4_isWord_1 10 rfl rfl)
theorem dX4_isWord_33 : decode cX4_isWord 33 = .ok (.getfield 22, 3) := dk_180 0 22 (dk_at dksX4_isWord_1 11 rfl rfl)
theorem dX4_isWord_36 : decode cX4_isWord 36 = .ok (.iload_n 2, 1) := dk_28 (dk_at dksX4_isWord_1 14 rfl rfl)
theorem dX4_isWord_37 : decode cX4_isWord 37 = .ok (.iadd, 1) := dk_96 (dk_at dksX4_isWord_1 15 rfl rfl)
theorem dX4_isWord_38 : decode cX4_isWord 38 = .ok (.baload, 1) := dk_51 (dk_at dksX4_isWord_1 16 rfl rfl)
theorem dX4_isWord_39 : decode cX4_isWord 39 = .ok (.aload_n 1, 1) := dk_43 (dk_at dksX4_isWord_1 17 rfl rfl)
theorem dX4_isWord_40 : decode cX4_isWord 40 = .ok (.iload_n 2, 1) := dk_28 (dk_at dksX4_isWord_1 18 rfl rfl)
theorem dX4_isWord_41 : decode cX4_isWord 41 = .ok (.invokevirtual 61, 3) := dk_182 0 61 (dk_at dksX4_isWord_1 19 rfl rfl)
theorem dX4_isWord_44 : decode cX4_isWord 44 = .ok (.if_icmp .eq 5, 3) := dk_159 0 5 (dk_at dksX4_isWord_2 0 rfl rfl)
theorem dX4_isWord_47 : decode cX4_isWord 47 = .ok (.iconst 0, 1) := dk_3 (dk_at dksX4_isWord_2 3 rfl rfl)
theorem dX4_isWord_48 : decode cX4_isWord 48 = .ok (.ireturn, 1) := dk_172 (dk_at dksX4_isWord_2 4 rfl rfl)
theorem dX4_isWord_49 : decode cX4_isWord 49 = .ok (.iinc 2 1, 3) := dk_132 2 1 (dk_at dksX4_isWord_2 5 rfl rfl)
theorem dX4_isWord_52 : decode cX4_isWord 52 = .ok (.goto (-32), 3) := dk_167 255 224 (dk_at dksX4_isWord_2 8 rfl rfl)
theorem dX4_isWord_55 : decode cX4_isWord 55 = .ok (.iconst 1, 1) := dk_4 (dk_at dksX4_isWord_2 11 rfl rfl)
theorem dX4_isWord_56 : decode cX4_isWord 56 = .ok (.ireturn, 1) := dk_172 (dk_at dksX4_isWord_2 12 rfl rfl)
def dkwX4_isDigit_0 : List UInt8 := [26, 16, 48, 161, 0, 13, 26, 16, 57, 163, 0, 7, 4, 167, 0, 4, 3, 172]
abbrev dktX4_isDigit_0 : List UInt8 := dkwX4_isDigit_0 ++ []
theorem dksX4_isDigit_0 : cX4_isDigit.data.toList.drop 0 = dktX4_isDigit_0 := by decide +kernel
theorem dX4_isDigit_0 : decode cX4_isDigit 0 = .ok (.iload_n 0, 1) := dk_26 (dk_at dksX4_isDigit_0 0 rfl rfl)
theorem dX4_isDigit_1 : decode cX4_isDigit 1 = .ok (.bipush 48, 2) := dk_16 48 (dk_at dksX4_isDigit_0 1 rfl rfl)
theorem dX4_isDigit_3 : decode cX4_isDigit 3 = .ok (.if_icmp .lt 13, 3) := dk_161 0 13 (dk_at dksX4_isDigit_0 3 rfl rfl)
theorem dX4_isDigit_6 : decode cX4_isDigit 6 = .ok (.iload_n 0, 1) := dk_26 (dk_at dksX4_isDigit_0 6 rfl rfl)
theorem dX4_isDigit_7 : decode cX4_isDigit 7 = .ok (.bipush 57, 2) := dk_16 57 (dk_at dksX4_isDigit_0 7 rfl rfl)
theorem dX4_isDigit_9 : decode cX4_isDigit 9 = .ok (.if_icmp .gt 7, 3) := dk_163 0 7 (dk_at dksX4_isDigit_0 9 rfl rfl)
theorem dX4_isDigit_12 : decode cX4_isDigit 12 = .ok (.iconst 1, 1) := dk_4 (dk_at dksX4_isDigit_0 12 rfl rfl)
theorem dX4_isDigit_13 : decode cX4_isDigit 13 = .ok (.goto 4, 3) := dk_167 0 4 (dk_at dksX4_isDigit_0 13 rfl rfl)
theorem dX4_isDigit_16 : decode cX4_isDigit 16 = .ok (.iconst 0, 1) := dk_3 (dk_at dksX4_isDigit_0 16 rfl rfl)
theorem dX4_isDigit_17 : decode cX4_isDigit 17 = .ok (.ireturn, 1) := dk_172 (dk_at dksX4_isDigit_0 17 rfl rfl)
def dkwX4_wrong_0 : List UInt8 := [187, 0, 65, 89, 27, 42, 180, 0, 22, 183, 0, 67, 176]
abbrev dktX4_wrong_0 : List UInt8 := dkwX4_wrong_0 ++ []
theorem dksX4_wrong_0 : cX4_wrong.data.toList.drop 0 = dktX4_wrong_0 := by decide +kernel
theorem dX4_wrong_0 : decode cX4_wrong 0 = .ok (.new 65, 3) := dk_187 0 65 (dk_at dksX4_wrong_0 0 rfl rfl)
theorem dX4_wrong_3 : decode cX4_wrong 3 = .ok (.dup, 1) := dk_89 (dk_at dksX4_wrong_0 3 rfl rfl)
theorem dX4_wrong_4 : decode cX4_wrong 4 = .ok (.iload_n 1, 1) := dk_27 (dk_at dksX4_wrong_0 4 rfl rfl)
theorem dX4_wrong_5 : decode cX4_wrong 5 = .ok (.aload_n 0, 1) := dk_42 (dk_at dksX4_wrong_0 5 rfl rfl)
theorem dX4_wrong_6 : decode cX4_wrong 6 = .ok (.getfield 22, 3) := dk_180 0 22 (dk_at dksX4_wrong_0 6 rfl rfl)
theorem dX4_wrong_9 : decode cX4_wrong 9 = .ok (.invokespecial 67, 3) := dk_183 0 67 (dk_at dksX4_wrong_0 9 rfl rfl)
theorem dX4_wrong_12 : decode cX4_wrong 12 = .ok (.areturn, 1) := dk_176 (dk_at dksX4_wrong_0 12 rfl rfl)
def dkwX4_clause_4 : List UInt8 := [42, 43, 180, 0, 100, 182, 0, 123, 182, 0, 127, 87, 177]
abbrev dktX4_clause_4 : List UInt8 := dkwX4_clause_4 ++ []
def dkwX4_clause_3 : List UInt8 := [182, 0, 115, 181, 0, 93, 167, 0, 30, 43, 42, 182, 0, 111, 181, 0, 97, 167, 0, 19, 43, 180, 0, 119]
abbrev dktX4_clause_3 : List UInt8 := dkwX4_clause_3 ++ dktX4_clause_4
def dkwX4_clause_2 : List UInt8 := [43, 42, 182, 0, 111, 181, 0, 86, 167, 0, 52, 43, 42, 182, 0, 111, 181, 0, 90, 167, 0, 41, 43, 42]
abbrev dktX4_clause_2 : List UInt8 := dkwX4_clause_2 ++ dktX4_clause_3
def dkwX4_clause_1 : List UInt8 := [170, 0, 0, 0, 0, 0, 0, 76, 0, 0, 0, 200, 0, 0, 0, 203, 0, 0, 0, 32, 0, 0, 0, 43, 0, 0, 0, 54, 0, 0, 0, 65]
abbrev dktX4_clause_1 : List UInt8 := dkwX4_clause_1 ++ dktX4_clause_2
def dkwX4_clause_0 : List UInt8 := [42, 180, 0, 83]
abbrev dktX4_clause_0 : List UInt8 := dkwX4_clause_0 ++ dktX4_clause_1
theorem dksX4_clause_0 : cX4_clause.data.toList.drop 0 = dktX4_clause_0 := by decide +kernel
theorem dksX4_clause_1 : cX4_clause.data.toList.drop 4 = dktX4_clause_1 := dk_seg dksX4_clause_0 4 rfl rfl
theorem dksX4_clause_2 : cX4_clause.data.toList.drop 36 = dktX4_clause_2 := dk_seg dksX4_clause_1 32 rfl rfl
theorem dksX4_clause_3 : cX4_clause.data.toList.drop 60 = dktX4_clause_3 := dk_seg dksX4_clause_2 24 rfl rfl
theorem dksX4_clause_4 : cX4_clause.data.toList.drop 84 = dktX4_clause_4 := dk_seg dksX4_clause_3 24 rfl rfl
theorem dX4_clause_0 : decode cX4_clause 0 = .ok (.aload_n 0, 1) := dk_42 (dk_at dksX4_clause_0 0 rfl rfl)
theorem dX4_clause_1 : decode cX4_clause 1 = .ok (.getfield 83, 3) := dk_180 0 83 (dk_at dksX4_clause_0 1 rfl rfl)
theorem dX4_clause_4 : decode cX4_clause 4 = .ok (.tableswitch 76 200 203 #[32, 43, 54, 65], 32) := by decide +kernel
theorem dX4_clause_36 : decode cX4_clause 36 = .ok (.aload_n 1, 1) := dk_43 (dk_at dksX4_clause_2 0 rfl rfl)
theorem dX4_clause_37 : decode cX4_clause 37 = .ok (.aload_n 0, 1) := dk_42 (dk_at dksX4_clause_2 1 rfl rfl)
theorem dX4_clause_38 : decode cX4_clause 38 = .ok (.invokevirtual 111, 3) := dk_182 0 111 (dk_at dksX4_clause_2 2 rfl rfl)
theorem dX4_clause_41 : decode cX4_clause 41 = .ok (.putfield 86, 3) := dk_181 0 86 (dk_at dksX4_clause_2 5 rfl rfl)
theorem dX4_clause_44 : decode cX4_clause 44 = .ok (.goto 52, 3) := dk_167 0 52 (dk_at dksX4_clause_2 8 rfl rfl)
theorem dX4_clause_47 : decode cX4_clause 47 = .ok (.aload_n 1, 1) := dk_43 (dk_at dksX4_clause_2 11 rfl rfl)
theorem dX4_clause_48 : decode cX4_clause 48 = .ok (.aload_n 0, 1) := dk_42 (dk_at dksX4_clause_2 12 rfl rfl)
theorem dX4_clause_49 : decode cX4_clause 49 = .ok (.invokevirtual 111, 3) := dk_182 0 111 (dk_at dksX4_clause_2 13 rfl rfl)
theorem dX4_clause_52 : decode cX4_clause 52 = .ok (.putfield 90, 3) := dk_181 0 90 (dk_at dksX4_clause_2 16 rfl rfl)
theorem dX4_clause_55 : decode cX4_clause 55 = .ok (.goto 41, 3) := dk_167 0 41 (dk_at dksX4_clause_2 19 rfl rfl)
theorem dX4_clause_58 : decode cX4_clause 58 = .ok (.aload_n 1, 1) := dk_43 (dk_at dksX4_clause_2 22 rfl rfl)
theorem dX4_clause_59 : decode cX4_clause 59 = .ok (.aload_n 0, 1) := dk_42 (dk_at dksX4_clause_2 23 rfl rfl)
theorem dX4_clause_60 : decode cX4_clause 60 = .ok (.invokevirtual 115, 3) := dk_182 0 115 (dk_at dksX4_clause_3 0 rfl rfl)
theorem dX4_clause_63 : decode cX4_clause 63 = .ok (.putfield 93, 3) := dk_181 0 93 (dk_at dksX4_clause_3 3 rfl rfl)
theorem dX4_clause_66 : decode cX4_clause 66 = .ok (.goto 30, 3) := dk_167 0 30 (dk_at dksX4_clause_3 6 rfl rfl)
theorem dX4_clause_69 : decode cX4_clause 69 = .ok (.aload_n 1, 1) := dk_43 (dk_at dksX4_clause_3 9 rfl rfl)
theorem dX4_clause_70 : decode cX4_clause 70 = .ok (.aload_n 0, 1) := dk_42 (dk_at dksX4_clause_3 10 rfl rfl)
theorem dX4_clause_71 : decode cX4_clause 71 = .ok (.invokevirtual 111, 3) := dk_182 0 111 (dk_at dksX4_clause_3 11 rfl rfl)
theorem dX4_clause_74 : decode cX4_clause 74 = .ok (.putfield 97, 3) := dk_181 0 97 (dk_at dksX4_clause_3 14 rfl rfl)
theorem dX4_clause_77 : decode cX4_clause 77 = .ok (.goto 19, 3) := dk_167 0 19 (dk_at dksX4_clause_3 17 rfl rfl)
theorem dX4_clause_80 : decode cX4_clause 80 = .ok (.aload_n 1, 1) := dk_43 (dk_at dksX4_clause_3 20 rfl rfl)
theorem dX4_clause_81 : decode cX4_clause 81 = .ok (.getfield 119, 3) := dk_180 0 119 (dk_at dksX4_clause_3 21 rfl rfl)
theorem dX4_clause_84 : decode cX4_clause 84 = .ok (.aload_n 0, 1) := dk_42 (dk_at dksX4_clause_4 0 rfl rfl)
theorem dX4_clause_85 : decode cX4_clause 85 = .ok (.aload_n 1, 1) := dk_43 (dk_at dksX4_clause_4 1 rfl rfl)
theorem dX4_clause_86 : decode cX4_clause 86 = .ok (.getfield 100, 3) := dk_180 0 100 (dk_at dksX4_clause_4 2 rfl rfl)
theorem dX4_clause_89 : decode cX4_clause 89 = .ok (.invokevirtual 123, 3) := dk_182 0 123 (dk_at dksX4_clause_4 5 rfl rfl)
theorem dX4_clause_92 : decode cX4_clause 92 = .ok (.invokevirtual 127, 3) := dk_182 0 127 (dk_at dksX4_clause_4 8 rfl rfl)
theorem dX4_clause_95 : decode cX4_clause 95 = .ok (.pop, 1) := dk_87 (dk_at dksX4_clause_4 11 rfl rfl)
theorem dX4_clause_96 : decode cX4_clause 96 = .ok (.return_, 1) := dk_177 (dk_at dksX4_clause_4 12 rfl rfl)
def dkwX4_either_2 : List UInt8 := [160, 0, 14, 43, 3, 182, 0, 166, 192, 0, 170, 167, 0, 12, 187, 0, 172, 89, 3, 43, 183, 0, 174, 176]
abbrev dktX4_either_2 : List UInt8 := dkwX4_either_2 ++ []
def dkwX4_either_1 : List UInt8 := [160, 0, 19, 42, 182, 0, 74, 43, 42, 182, 0, 161, 182, 0, 127, 87, 167, 255, 233, 43, 182, 0, 164, 4]
abbrev dktX4_either_1 : List UInt8 := dkwX4_either_1 ++ dktX4_either_2
def dkwX4_either_0 : List UInt8 := [187, 0, 128, 89, 183, 0, 160, 76, 43, 42, 182, 0, 161, 182, 0, 127, 87, 42, 180, 0, 25, 17, 0, 218]
abbrev dktX4_either_0 : List UInt8 := dkwX4_either_0 ++ dktX4_either_1
theorem dksX4_either_0 : cX4_either.data.toList.drop 0 = dktX4_either_0 := by decide +kernel
theorem dksX4_either_1 : cX4_either.data.toList.drop 24 = dktX4_either_1 := dk_seg dksX4_either_0 24 rfl rfl
theorem dksX4_either_2 : cX4_either.data.toList.drop 48 = dktX4_either_2 := dk_seg dksX4_either_1 24 rfl rfl
theorem dX4_either_0 : decode cX4_either 0 = .ok (.new 128, 3) := dk_187 0 128 (dk_at dksX4_either_0 0 rfl rfl)
theorem dX4_either_3 : decode cX4_either 3 = .ok (.dup, 1) := dk_89 (dk_at dksX4_either_0 3 rfl rfl)
theorem dX4_either_4 : decode cX4_either 4 = .ok (.invokespecial 160, 3) := dk_183 0 160 (dk_at dksX4_either_0 4 rfl rfl)
theorem dX4_either_7 : decode cX4_either 7 = .ok (.astore_n 1, 1) := dk_76 (dk_at dksX4_either_0 7 rfl rfl)
theorem dX4_either_8 : decode cX4_either 8 = .ok (.aload_n 1, 1) := dk_43 (dk_at dksX4_either_0 8 rfl rfl)
theorem dX4_either_9 : decode cX4_either 9 = .ok (.aload_n 0, 1) := dk_42 (dk_at dksX4_either_0 9 rfl rfl)
theorem dX4_either_10 : decode cX4_either 10 = .ok (.invokevirtual 161, 3) := dk_182 0 161 (dk_at dksX4_either_0 10 rfl rfl)
theorem dX4_either_13 : decode cX4_either 13 = .ok (.invokevirtual 127, 3) := dk_182 0 127 (dk_at dksX4_either_0 13 rfl rfl)
theorem dX4_either_16 : decode cX4_either 16 = .ok (.pop, 1) := dk_87 (dk_at dksX4_either_0 16 rfl rfl)
theorem dX4_either_17 : decode cX4_either 17 = .ok (.aload_n 0, 1) := dk_42 (dk_at dksX4_either_0 17 rfl rfl)
theorem dX4_either_18 : decode cX4_either 18 = .ok (.getfield 25, 3) := dk_180 0 25 (dk_at dksX4_either_0 18 rfl rfl)
theorem dX4_either_21 : decode cX4_either 21 = .ok (.sipush 218, 3) := dk_17 0 218 (dk_at dksX4_either_0 21 rfl rfl)
theorem dX4_either_24 : decode cX4_either 24 = .ok (.if_icmp .ne 19, 3) := dk_160 0 19 (dk_at dksX4_either_1 0 rfl rfl)
theorem dX4_either_27 : decode cX4_either 27 = .ok (.aload_n 0, 1) := dk_42 (dk_at dksX4_either_1 3 rfl rfl)
theorem dX4_either_28 : decode cX4_either 28 = .ok (.invokevirtual 74, 3) := dk_182 0 74 (dk_at dksX4_either_1 4 rfl rfl)
theorem dX4_either_31 : decode cX4_either 31 = .ok (.aload_n 1, 1) := dk_43 (dk_at dksX4_either_1 7 rfl rfl)
theorem dX4_either_32 : decode cX4_either 32 = .ok (.aload_n 0, 1) := dk_42 (dk_at dksX4_either_1 8 rfl rfl)
theorem dX4_either_33 : decode cX4_either 33 = .ok (.invokevirtual 161, 3) := dk_182 0 161 (dk_at dksX4_either_1 9 rfl rfl)
theorem dX4_either_36 : decode cX4_either 36 = .ok (.invokevirtual 127, 3) := dk_182 0 127 (dk_at dksX4_either_1 12 rfl rfl)
theorem dX4_either_39 : decode cX4_either 39 = .ok (.pop, 1) := dk_87 (dk_at dksX4_either_1 15 rfl rfl)
theorem dX4_either_40 : decode cX4_either 40 = .ok (.goto (-23), 3) := dk_167 255 233 (dk_at dksX4_either_1 16 rfl rfl)
theorem dX4_either_43 : decode cX4_either 43 = .ok (.aload_n 1, 1) := dk_43 (dk_at dksX4_either_1 19 rfl rfl)
theorem dX4_either_44 : decode cX4_either 44 = .ok (.invokevirtual 164, 3) := dk_182 0 164 (dk_at dksX4_either_1 20 rfl rfl)
theorem dX4_either_47 : decode cX4_either 47 = .ok (.iconst 1, 1) := dk_4 (dk_at dksX4_either_1 23 rfl rfl)
theorem dX4_either_48 : decode cX4_either 48 = .ok (.if_icmp .ne 14, 3) := dk_160 0 14 (dk_at dksX4_either_2 0 rfl rfl)
theorem dX4_either_51 : decode cX4_either 51 = .ok (.aload_n 1, 1) := dk_43 (dk_at dksX4_either_2 3 rfl rfl)
theorem dX4_either_52 : decode cX4_either 52 = .ok (.iconst 0, 1) := dk_3 (dk_at dksX4_either_2 4 rfl rfl)
theorem dX4_either_53 : decode cX4_either 53 = .ok (.invokevirtual 166, 3) := dk_182 0 166 (dk_at dksX4_either_2 5 rfl rfl)
theorem dX4_either_56 : decode cX4_either 56 = .ok (.checkcast 170, 3) := dk_192 0 170 (dk_at dksX4_either_2 8 rfl rfl)
theorem dX4_either_59 : decode cX4_either 59 = .ok (.goto 12, 3) := dk_167 0 12 (dk_at dksX4_either_2 11 rfl rfl)
theorem dX4_either_62 : decode cX4_either 62 = .ok (.new 172, 3) := dk_187 0 172 (dk_at dksX4_either_2 14 rfl rfl)
theorem dX4_either_65 : decode cX4_either 65 = .ok (.dup, 1) := dk_89 (dk_at dksX4_either_2 17 rfl rfl)
theorem dX4_either_66 : decode cX4_either 66 = .ok (.iconst 0, 1) := dk_3 (dk_at dksX4_either_2 18 rfl rfl)
theorem dX4_either_67 : decode cX4_either 67 = .ok (.aload_n 1, 1) := dk_43 (dk_at dksX4_either_2 19 rfl rfl)
theorem dX4_either_68 : decode cX4_either 68 = .ok (.invokespecial 174, 3) := dk_183 0 174 (dk_at dksX4_either_2 20 rfl rfl)
theorem dX4_either_71 : decode cX4_either 71 = .ok (.areturn, 1) := dk_176 (dk_at dksX4_either_2 23 rfl rfl)
def dkwX4_both_2 : List UInt8 := [160, 0, 14, 43, 3, 182, 0, 166, 192, 0, 170, 167, 0, 12, 187, 0, 172, 89, 4, 43, 183, 0, 174, 176]
abbrev dktX4_both_2 : List UInt8 := dkwX4_both_2 ++ []
def dkwX4_both_1 : List UInt8 := [160, 0, 19, 42, 182, 0, 74, 43, 42, 182, 0, 177, 182, 0, 127, 87, 167, 255, 233, 43, 182, 0, 164, 4]
abbrev dktX4_both_1 : List UInt8 := dkwX4_both_1 ++ dktX4_both_2
def dkwX4_both_0 : List UInt8 := [187, 0, 128, 89, 183, 0, 160, 76, 43, 42, 182, 0, 177, 182, 0, 127, 87, 42, 180, 0, 25, 17, 0, 219]
abbrev dktX4_both_0 : List UInt8 := dkwX4_both_0 ++ dktX4_both_1
theorem dksX4_both_0 : cX4_both.data.toList.drop 0 = dktX4_both_0 := by decide +kernel
theorem dksX4_both_1 : cX4_both.data.toList.drop 24 = dktX4_both_1 := dk_seg dksX4_both_0 24 rfl rfl
theorem dksX4_both_2 : cX4_both.data.toList.drop 48 = dktX4_both_2 := dk_seg dksX4_both_1 24 rfl rfl
theorem dX4_both_0 : decode cX4_both 0 = .ok (.new 128, 3) := dk_187 0 128 (dk_at dksX4_both_0 0 rfl rfl)
theorem dX4_both_3 : decode cX4_both 3 = .ok (.dup, 1) := dk_89 (dk_at dksX4_both_0 3 rfl rfl)
theorem dX4_both_4 : decode cX4_both 4 = .ok (.invokespecial 160, 3) := dk_183 0 160 (dk_at dksX4_both_0 4 rfl rfl)
theorem dX4_both_7 : decode cX4_both 7 = .ok (.astore_n 1, 1) := dk_76 (dk_at dksX4_both_0 7 rfl rfl)
theorem dX4_both_8 : decode cX4_both 8 = .ok (.aload_n 1, 1) := dk_43 (dk_at dksX4_both_0 8 rfl rfl)
theorem dX4_both_9 : decode cX4_both 9 = .ok (.aload_n 0, 1) := dk_42 (dk_at dksX4_both_0 9 rfl rfl)
theorem dX4_both_10 : decode cX4_both 10 = .ok (.invokevirtual 177, 3) := dk_182 0 177 (dk_at dksX4_both_0 10 rfl rfl)
theorem dX4_both_13 : decode cX4_both 13 = .ok (.invokevirtual 127, 3) := dk_182 0 127 (dk_at dksX4_both_0 13 rfl rfl)
theorem dX4_both_16 : decode cX4_both 16 = .ok (.pop, 1) := dk_87 (dk_at dksX4_both_0 16 rfl rfl)
theorem dX4_both_17 : decode cX4_both 17 = .ok (.aload_n 0, 1) := dk_42 (dk_at dksX4_both_0 17 rfl rfl)
theorem dX4_both_18 : decode cX4_both 18 = .ok (.getfield 25, 3) := dk_180 0 25 (dk_at dksX4_both_0 18 rfl rfl)
theorem dX4_both_21 : decode cX4_both 21 = .ok (.sipush 219, 3) := dk_17 0 219 (dk_at dksX4_both_0 21 rfl rfl)
theorem dX4_both_24 : decode cX4_both 24 = .ok (.if_icmp .ne 19, 3) := dk_160 0 19 (dk_at dksX4_both_1 0 rfl rfl)
theorem dX4_both_27 : decode cX4_both 27 = .ok (.aload_n 0, 1) := dk_42 (dk_at dksX4_both_1 3 rfl rfl)
theorem dX4_both_28 : decode cX4_both 28 = .ok (.invokevirtual 74, 3) := dk_182 0 74 (dk_at dksX4_both_1 4 rfl rfl)
theorem dX4_both_31 : decode cX4_both 31 = .ok (.aload_n 1, 1) := dk_43 (dk_at dksX4_both_1 7 rfl rfl)
theorem dX4_both_32 : decode cX4_both 32 = .ok (.aload_n 0, 1) := dk_42 (dk_at dksX4_both_1 8 rfl rfl)
theorem dX4_both_33 : decode cX4_both 33 = .ok (.invokevirtual 177, 3) := dk_182 0 177 (dk_at dksX4_both_1 9 rfl rfl)
theorem dX4_both_36 : decode cX4_both 36 = .ok (.invokevirtual 127, 3) := dk_182 0 127 (dk_at dksX4_both_1 12 rfl rfl)
theorem dX4_both_39 : decode cX4_both 39 = .ok (.pop, 1) := dk_87 (dk_at dksX4_both_1 15 rfl rfl)
theorem dX4_both_40 : decode cX4_both 40 = .ok (.goto (-23), 3) := dk_167 255 233 (dk_at dksX4_both_1 16 rfl rfl)
theorem dX4_both_43 : decode cX4_both 43 = .ok (.aload_n 1, 1) := dk_43 (dk_at dksX4_both_1 19 rfl rfl)
theorem dX4_both_44 : decode cX4_both 44 = .ok (.invokevirtual 164, 3) := dk_182 0 164 (dk_at dksX4_both_1 20 rfl rfl)
theorem dX4_both_47 : decode cX4_both 47 = .ok (.iconst 1, 1) := dk_4 (dk_at dksX4_both_1 23 rfl rfl)
theorem dX4_both_48 : decode cX4_both 48 = .ok (.if_icmp .ne 14, 3) := dk_160 0 14 (dk_at dksX4_both_2 0 rfl rfl)
theorem dX4_both_51 : decode cX4_both 51 = .ok (.aload_n 1, 1) := dk_43 (dk_at dksX4_both_2 3 rfl rfl)
theorem dX4_both_52 : decode cX4_both 52 = .ok (.iconst 0, 1) := dk_3 (dk_at dksX4_both_2 4 rfl rfl)
theorem dX4_both_53 : decode cX4_both 53 = .ok (.invokevirtual 166, 3) := dk_182 0 166 (dk_at dksX4_both_2 5 rfl rfl)
theorem dX4_both_56 : decode cX4_both 56 = .ok (.checkcast 170, 3) := dk_192 0 170 (dk_at dksX4_both_2 8 rfl rfl)
theorem dX4_both_59 : decode cX4_both 59 = .ok (.goto 12, 3) := dk_167 0 12 (dk_at dksX4_both_2 11 rfl rfl)
theorem dX4_both_62 : decode cX4_both 62 = .ok (.new 172, 3) := dk_187 0 172 (dk_at dksX4_both_2 14 rfl rfl)
theorem dX4_both_65 : decode cX4_both 65 = .ok (.dup, 1) := dk_89 (dk_at dksX4_both_2 17 rfl rfl)
theorem dX4_both_66 : decode cX4_both 66 = .ok (.iconst 1, 1) := dk_4 (dk_at dksX4_both_2 18 rfl rfl)
theorem dX4_both_67 : decode cX4_both 67 = .ok (.aload_n 1, 1) := dk_43 (dk_at dksX4_both_2 19 rfl rfl)
theorem dX4_both_68 : decode cX4_both 68 = .ok (.invokespecial 174, 3) := dk_183 0 174 (dk_at dksX4_both_2 20 rfl rfl)
theorem dX4_both_71 : decode cX4_both 71 = .ok (.areturn, 1) := dk_176 (dk_at dksX4_both_2 23 rfl rfl)
def dkwX4_ask_4 : List UInt8 := [191, 42, 182, 0, 74, 187, 0, 188, 89, 28, 43, 42, 182, 0, 115, 183, 0, 190, 176]
abbrev dktX4_ask_4 : List UInt8 := dkwX4_ask_4 ++ []
def dkwX4_ask_3 : List UInt8 := [16, 35, 159, 0, 23, 28, 17, 1, 47, 159, 0, 16, 28, 17, 1, 48, 159, 0, 9, 42, 4, 182, 0, 70]
abbrev dktX4_ask_3 : List UInt8 := dkwX4_ask_3 ++ dktX4_ask_4
def dkwX4_ask_2 : List UInt8 := [180, 0, 25, 61, 28, 16, 60, 159, 0, 41, 28, 16, 62, 159, 0, 35, 28, 16, 61, 159, 0, 29, 28]
abbrev dktX4_ask_2 : List UInt8 := dkwX4_ask_2 ++ dktX4_ask_3
def dkwX4_ask_1 : List UInt8 := [183, 0, 185, 76, 42, 89, 180, 0, 77, 4, 100, 181, 0, 77, 43, 176, 42, 182, 0, 115, 76, 42]
abbrev dktX4_ask_1 : List UInt8 := dkwX4_ask_1 ++ dktX4_ask_2
def dkwX4_ask_0 : List UInt8 := [42, 180, 0, 25, 17, 0, 220, 160, 0, 31, 42, 182, 0, 180, 187, 0, 183, 89, 42, 182, 0, 177]
abbrev dktX4_ask_0 : List UInt8 := dkwX4_ask_0 ++ dktX4_ask_1
theorem dksX4_ask_0 : cX4_ask.data.toList.drop 0 = dktX4_ask_0 := by decide +kernel
theorem dksX4_ask_1 : cX4_ask.data.toList.drop 22 = dktX4_ask_1 := dk_seg dksX4_ask_0 22 rfl rfl
theorem dksX4_ask_2 : cX4_ask.data.toList.drop 44 = dktX4_ask_2 := dk_seg dksX4_ask_1 22 rfl rfl
theorem dksX4_ask_3 : cX4_ask.data.toList.drop 67 = dktX4_ask_3 := dk_seg dksX4_ask_2 23 rfl rfl
theorem dksX4_ask_4 : cX4_ask.data.toList.drop 91 = dktX4_ask_4 := dk_seg dksX4_ask_3 24 rfl rfl
theorem dX4_ask_0 : decode cX4_ask 0 = .ok (.aload_n 0, 1) := dk_42 (dk_at dksX4_ask_0 0 rfl rfl)
theorem dX4_ask_1 : decode cX4_ask 1 = .ok (.getfield 25, 3) := dk_180 0 25 (dk_at dksX4_ask_0 1 rfl rfl)
theorem dX4_ask_4 : decode cX4_ask 4 = .ok (.sipush 220, 3) := dk_17 0 220 (dk_at dksX4_ask_0 4 rfl rfl)
theorem dX4_ask_7 : decode cX4_ask 7 = .ok (.if_icmp .ne 31, 3) := dk_160 0 31 (dk_at dksX4_ask_0 7 rfl rfl)
theorem dX4_ask_10 : decode cX4_ask 10 = .ok (.aload_n 0, 1) := dk_42 (dk_at dksX4_ask_0 10 rfl rfl)
theorem dX4_ask_11 : decode cX4_ask 11 = .ok (.invokevirtual 180, 3) := dk_182 0 180 (dk_at dksX4_ask_0 11 rfl rfl)
theorem dX4_ask_14 : decode cX4_ask 14 = .ok (.new 183, 3) := dk_187 0 183 (dk_at dksX4_ask_0 14 rfl rfl)
theorem dX4_ask_17 : decode cX4_ask 17 = .ok (.dup, 1) := dk_89 (dk_at dksX4_ask_0 17 rfl rfl)
theorem dX4_ask_18 : decode cX4_ask 18 = .ok (.aload_n 0, 1) := dk_42 (dk_at dksX4_ask_0 18 rfl rfl)
theorem dX4_ask_19 : decode cX4_ask 19 = .ok (.invokevirtual 177, 3) := dk_182 0 177 (dk_at dksX4_ask_0 19 rfl rfl)
theorem dX4_ask_22 : decode cX4_ask 22 = .ok (.invokespecial 185, 3) := dk_183 0 185 (dk_at dksX4_ask_1 0 rfl rfl)
theorem dX4_ask_25 : decode cX4_ask 25 = .ok (.astore_n 1, 1) := dk_76 (dk_at dksX4_ask_1 3 rfl rfl)
theorem dX4_ask_26 : decode cX4_ask 26 = .ok (.aload_n 0, 1) := dk_42 (dk_at dksX4_ask_1 4 rfl rfl)
theorem dX4_ask_27 : decode cX4_ask 27 = .ok (.dup, 1) := dk_89 (dk_at dksX4_ask_1 5 rfl rfl)
theorem dX4_ask_28 : decode cX4_ask 28 = .ok (.getfield 77, 3) := dk_180 0 77 (dk_at dksX4_ask_1 6 rfl rfl)
theorem dX4_ask_31 : decode cX4_ask 31 = .ok (.iconst 1, 1) := dk_4 (dk_at dksX4_ask_1 9 rfl rfl)
theorem dX4_ask_32 : decode cX4_ask 32 = .ok (.isub, 1) := dk_100 (dk_at dksX4_ask_1 10 rfl rfl)
theorem dX4_ask_33 : decode cX4_ask 33 = .ok (.putfield 77, 3) := dk_181 0 77 (dk_at dksX4_ask_1 11 rfl rfl)
theorem dX4_ask_36 : decode cX4_ask 36 = .ok (.aload_n 1, 1) := dk_43 (dk_at dksX4_ask_1 14 rfl rfl)
theorem dX4_ask_37 : decode cX4_ask 37 = .ok (.areturn, 1) := dk_176 (dk_at dksX4_ask_1 15 rfl rfl)
theorem dX4_ask_38 : decode cX4_ask 38 = .ok (.aload_n 0, 1) := dk_42 (dk_at dksX4_ask_1 16 rfl rfl)
theorem dX4_ask_39 : decode cX4_ask 39 = .ok (.invokevirtual 115, 3) := dk_182 0 115 (dk_at dksX4_ask_1 17 rfl rfl)
theorem dX4_ask_42 : decode cX4_ask 42 = .ok (.astore_n 1, 1) := dk_76 (dk_at dksX4_ask_1 20 rfl rfl)
theorem dX4_ask_43 : decode cX4_ask 43 = .ok (.aload_n 0, 1) := dk_42 (dk_at dksX4_ask_1 21 rfl rfl)
theorem dX4_ask_44 : decode cX4_ask 44 = .ok (.getfield 25, 3) := dk_180 0 25 (dk_at dksX4_ask_2 0 rfl rfl)
theorem dX4_ask_47 : decode cX4_ask 47 = .ok (.istore_n 2, 1) := dk_61 (dk_at dksX4_ask_2 3 rfl rfl)
theorem dX4_ask_48 : decode cX4_ask 48 = .ok (.iload_n 2, 1) := dk_28 (dk_at dksX4_ask_2 4 rfl rfl)
theorem dX4_ask_49 : decode cX4_ask 49 = .ok (.bipush 60, 2) := dk_16 60 (dk_at dksX4_ask_2 5 rfl rfl)
theorem dX4_ask_51 : decode cX4_ask 51 = .ok (.if_icmp .eq 41, 3) := dk_159 0 41 (dk_at dksX4_ask_2 7 rfl rfl)
theorem dX4_ask_54 : decode cX4_ask 54 = .ok (.iload_n 2, 1) := dk_28 (dk_at dksX4_ask_2 10 rfl rfl)
theorem dX4_ask_55 : decode cX4_ask 55 = .ok (.bipush 62, 2) := dk_16 62 (dk_at dksX4_ask_2 11 rfl rfl)
theorem dX4_ask_57 : decode cX4_ask 57 = .ok (.if_icmp .eq 35, 3) := dk_159 0 35 (dk_at dksX4_ask_2 13 rfl rfl)
theorem dX4_ask_60 : decode cX4_ask 60 = .ok (.iload_n 2, 1) := dk_28 (dk_at dksX4_ask_2 16 rfl rfl)
theorem dX4_ask_61 : decode cX4_ask 61 = .ok (.bipush 61, 2) := dk_16 61 (dk_at dksX4_ask_2 17 rfl rfl)
theorem dX4_ask_63 : decode cX4_ask 63 = .ok (.if_icmp .eq 29, 3) := dk_159 0 29 (dk_at dksX4_ask_2 19 rfl rfl)
theorem dX4_ask_66 : decode cX4_ask 66 = .ok (.iload_n 2, 1) := dk_28 (dk_at dksX4_ask_2 22 rfl rfl)
theorem dX4_ask_67 : decode cX4_ask 67 = .ok (.bipush 35, 2) := dk_16 35 (dk_at dksX4_ask_3 0 rfl rfl)
theorem dX4_ask_69 : decode cX4_ask 69 = .ok (.if_icmp .eq 23, 3) := dk_159 0 23 (dk_at dksX4_ask_3 2 rfl rfl)
theorem dX4_ask_72 : decode cX4_ask 72 = .ok (.iload_n 2, 1) := dk_28 (dk_at dksX4_ask_3 5 rfl rfl)
theorem dX4_ask_73 : decode cX4_ask 73 = .ok (.sipush 303, 3) := dk_17 1 47 (dk_at dksX4_ask_3 6 rfl rfl)
theorem dX4_ask_76 : decode cX4_ask 76 = .ok (.if_icmp .eq 16, 3) := dk_159 0 16 (dk_at dksX4_ask_3 9 rfl rfl)
theorem dX4_ask_79 : decode cX4_ask 79 = .ok (.iload_n 2, 1) := dk_28 (dk_at dksX4_ask_3 12 rfl rfl)
theorem dX4_ask_80 : decode cX4_ask 80 = .ok (.sipush 304, 3) := dk_17 1 48 (dk_at dksX4_ask_3 13 rfl rfl)
theorem dX4_ask_83 : decode cX4_ask 83 = .ok (.if_icmp .eq 9, 3) := dk_159 0 9 (dk_at dksX4_ask_3 16 rfl rfl)
theorem dX4_ask_86 : decode cX4_ask 86 = .ok (.aload_n 0, 1) := dk_42 (dk_at dksX4_ask_3 19 rfl rfl)
theorem dX4_ask_87 : decode cX4_ask 87 = .ok (.iconst 1, 1) := dk_4 (dk_at dksX4_ask_3 20 rfl rfl)
theorem dX4_ask_88 : decode cX4_ask 88 = .ok (.invokevirtual 70, 3) := dk_182 0 70 (dk_at dksX4_ask_3 21 rfl rfl)
theorem dX4_ask_91 : decode cX4_ask 91 = .ok (.athrow, 1) := dk_191 (dk_at dksX4_ask_4 0 rfl rfl)
theorem dX4_ask_92 : decode cX4_ask 92 = .ok (.aload_n 0, 1) := dk_42 (dk_at dksX4_ask_4 1 rfl rfl)
theorem dX4_ask_93 : decode cX4_ask 93 = .ok (.invokevirtual 74, 3) := dk_182 0 74 (dk_at dksX4_ask_4 2 rfl rfl)
theorem dX4_ask_96 : decode cX4_ask 96 = .ok (.new 188, 3) := dk_187 0 188 (dk_at dksX4_ask_4 5 rfl rfl)
theorem dX4_ask_99 : decode cX4_ask 99 = .ok (.dup, 1) := dk_89 (dk_at dksX4_ask_4 8 rfl rfl)
theorem dX4_ask_100 : decode cX4_ask 100 = .ok (.iload_n 2, 1) := dk_28 (dk_at dksX4_ask_4 9 rfl rfl)
theorem dX4_ask_101 : decode cX4_ask 101 = .ok (.aload_n 1, 1) := dk_43 (dk_at dksX4_ask_4 10 rfl rfl)
theorem dX4_ask_102 : decode cX4_ask 102 = .ok (.aload_n 0, 1) := dk_42 (dk_at dksX4_ask_4 11 rfl rfl)
theorem dX4_ask_103 : decode cX4_ask 103 = .ok (.invokevirtual 115, 3) := dk_182 0 115 (dk_at dksX4_ask_4 12 rfl rfl)
theorem dX4_ask_106 : decode cX4_ask 106 = .ok (.invokespecial 190, 3) := dk_183 0 190 (dk_at dksX4_ask_4 15 rfl rfl)
theorem dX4_ask_109 : decode cX4_ask 109 = .ok (.areturn, 1) := dk_176 (dk_at dksX4_ask_4 18 rfl rfl)
def dkwX4_opens_1 : List UInt8 := [181, 0, 77, 42, 182, 0, 74, 177]
abbrev dktX4_opens_1 : List UInt8 := dkwX4_opens_1 ++ []
def dkwX4_opens_0 : List UInt8 := [42, 180, 0, 77, 16, 8, 160, 0, 9, 42, 6, 182, 0, 70, 191, 42, 89, 180, 0, 77, 4, 96]
abbrev dktX4_opens_0 : List UInt8 := dkwX4_opens_0 ++ dktX4_opens_1
theorem dksX4_opens_0 : cX4_opens.data.toList.drop 0 = dktX4_opens_0 := by decide +kernel
theorem dksX4_opens_1 : cX4_opens.data.toList.drop 22 = dktX4_opens_1 := dk_seg dksX4_opens_0 22 rfl rfl
theorem dX4_opens_0 : decode cX4_opens 0 = .ok (.aload_n 0, 1) := dk_42 (dk_at dksX4_opens_0 0 rfl rfl)
theorem dX4_opens_1 : decode cX4_opens 1 = .ok (.getfield 77, 3) := dk_180 0 77 (dk_at dksX4_opens_0 1 rfl rfl)
theorem dX4_opens_4 : decode cX4_opens 4 = .ok (.bipush 8, 2) := dk_16 8 (dk_at dksX4_opens_0 4 rfl rfl)
theorem dX4_opens_6 : decode cX4_opens 6 = .ok (.if_icmp .ne 9, 3) := dk_160 0 9 (dk_at dksX4_opens_0 6 rfl rfl)
theorem dX4_opens_9 : decode cX4_opens 9 = .ok (.aload_n 0, 1) := dk_42 (dk_at dksX4_opens_0 9 rfl rfl)
theorem dX4_opens_10 : decode cX4_opens 10 = .ok (.iconst 3, 1) := dk_6 (dk_at dksX4_opens_0 10 rfl rfl)
theorem dX4_opens_11 : decode cX4_opens 11 = .ok (.invokevirtual 70, 3) := dk_182 0 70 (dk_at dksX4_opens_0 11 rfl rfl)
theorem dX4_opens_14 : decode cX4_opens 14 = .ok (.athrow, 1) := dk_191 (dk_at dksX4_opens_0 14 rfl rfl)
theorem dX4_opens_15 : decode cX4_opens 15 = .ok (.aload_n 0, 1) := dk_42 (dk_at dksX4_opens_0 15 rfl rfl)
theorem dX4_opens_16 : decode cX4_opens 16 = .ok (.dup, 1) := dk_89 (dk_at dksX4_opens_0 16 rfl rfl)
theorem dX4_opens_17 : decode cX4_opens 17 = .ok (.getfield 77, 3) := dk_180 0 77 (dk_at dksX4_opens_0 17 rfl rfl)
theorem dX4_opens_20 : decode cX4_opens 20 = .ok (.iconst 1, 1) := dk_4 (dk_at dksX4_opens_0 20 rfl rfl)
theorem dX4_opens_21 : decode cX4_opens 21 = .ok (.iadd, 1) := dk_96 (dk_at dksX4_opens_0 21 rfl rfl)
theorem dX4_opens_22 : decode cX4_opens 22 = .ok (.putfield 77, 3) := dk_181 0 77 (dk_at dksX4_opens_1 0 rfl rfl)
theorem dX4_opens_25 : decode cX4_opens 25 = .ok (.aload_n 0, 1) := dk_42 (dk_at dksX4_opens_1 3 rfl rfl)
theorem dX4_opens_26 : decode cX4_opens 26 = .ok (.invokevirtual 74, 3) := dk_182 0 74 (dk_at dksX4_opens_1 4 rfl rfl)
theorem dX4_opens_29 : decode cX4_opens 29 = .ok (.return_, 1) := dk_177 (dk_at dksX4_opens_1 7 rfl rfl)
def dkwX4_sum_2 : List UInt8 := [182, 0, 201, 167, 255, 220, 43, 182, 0, 204, 176]
abbrev dktX4_sum_2 : List UInt8 := dkwX4_sum_2 ++ []
def dkwX4_sum_1 : List UInt8 := [180, 0, 25, 16, 45, 160, 0, 24, 42, 180, 0, 25, 61, 42, 182, 0, 74, 43, 28, 42, 182, 0, 195]
abbrev dktX4_sum_1 : List UInt8 := dkwX4_sum_1 ++ dktX4_sum_2
def dkwX4_sum_0 : List UInt8 := [187, 0, 193, 89, 42, 182, 0, 195, 183, 0, 198, 76, 42, 180, 0, 25, 16, 43, 159, 0, 12, 42]
abbrev dktX4_sum_0 : List UInt8 := dkwX4_sum_0 ++ dktX4_sum_1
theorem dksX4_sum_0 : cX4_sum.data.toList.drop 0 = dktX4_sum_0 := by decide +kernel
theorem dksX4_sum_1 : cX4_sum.data.toList.drop 22 = dktX4_sum_1 := dk_seg dksX4_sum_0 22 rfl rfl
theorem dksX4_sum_2 : cX4_sum.data.toList.drop 45 = dktX4_sum_2 := dk_seg dksX4_sum_1 23 rfl rfl
theorem dX4_sum_0 : decode cX4_sum 0 = .ok (.new 193, 3) := dk_187 0 193 (dk_at dksX4_sum_0 0 rfl rfl)
theorem dX4_sum_3 : decode cX4_sum 3 = .ok (.dup, 1) := dk_89 (dk_at dksX4_sum_0 3 rfl rfl)
theorem dX4_sum_4 : decode cX4_sum 4 = .ok (.aload_n 0, 1) := dk_42 (dk_at dksX4_sum_0 4 rfl rfl)
theorem dX4_sum_5 : decode cX4_sum 5 = .ok (.invokevirtual 195, 3) := dk_182 0 195 (dk_at dksX4_sum_0 5 rfl rfl)
theorem dX4_sum_8 : decode cX4_sum 8 = .ok (.invokespecial 198, 3) := dk_183 0 198 (dk_at dksX4_sum_0 8 rfl rfl)
theorem dX4_sum_11 : decode cX4_sum 11 = .ok (.astore_n 1, 1) := dk_76 (dk_at dksX4_sum_0 11 rfl rfl)
theorem dX4_sum_12 : decode cX4_sum 12 = .ok (.aload_n 0, 1) := dk_42 (dk_at dksX4_sum_0 12 rfl rfl)
theorem dX4_sum_13 : decode cX4_sum 13 = .ok (.getfield 25, 3) := dk_180 0 25 (dk_at dksX4_sum_0 13 rfl rfl)
theorem dX4_sum_16 : decode cX4_sum 16 = .ok (.bipush 43, 2) := dk_16 43 (dk_at dksX4_sum_0 16 rfl rfl)
theorem dX4_sum_18 : decode cX4_sum 18 = .ok (.if_icmp .eq 12, 3) := dk_159 0 12 (dk_at dksX4_sum_0 18 rfl rfl)
theorem dX4_sum_21 : decode cX4_sum 21 = .ok (.aload_n 0, 1) := dk_42 (dk_at dksX4_sum_0 21 rfl rfl)
theorem dX4_sum_22 : decode cX4_sum 22 = .ok (.getfield 25, 3) := dk_180 0 25 (dk_at dksX4_sum_1 0 rfl rfl)
theorem dX4_sum_25 : decode cX4_sum 25 = .ok (.bipush 45, 2) := dk_16 45 (dk_at dksX4_sum_1 3 rfl rfl)
theorem dX4_sum_27 : decode cX4_sum 27 = .ok (.if_icmp .ne 24, 3) := dk_160 0 24 (dk_at dksX4_sum_1 5 rfl rfl)
theorem dX4_sum_30 : decode cX4_sum 30 = .ok (.aload_n 0, 1) := dk_42 (dk_at dksX4_sum_1 8 rfl rfl)
theorem dX4_sum_31 : decode cX4_sum 31 = .ok (.getfield 25, 3) := dk_180 0 25 (dk_at dksX4_sum_1 9 rfl rfl)
theorem dX4_sum_34 : decode cX4_sum 34 = .ok (.istore_n 2, 1) := dk_61 (dk_at dksX4_sum_1 12 rfl rfl)
theorem dX4_sum_35 : decode cX4_sum 35 = .ok (.aload_n 0, 1) := dk_42 (dk_at dksX4_sum_1 13 rfl rfl)
theorem dX4_sum_36 : decode cX4_sum 36 = .ok (.invokevirtual 74, 3) := dk_182 0 74 (dk_at dksX4_sum_1 14 rfl rfl)
theorem dX4_sum_39 : decode cX4_sum 39 = .ok (.aload_n 1, 1) := dk_43 (dk_at dksX4_sum_1 17 rfl rfl)
theorem dX4_sum_40 : decode cX4_sum 40 = .ok (.iload_n 2, 1) := dk_28 (dk_at dksX4_sum_1 18 rfl rfl)
theorem dX4_sum_41 : decode cX4_sum 41 = .ok (.aload_n 0, 1) := dk_42 (dk_at dksX4_sum_1 19 rfl rfl)
theorem dX4_sum_42 : decode cX4_sum 42 = .ok (.invokevirtual 195, 3) := dk_182 0 195 (dk_at dksX4_sum_1 20 rfl rfl)
theorem dX4_sum_45 : decode cX4_sum 45 = .ok (.invokevirtual 201, 3) := dk_182 0 201 (dk_at dksX4_sum_2 0 rfl rfl)
theorem dX4_sum_48 : decode cX4_sum 48 = .ok (.goto (-36), 3) := dk_167 255 220 (dk_at dksX4_sum_2 3 rfl rfl)
theorem dX4_sum_51 : decode cX4_sum 51 = .ok (.aload_n 1, 1) := dk_43 (dk_at dksX4_sum_2 6 rfl rfl)
theorem dX4_sum_52 : decode cX4_sum 52 = .ok (.invokevirtual 204, 3) := dk_182 0 204 (dk_at dksX4_sum_2 7 rfl rfl)
theorem dX4_sum_55 : decode cX4_sum 55 = .ok (.areturn, 1) := dk_176 (dk_at dksX4_sum_2 10 rfl rfl)
def dkwX4_product_2 : List UInt8 := [182, 0, 201, 167, 255, 220, 43, 182, 0, 204, 176]
abbrev dktX4_product_2 : List UInt8 := dkwX4_product_2 ++ []
def dkwX4_product_1 : List UInt8 := [180, 0, 25, 16, 47, 160, 0, 24, 42, 180, 0, 25, 61, 42, 182, 0, 74, 43, 28, 42, 182, 0, 207]
abbrev dktX4_product_1 : List UInt8 := dkwX4_product_1 ++ dktX4_product_2
def dkwX4_product_0 : List UInt8 := [187, 0, 193, 89, 42, 182, 0, 207, 183, 0, 198, 76, 42, 180, 0, 25, 16, 42, 159, 0, 12, 42]
abbrev dktX4_product_0 : List UInt8 := dkwX4_product_0 ++ dktX4_product_1
theorem dksX4_product_0 : cX4_product.data.toList.drop 0 = dktX4_product_0 := by decide +kernel
theorem dksX4_product_1 : cX4_product.data.toList.drop 22 = dktX4_product_1 := dk_seg dksX4_product_0 22 rfl rfl
theorem dksX4_product_2 : cX4_product.data.toList.drop 45 = dktX4_product_2 := dk_seg dksX4_product_1 23 rfl rfl
theorem dX4_product_0 : decode cX4_product 0 = .ok (.new 193, 3) := dk_187 0 193 (dk_at dksX4_product_0 0 rfl rfl)
theorem dX4_product_3 : decode cX4_product 3 = .ok (.dup, 1) := dk_89 (dk_at dksX4_product_0 3 rfl rfl)
theorem dX4_product_4 : decode cX4_product 4 = .ok (.aload_n 0, 1) := dk_42 (dk_at dksX4_product_0 4 rfl rfl)
theorem dX4_product_5 : decode cX4_product 5 = .ok (.invokevirtual 207, 3) := dk_182 0 207 (dk_at dksX4_product_0 5 rfl rfl)
theorem dX4_product_8 : decode cX4_product 8 = .ok (.invokespecial 198, 3) := dk_183 0 198 (dk_at dksX4_product_0 8 rfl rfl)
theorem dX4_product_11 : decode cX4_product 11 = .ok (.astore_n 1, 1) := dk_76 (dk_at dksX4_product_0 11 rfl rfl)
theorem dX4_product_12 : decode cX4_product 12 = .ok (.aload_n 0, 1) := dk_42 (dk_at dksX4_product_0 12 rfl rfl)
theorem dX4_product_13 : decode cX4_product 13 = .ok (.getfield 25, 3) := dk_180 0 25 (dk_at dksX4_product_0 13 rfl rfl)
theorem dX4_product_16 : decode cX4_product 16 = .ok (.bipush 42, 2) := dk_16 42 (dk_at dksX4_product_0 16 rfl rfl)
theorem dX4_product_18 : decode cX4_product 18 = .ok (.if_icmp .eq 12, 3) := dk_159 0 12 (dk_at dksX4_product_0 18 rfl rfl)
theorem dX4_product_21 : decode cX4_product 21 = .ok (.aload_n 0, 1) := dk_42 (dk_at dksX4_product_0 21 rfl rfl)
theorem dX4_product_22 : decode cX4_product 22 = .ok (.getfield 25, 3) := dk_180 0 25 (dk_at dksX4_product_1 0 rfl rfl)
theorem dX4_product_25 : decode cX4_product 25 = .ok (.bipush 47, 2) := dk_16 47 (dk_at dksX4_product_1 3 rfl rfl)
theorem dX4_product_27 : decode cX4_product 27 = .ok (.if_icmp .ne 24, 3) := dk_160 0 24 (dk_at dksX4_product_1 5 rfl rfl)
theorem dX4_product_30 : decode cX4_product 30 = .ok (.aload_n 0, 1) := dk_42 (dk_at dksX4_product_1 8 rfl rfl)
theorem dX4_product_31 : decode cX4_product 31 = .ok (.getfield 25, 3) := dk_180 0 25 (dk_at dksX4_product_1 9 rfl rfl)
theorem dX4_product_34 : decode cX4_product 34 = .ok (.istore_n 2, 1) := dk_61 (dk_at dksX4_product_1 12 rfl rfl)
theorem dX4_product_35 : decode cX4_product 35 = .ok (.aload_n 0, 1) := dk_42 (dk_at dksX4_product_1 13 rfl rfl)
theorem dX4_product_36 : decode cX4_product 36 = .ok (.invokevirtual 74, 3) := dk_182 0 74 (dk_at dksX4_product_1 14 rfl rfl)
theorem dX4_product_39 : decode cX4_product 39 = .ok (.aload_n 1, 1) := dk_43 (dk_at dksX4_product_1 17 rfl rfl)
theorem dX4_product_40 : decode cX4_product 40 = .ok (.iload_n 2, 1) := dk_28 (dk_at dksX4_product_1 18 rfl rfl)
theorem dX4_product_41 : decode cX4_product 41 = .ok (.aload_n 0, 1) := dk_42 (dk_at dksX4_product_1 19 rfl rfl)
theorem dX4_product_42 : decode cX4_product 42 = .ok (.invokevirtual 207, 3) := dk_182 0 207 (dk_at dksX4_product_1 20 rfl rfl)
theorem dX4_product_45 : decode cX4_product 45 = .ok (.invokevirtual 201, 3) := dk_182 0 201 (dk_at dksX4_product_2 0 rfl rfl)
theorem dX4_product_48 : decode cX4_product 48 = .ok (.goto (-36), 3) := dk_167 255 220 (dk_at dksX4_product_2 3 rfl rfl)
theorem dX4_product_51 : decode cX4_product 51 = .ok (.aload_n 1, 1) := dk_43 (dk_at dksX4_product_2 6 rfl rfl)
theorem dX4_product_52 : decode cX4_product 52 = .ok (.invokevirtual 204, 3) := dk_182 0 204 (dk_at dksX4_product_2 7 rfl rfl)
theorem dX4_product_55 : decode cX4_product 55 = .ok (.areturn, 1) := dk_176 (dk_at dksX4_product_2 10 rfl rfl)
def dkwX4_one_6 : List UInt8 := [182, 0, 70, 191, 42, 89, 180, 0, 77, 4, 100, 181, 0, 77, 43, 176]
abbrev dktX4_one_6 : List UInt8 := dkwX4_one_6 ++ []
def dkwX4_one_5 : List UInt8 := [160, 0, 22, 42, 182, 0, 180, 187, 0, 220, 89, 42, 182, 0, 207, 183, 0, 222, 76, 167, 0, 9, 42, 4]
abbrev dktX4_one_5 : List UInt8 := dkwX4_one_5 ++ dktX4_one_6
def dkwX4_one_4 : List UInt8 := [182, 0, 180, 42, 182, 0, 115, 76, 42, 16, 41, 182, 0, 107, 167, 0, 37, 42, 180, 0, 25, 16, 45]
abbrev dktX4_one_4 : List UInt8 := dkwX4_one_4 ++ dktX4_one_5
def dkwX4_one_3 : List UInt8 := [182, 0, 74, 187, 0, 217, 89, 27, 183, 0, 219, 176, 42, 180, 0, 25, 16, 40, 160, 0, 21, 42]
abbrev dktX4_one_3 : List UInt8 := dkwX4_one_3 ++ dktX4_one_4
def dkwX4_one_2 : List UInt8 := [42, 180, 0, 25, 17, 0, 221, 100, 60, 42, 27, 182, 0, 214, 154, 0, 9, 42, 8, 182, 0, 70, 191, 42]
abbrev dktX4_one_2 : List UInt8 := dkwX4_one_2 ++ dktX4_one_3
def dkwX4_one_1 : List UInt8 := [183, 0, 212, 176, 42, 180, 0, 25, 17, 0, 221, 161, 0, 49, 42, 180, 0, 25, 17, 0, 234, 163, 0, 39]
abbrev dktX4_one_1 : List UInt8 := dkwX4_one_1 ++ dktX4_one_2
def dkwX4_one_0 : List UInt8 := [42, 180, 0, 25, 17, 1, 44, 160, 0, 19, 187, 0, 210, 89, 42, 3, 17, 39, 15, 182, 0, 133]
abbrev dktX4_one_0 : List UInt8 := dkwX4_one_0 ++ dktX4_one_1
theorem dksX4_one_0 : cX4_one.data.toList.drop 0 = dktX4_one_0 := by decide +kernel
theorem dksX4_one_1 : cX4_one.data.toList.drop 22 = dktX4_one_1 := dk_seg dksX4_one_0 22 rfl rfl
theorem dksX4_one_2 : cX4_one.data.toList.drop 46 = dktX4_one_2 := dk_seg dksX4_one_1 24 rfl rfl
theorem dksX4_one_3 : cX4_one.data.toList.drop 70 = dktX4_one_3 := dk_seg dksX4_one_2 24 rfl rfl
theorem dksX4_one_4 : cX4_one.data.toList.drop 92 = dktX4_one_4 := dk_seg dksX4_one_3 22 rfl rfl
theorem dksX4_one_5 : cX4_one.data.toList.drop 115 = dktX4_one_5 := dk_seg dksX4_one_4 23 rfl rfl
theorem dksX4_one_6 : cX4_one.data.toList.drop 139 = dktX4_one_6 := dk_seg dksX4_one_5 24 rfl rfl
theorem dX4_one_0 : decode cX4_one 0 = .ok (.aload_n 0, 1) := dk_42 (dk_at dksX4_one_0 0 rfl rfl)
theorem dX4_one_1 : decode cX4_one 1 = .ok (.getfield 25, 3) := dk_180 0 25 (dk_at dksX4_one_0 1 rfl rfl)
theorem dX4_one_4 : decode cX4_one 4 = .ok (.sipush 300, 3) := dk_17 1 44 (dk_at dksX4_one_0 4 rfl rfl)
theorem dX4_one_7 : decode cX4_one 7 = .ok (.if_icmp .ne 19, 3) := dk_160 0 19 (dk_at dksX4_one_0 7 rfl rfl)
theorem dX4_one_10 : decode cX4_one 10 = .ok (.new 210, 3) := dk_187 0 210 (dk_at dksX4_one_0 10 rfl rfl)
theorem dX4_one_13 : decode cX4_one 13 = .ok (.dup, 1) := dk_89 (dk_at dksX4_one_0 13 rfl rfl)
theorem dX4_one_14 : decode cX4_one 14 = .ok (.aload_n 0, 1) := dk_42 (dk_at dksX4_one_0 14 rfl rfl)
theorem dX4_one_15 : decode cX4_one 15 = .ok (.iconst 0, 1) := dk_3 (dk_at dksX4_one_0 15 rfl rfl)
theorem dX4_one_16 : decode cX4_one 16 = .ok (.sipush 9999, 3) := dk_17 39 15 (dk_at dksX4_one_0 16 rfl rfl)
theorem dX4_one_19 : decode cX4_one 19 = .ok (.invokevirtual 133, 3) := dk_182 0 133 (dk_at dksX4_one_0 19 rfl rfl)
theorem dX4_one_22 : decode cX4_one 22 = .ok (.invokespecial 212, 3) := dk_183 0 212 (dk_at dksX4_one_1 0 rfl rfl)
theorem dX4_one_25 : decode cX4_one 25 = .ok (.areturn, 1) := dk_176 (dk_at dksX4_one_1 3 rfl rfl)
theorem dX4_one_26 : decode cX4_one 26 = .ok (.aload_n 0, 1) := dk_42 (dk_at dksX4_one_1 4 rfl rfl)
theorem dX4_one_27 : decode cX4_one 27 = .ok (.getfield 25, 3) := dk_180 0 25 (dk_at dksX4_one_1 5 rfl rfl)
theorem dX4_one_30 : decode cX4_one 30 = .ok (.sipush 221, 3) := dk_17 0 221 (dk_at dksX4_one_1 8 rfl rfl)
theorem dX4_one_33 : decode cX4_one 33 = .ok (.if_icmp .lt 49, 3) := dk_161 0 49 (dk_at dksX4_one_1 11 rfl rfl)
theorem dX4_one_36 : decode cX4_one 36 = .ok (.aload_n 0, 1) := dk_42 (dk_at dksX4_one_1 14 rfl rfl)
theorem dX4_one_37 : decode cX4_one 37 = .ok (.getfield 25, 3) := dk_180 0 25 (dk_at dksX4_one_1 15 rfl rfl)
theorem dX4_one_40 : decode cX4_one 40 = .ok (.sipush 234, 3) := dk_17 0 234 (dk_at dksX4_one_1 18 rfl rfl)
theorem dX4_one_43 : decode cX4_one 43 = .ok (.if_icmp .gt 39, 3) := dk_163 0 39 (dk_at dksX4_one_1 21 rfl rfl)
theorem dX4_one_46 : decode cX4_one 46 = .ok (.aload_n 0, 1) := dk_42 (dk_at dksX4_one_2 0 rfl rfl)
theorem dX4_one_47 : decode cX4_one 47 = .ok (.getfield 25, 3) := dk_180 0 25 (dk_at dksX4_one_2 1 rfl rfl)
theorem dX4_one_50 : decode cX4_one 50 = .ok (.sipush 221, 3) := dk_17 0 221 (dk_at dksX4_one_2 4 rfl rfl)
theorem dX4_one_53 : decode cX4_one 53 = .ok (.isub, 1) := dk_100 (dk_at dksX4_one_2 7 rfl rfl)
theorem dX4_one_54 : decode cX4_one 54 = .ok (.istore_n 1, 1) := dk_60 (dk_at dksX4_one_2 8 rfl rfl)
theorem dX4_one_55 : decode cX4_one 55 = .ok (.aload_n 0, 1) := dk_42 (dk_at dksX4_one_2 9 rfl rfl)
theorem dX4_one_56 : decode cX4_one 56 = .ok (.iload_n 1, 1) := dk_27 (dk_at dksX4_one_2 10 rfl rfl)
theorem dX4_one_57 : decode cX4_one 57 = .ok (.invokevirtual 214, 3) := dk_182 0 214 (dk_at dksX4_one_2 11 rfl rfl)
theorem dX4_one_60 : decode cX4_one 60 = .ok (.ifCond .ne 9, 3) := dk_154 0 9 (dk_at dksX4_one_2 14 rfl rfl)
theorem dX4_one_63 : decode cX4_one 63 = .ok (.aload_n 0, 1) := dk_42 (dk_at dksX4_one_2 17 rfl rfl)
theorem dX4_one_64 : decode cX4_one 64 = .ok (.iconst 5, 1) := dk_8 (dk_at dksX4_one_2 18 rfl rfl)
theorem dX4_one_65 : decode cX4_one 65 = .ok (.invokevirtual 70, 3) := dk_182 0 70 (dk_at dksX4_one_2 19 rfl rfl)
theorem dX4_one_68 : decode cX4_one 68 = .ok (.athrow, 1) := dk_191 (dk_at dksX4_one_2 22 rfl rfl)
theorem dX4_one_69 : decode cX4_one 69 = .ok (.aload_n 0, 1) := dk_42 (dk_at dksX4_one_2 23 rfl rfl)
theorem dX4_one_70 : decode cX4_one 70 = .ok (.invokevirtual 74, 3) := dk_182 0 74 (dk_at dksX4_one_3 0 rfl rfl)
theorem dX4_one_73 : decode cX4_one 73 = .ok (.new 217, 3) := dk_187 0 217 (dk_at dksX4_one_3 3 rfl rfl)
theorem dX4_one_76 : decode cX4_one 76 = .ok (.dup, 1) := dk_89 (dk_at dksX4_one_3 6 rfl rfl)
theorem dX4_one_77 : decode cX4_one 77 = .ok (.iload_n 1, 1) := dk_27 (dk_at dksX4_one_3 7 rfl rfl)
theorem dX4_one_78 : decode cX4_one 78 = .ok (.invokespecial 219, 3) := dk_183 0 219 (dk_at dksX4_one_3 8 rfl rfl)
theorem dX4_one_81 : decode cX4_one 81 = .ok (.areturn, 1) := dk_176 (dk_at dksX4_one_3 11 rfl rfl)
theorem dX4_one_82 : decode cX4_one 82 = .ok (.aload_n 0, 1) := dk_42 (dk_at dksX4_one_3 12 rfl rfl)
theorem dX4_one_83 : decode cX4_one 83 = .ok (.getfield 25, 3) := dk_180 0 25 (dk_at dksX4_one_3 13 rfl rfl)
theorem dX4_one_86 : decode cX4_one 86 = .ok (.bipush 40, 2) := dk_16 40 (dk_at dksX4_one_3 16 rfl rfl)
theorem dX4_one_88 : decode cX4_one 88 = .ok (.if_icmp .ne 21, 3) := dk_160 0 21 (dk_at dksX4_one_3 18 rfl rfl)
theorem dX4_one_91 : decode cX4_one 91 = .ok (.aload_n 0, 1) := dk_42 (dk_at dksX4_one_3 21 rfl rfl)
theorem dX4_one_92 : decode cX4_one 92 = .ok (.invokevirtual 180, 3) := dk_182 0 180 (dk_at dksX4_one_4 0 rfl rfl)
theorem dX4_one_95 : decode cX4_one 95 = .ok (.aload_n 0, 1) := dk_42 (dk_at dksX4_one_4 3 rfl rfl)
theorem dX4_one_96 : decode cX4_one 96 = .ok (.invokevirtual 115, 3) := dk_182 0 115 (dk_at dksX4_one_4 4 rfl rfl)
theorem dX4_one_99 : decode cX4_one 99 = .ok (.astore_n 1, 1) := dk_76 (dk_at dksX4_one_4 7 rfl rfl)
theorem dX4_one_100 : decode cX4_one 100 = .ok (.aload_n 0, 1) := dk_42 (dk_at dksX4_one_4 8 rfl rfl)
theorem dX4_one_101 : decode cX4_one 101 = .ok (.bipush 41, 2) := dk_16 41 (dk_at dksX4_one_4 9 rfl rfl)
theorem dX4_one_103 : decode cX4_one 103 = .ok (.invokevirtual 107, 3) := dk_182 0 107 (dk_at dksX4_one_4 11 rfl rfl)
theorem dX4_one_106 : decode cX4_one 106 = .ok (.goto 37, 3) := dk_167 0 37 (dk_at dksX4_one_4 14 rfl rfl)
theorem dX4_one_109 : decode cX4_one 109 = .ok (.aload_n 0, 1) := dk_42 (dk_at dksX4_one_4 17 rfl rfl)
theorem dX4_one_110 : decode cX4_one 110 = .ok (.getfield 25, 3) := dk_180 0 25 (dk_at dksX4_one_4 18 rfl rfl)
theorem dX4_one_113 : decode cX4_one 113 = .ok (.bipush 45, 2) := dk_16 45 (dk_at dksX4_one_4 21 rfl rfl)
theorem dX4_one_115 : decode cX4_one 115 = .ok (.if_icmp .ne 22, 3) := dk_160 0 22 (dk_at dksX4_one_5 0 rfl rfl)
theorem dX4_one_118 : decode cX4_one 118 = .ok (.aload_n 0, 1) := dk_42 (dk_at dksX4_one_5 3 rfl rfl)
theorem dX4_one_119 : decode cX4_one 119 = .ok (.invokevirtual 180, 3) := dk_182 0 180 (dk_at dksX4_one_5 4 rfl rfl)
theorem dX4_one_122 : decode cX4_one 122 = .ok (.new 220, 3) := dk_187 0 220 (dk_at dksX4_one_5 7 rfl rfl)
theorem dX4_one_125 : decode cX4_one 125 = .ok (.dup, 1) := dk_89 (dk_at dksX4_one_5 10 rfl rfl)
theorem dX4_one_126 : decode cX4_one 126 = .ok (.aload_n 0, 1) := dk_42 (dk_at dksX4_one_5 11 rfl rfl)
theorem dX4_one_127 : decode cX4_one 127 = .ok (.invokevirtual 207, 3) := dk_182 0 207 (dk_at dksX4_one_5 12 rfl rfl)
theorem dX4_one_130 : decode cX4_one 130 = .ok (.invokespecial 222, 3) := dk_183 0 222 (dk_at dksX4_one_5 15 rfl rfl)
theorem dX4_one_133 : decode cX4_one 133 = .ok (.astore_n 1, 1) := dk_76 (dk_at dksX4_one_5 18 rfl rfl)
theorem dX4_one_134 : decode cX4_one 134 = .ok (.goto 9, 3) := dk_167 0 9 (dk_at dksX4_one_5 19 rfl rfl)
theorem dX4_one_137 : decode cX4_one 137 = .ok (.aload_n 0, 1) := dk_42 (dk_at dksX4_one_5 22 rfl rfl)
theorem dX4_one_138 : decode cX4_one 138 = .ok (.iconst 1, 1) := dk_4 (dk_at dksX4_one_5 23 rfl rfl)
theorem dX4_one_139 : decode cX4_one 139 = .ok (.invokevirtual 70, 3) := dk_182 0 70 (dk_at dksX4_one_6 0 rfl rfl)
theorem dX4_one_142 : decode cX4_one 142 = .ok (.athrow, 1) := dk_191 (dk_at dksX4_one_6 3 rfl rfl)
theorem dX4_one_143 : decode cX4_one 143 = .ok (.aload_n 0, 1) := dk_42 (dk_at dksX4_one_6 4 rfl rfl)
theorem dX4_one_144 : decode cX4_one 144 = .ok (.dup, 1) := dk_89 (dk_at dksX4_one_6 5 rfl rfl)
theorem dX4_one_145 : decode cX4_one 145 = .ok (.getfield 77, 3) := dk_180 0 77 (dk_at dksX4_one_6 6 rfl rfl)
theorem dX4_one_148 : decode cX4_one 148 = .ok (.iconst 1, 1) := dk_4 (dk_at dksX4_one_6 9 rfl rfl)
theorem dX4_one_149 : decode cX4_one 149 = .ok (.isub, 1) := dk_100 (dk_at dksX4_one_6 10 rfl rfl)
theorem dX4_one_150 : decode cX4_one 150 = .ok (.putfield 77, 3) := dk_181 0 77 (dk_at dksX4_one_6 11 rfl rfl)
theorem dX4_one_153 : decode cX4_one 153 = .ok (.aload_n 1, 1) := dk_43 (dk_at dksX4_one_6 14 rfl rfl)
theorem dX4_one_154 : decode cX4_one 154 = .ok (.areturn, 1) := dk_176 (dk_at dksX4_one_6 15 rfl rfl)
def dkwX4_number_2 : List UInt8 := [172]
abbrev dktX4_number_2 : List UInt8 := dkwX4_number_2 ++ []
def dkwX4_number_1 : List UInt8 := [42, 180, 0, 43, 28, 164, 0, 9, 42, 5, 182, 0, 70, 191, 42, 180, 0, 43, 62, 42, 182, 0, 74, 29]
abbrev dktX4_number_1 : List UInt8 := dkwX4_number_1 ++ dktX4_number_2
def dkwX4_number_0 : List UInt8 := [42, 180, 0, 25, 17, 1, 44, 159, 0, 9, 42, 4, 182, 0, 70, 191, 42, 180, 0, 43, 27, 161, 0, 11]
abbrev dktX4_number_0 : List UInt8 := dkwX4_number_0 ++ dktX4_number_1
theorem dksX4_number_0 : cX4_number.data.toList.drop 0 = dktX4_number_0 := by decide +kernel
theorem dksX4_number_1 : cX4_number.data.toList.drop 24 = dktX4_number_1 := dk_seg dksX4_number_0 24 rfl rfl
theorem dksX4_number_2 : cX4_number.data.toList.drop 48 = dktX4_number_2 := dk_seg dksX4_number_1 24 rfl rfl
theorem dX4_number_0 : decode cX4_number 0 = .ok (.aload_n 0, 1) := dk_42 (dk_at dksX4_number_0 0 rfl rfl)
theorem dX4_number_1 : decode cX4_number 1 = .ok (.getfield 25, 3) := dk_180 0 25 (dk_at dksX4_number_0 1 rfl rfl)
theorem dX4_number_4 : decode cX4_number 4 = .ok (.sipush 300, 3) := dk_17 1 44 (dk_at dksX4_number_0 4 rfl rfl)
theorem dX4_number_7 : decode cX4_number 7 = .ok (.if_icmp .eq 9, 3) := dk_159 0 9 (dk_at dksX4_number_0 7 rfl rfl)
theorem dX4_number_10 : decode cX4_number 10 = .ok (.aload_n 0, 1) := dk_42 (dk_at dksX4_number_0 10 rfl rfl)
theorem dX4_number_11 : decode cX4_number 11 = .ok (.iconst 1, 1) := dk_4 (dk_at dksX4_number_0 11 rfl rfl)
theorem dX4_number_12 : decode cX4_number 12 = .ok (.invokevirtual 70, 3) := dk_182 0 70 (dk_at dksX4_number_0 12 rfl rfl)
theorem dX4_number_15 : decode cX4_number 15 = .ok (.athrow, 1) := dk_191 (dk_at dksX4_number_0 15 rfl rfl)
theorem dX4_number_16 : decode cX4_number 16 = .ok (.aload_n 0, 1) := dk_42 (dk_at dksX4_number_0 16 rfl rfl)
theorem dX4_number_17 : decode cX4_number 17 = .ok (.getfield 43, 3) := dk_180 0 43 (dk_at dksX4_number_0 17 rfl rfl)
theorem dX4_number_20 : decode cX4_number 20 = .ok (.iload_n 1, 1) := dk_27 (dk_at dksX4_number_0 20 rfl rfl)
theorem dX4_number_21 : decode cX4_number 21 = .ok (.if_icmp .lt 11, 3) := dk_161 0 11 (dk_at dksX4_number_0 21 rfl rfl)
theorem dX4_number_24 : decode cX4_number 24 = .ok (.aload_n 0, 1) := dk_42 (dk_at dksX4_number_1 0 rfl rfl)
theorem dX4_number_25 : decode cX4_number 25 = .ok (.getfield 43, 3) := dk_180 0 43 (dk_at dksX4_number_1 1 rfl rfl)
theorem dX4_number_28 : decode cX4_number 28 = .ok (.iload_n 2, 1) := dk_28 (dk_at dksX4_number_1 4 rfl rfl)
theorem dX4_number_29 : decode cX4_number 29 = .ok (.if_icmp .le 9, 3) := dk_164 0 9 (dk_at dksX4_number_1 5 rfl rfl)
theorem dX4_number_32 : decode cX4_number 32 = .ok (.aload_n 0, 1) := dk_42 (dk_at dksX4_number_1 8 rfl rfl)
theorem dX4_number_33 : decode cX4_number 33 = .ok (.iconst 2, 1) := dk_5 (dk_at dksX4_number_1 9 rfl rfl)
theorem dX4_number_34 : decode cX4_number 34 = .ok (.invokevirtual 70, 3) := dk_182 0 70 (dk_at dksX4_number_1 10 rfl rfl)
theorem dX4_number_37 : decode cX4_number 37 = .ok (.athrow, 1) := dk_191 (dk_at dksX4_number_1 13 rfl rfl)
theorem dX4_number_38 : decode cX4_number 38 = .ok (.aload_n 0, 1) := dk_42 (dk_at dksX4_number_1 14 rfl rfl)
theorem dX4_number_39 : decode cX4_number 39 = .ok (.getfield 43, 3) := dk_180 0 43 (dk_at dksX4_number_1 15 rfl rfl)
theorem dX4_number_42 : decode cX4_number 42 = .ok (.istore_n 3, 1) := dk_62 (dk_at dksX4_number_1 18 rfl rfl)
theorem dX4_number_43 : decode cX4_number 43 = .ok (.aload_n 0, 1) := dk_42 (dk_at dksX4_number_1 19 rfl rfl)
theorem dX4_number_44 : decode cX4_number 44 = .ok (.invokevirtual 74, 3) := dk_182 0 74 (dk_at dksX4_number_1 20 rfl rfl)
theorem dX4_number_47 : decode cX4_number 47 = .ok (.iload_n 3, 1) := dk_29 (dk_at dksX4_number_1 23 rfl rfl)
theorem dX4_number_48 : decode cX4_number 48 = .ok (.ireturn, 1) := dk_172 (dk_at dksX4_number_2 0 rfl rfl)
def dkwX4_mayName_3 : List UInt8 := [160, 0, 7, 4, 167, 0, 4, 3, 172]
abbrev dktX4_mayName_3 : List UInt8 := dkwX4_mayName_3 ++ []
def dkwX4_mayName_2 : List UInt8 := [180, 0, 83, 17, 0, 202, 160, 0, 7, 4, 167, 0, 22, 3, 167, 0, 18, 42, 180, 0, 83, 17, 0, 203]
abbrev dktX4_mayName_2 : List UInt8 := dkwX4_mayName_2 ++ dktX4_mayName_3
def dkwX4_mayName_1 : List UInt8 := [180, 0, 83, 17, 0, 201, 160, 0, 7, 4, 167, 0, 46, 3, 167, 0, 42, 27, 16, 11, 162, 0, 21, 42]
abbrev dktX4_mayName_1 : List UInt8 := dkwX4_mayName_1 ++ dktX4_mayName_2
def dkwX4_mayName_0 : List UInt8 := [27, 5, 162, 0, 5, 4, 172, 27, 16, 8, 162, 0, 31, 42, 180, 0, 83, 17, 0, 200, 159, 0, 13, 42]
abbrev dktX4_mayName_0 : List UInt8 := dkwX4_mayName_0 ++ dktX4_mayName_1
theorem dksX4_mayName_0 : cX4_mayName.data.toList.drop 0 = dktX4_mayName_0 := by decide +kernel
theorem dksX4_mayName_1 : cX4_mayName.data.toList.drop 24 = dktX4_mayName_1 := dk_seg dksX4_mayName_0 24 rfl rfl
theorem dksX4_mayName_2 : cX4_mayName.data.toList.drop 48 = dktX4_mayName_2 := dk_seg dksX4_mayName_1 24 rfl rfl
theorem dksX4_mayName_3 : cX4_mayName.data.toList.drop 72 = dktX4_mayName_3 := dk_seg dksX4_mayName_2 24 rfl rfl
theorem dX4_mayName_0 : decode cX4_mayName 0 = .ok (.iload_n 1, 1) := dk_27 (dk_at dksX4_mayName_0 0 rfl rfl)
theorem dX4_mayName_1 : decode cX4_mayName 1 = .ok (.iconst 2, 1) := dk_5 (dk_at dksX4_mayName_0 1 rfl rfl)
theorem dX4_mayName_2 : decode cX4_mayName 2 = .ok (.if_icmp .ge 5, 3) := dk_162 0 5 (dk_at dksX4_mayName_0 2 rfl rfl)
theorem dX4_mayName_5 : decode cX4_mayName 5 = .ok (.iconst 1, 1) := dk_4 (dk_at dksX4_mayName_0 5 rfl rfl)
theorem dX4_mayName_6 : decode cX4_mayName 6 = .ok (.ireturn, 1) := dk_172 (dk_at dksX4_mayName_0 6 rfl rfl)
theorem dX4_mayName_7 : decode cX4_mayName 7 = .ok (.iload_n 1, 1) := dk_27 (dk_at dksX4_mayName_0 7 rfl rfl)
theorem dX4_mayName_8 : decode cX4_mayName 8 = .ok (.bipush 8, 2) := dk_16 8 (dk_at dksX4_mayName_0 8 rfl rfl)
theorem dX4_mayName_10 : decode cX4_mayName 10 = .ok (.if_icmp .ge 31, 3) := dk_162 0 31 (dk_at dksX4_mayName_0 10 rfl rfl)
theorem dX4_mayName_13 : decode cX4_mayName 13 = .ok (.aload_n 0, 1) := dk_42 (dk_at dksX4_mayName_0 13 rfl rfl)
theorem dX4_mayName_14 : decode cX4_mayName 14 = .ok (.getfield 83, 3) := dk_180 0 83 (dk_at dksX4_mayName_0 14 rfl rfl)
theorem dX4_mayName_17 : decode cX4_mayName 17 = .ok (.sipush 200, 3) := dk_17 0 200 (dk_at dksX4_mayName_0 17 rfl rfl)
theorem dX4_mayName_20 : decode cX4_mayName 20 = .ok (.if_icmp .eq 13, 3) := dk_159 0 13 (dk_at dksX4_mayName_0 20 rfl rfl)
theorem dX4_mayName_23 : decode cX4_mayName 23 = .ok (.aload_n 0, 1) := dk_42 (dk_at dksX4_mayName_0 23 rfl rfl)
theorem dX4_mayName_24 : decode cX4_mayName 24 = .ok (.getfield 83, 3) := dk_180 0 83 (dk_at dksX4_mayName_1 0 rfl rfl)
theorem dX4_mayName_27 : decode cX4_mayName 27 = .ok (.sipush 201, 3) := dk_17 0 201 (dk_at dksX4_mayName_1 3 rfl rfl)
theorem dX4_mayName_30 : decode cX4_mayName 30 = .ok (.if_icmp .ne 7, 3) := dk_160 0 7 (dk_at dksX4_mayName_1 6 rfl rfl)
theorem dX4_mayName_33 : decode cX4_mayName 33 = .ok (.iconst 1, 1) := dk_4 (dk_at dksX4_mayName_1 9 rfl rfl)
theorem dX4_mayName_34 : decode cX4_mayName 34 = .ok (.goto 46, 3) := dk_167 0 46 (dk_at dksX4_mayName_1 10 rfl rfl)
theorem dX4_mayName_37 : decode cX4_mayName 37 = .ok (.iconst 0, 1) := dk_3 (dk_at dksX4_mayName_1 13 rfl rfl)
theorem dX4_mayName_38 : decode cX4_mayName 38 = .ok (.goto 42, 3) := dk_167 0 42 (dk_at dksX4_mayName_1 14 rfl rfl)
theorem dX4_mayName_41 : decode cX4_mayName 41 = .ok (.iload_n 1, 1) := dk_27 (dk_at dksX4_mayName_1 17 rfl rfl)
theorem dX4_mayName_42 : decode cX4_mayName 42 = .ok (.bipush 11, 2) := dk_16 11 (dk_at dksX4_mayName_1 18 rfl rfl)
theorem dX4_mayName_44 : decode cX4_mayName 44 = .ok (.if_icmp .ge 21, 3) := dk_162 0 21 (dk_at dksX4_mayName_1 20 rfl rfl)
theorem dX4_mayName_47 : decode cX4_mayName 47 = .ok (.aload_n 0, 1) := dk_42 (dk_at dksX4_mayName_1 23 rfl rfl)
theorem dX4_mayName_48 : decode cX4_mayName 48 = .ok (.getfield 83, 3) := dk_180 0 83 (dk_at dksX4_mayName_2 0 rfl rfl)
theorem dX4_mayName_51 : decode cX4_mayName 51 = .ok (.sipush 202, 3) := dk_17 0 202 (dk_at dksX4_mayName_2 3 rfl rfl)
theorem dX4_mayName_54 : decode cX4_mayName 54 = .ok (.if_icmp .ne 7, 3) := dk_160 0 7 (dk_at dksX4_mayName_2 6 rfl rfl)
theorem dX4_mayName_57 : decode cX4_mayName 57 = .ok (.iconst 1, 1) := dk_4 (dk_at dksX4_mayName_2 9 rfl rfl)
theorem dX4_mayName_58 : decode cX4_mayName 58 = .ok (.goto 22, 3) := dk_167 0 22 (dk_at dksX4_mayName_2 10 rfl rfl)
theorem dX4_mayName_61 : decode cX4_mayName 61 = .ok (.iconst 0, 1) := dk_3 (dk_at dksX4_mayName_2 13 rfl rfl)
theorem dX4_mayName_62 : decode cX4_mayName 62 = .ok (.goto 18, 3) := dk_167 0 18 (dk_at dksX4_mayName_2 14 rfl rfl)
theorem dX4_mayName_65 : decode cX4_mayName 65 = .ok (.aload_n 0, 1) := dk_42 (dk_at dksX4_mayName_2 17 rfl rfl)
theorem dX4_mayName_66 : decode cX4_mayName 66 = .ok (.getfield 83, 3) := dk_180 0 83 (dk_at dksX4_mayName_2 18 rfl rfl)
theorem dX4_mayName_69 : decode cX4_mayName 69 = .ok (.sipush 203, 3) := dk_17 0 203 (dk_at dksX4_mayName_2 21 rfl rfl)
theorem dX4_mayName_72 : decode cX4_mayName 72 = .ok (.if_icmp .ne 7, 3) := dk_160 0 7 (dk_at dksX4_mayName_3 0 rfl rfl)
theorem dX4_mayName_75 : decode cX4_mayName 75 = .ok (.iconst 1, 1) := dk_4 (dk_at dksX4_mayName_3 3 rfl rfl)
theorem dX4_mayName_76 : decode cX4_mayName 76 = .ok (.goto 4, 3) := dk_167 0 4 (dk_at dksX4_mayName_3 4 rfl rfl)
theorem dX4_mayName_79 : decode cX4_mayName 79 = .ok (.iconst 0, 1) := dk_3 (dk_at dksX4_mayName_3 7 rfl rfl)
theorem dX4_mayName_80 : decode cX4_mayName 80 = .ok (.ireturn, 1) := dk_172 (dk_at dksX4_mayName_3 8 rfl rfl)
def dkwX4_want_0 : List UInt8 := [42, 180, 0, 25, 27, 159, 0, 9, 42, 4, 182, 0, 70, 191, 42, 182, 0, 74, 177]
abbrev dktX4_want_0 : List UInt8 := dkwX4_want_0 ++ []
theorem dksX4_want_0 : cX4_want.data.toList.drop 0 = dktX4_want_0 := by decide +kernel
theorem dX4_want_0 : decode cX4_want 0 = .ok (.aload_n 0, 1) := dk_42 (dk_at dksX4_want_0 0 rfl rfl)
theorem dX4_want_1 : decode cX4_want 1 = .ok (.getfield 25, 3) := dk_180 0 25 (dk_at dksX4_want_0 1 rfl rfl)
theorem dX4_want_4 : decode cX4_want 4 = .ok (.iload_n 1, 1) := dk_27 (dk_at dksX4_want_0 4 rfl rfl)
theorem dX4_want_5 : decode cX4_want 5 = .ok (.if_icmp .eq 9, 3) := dk_159 0 9 (dk_at dksX4_want_0 5 rfl rfl)
theorem dX4_want_8 : decode cX4_want 8 = .ok (.aload_n 0, 1) := dk_42 (dk_at dksX4_want_0 8 rfl rfl)
theorem dX4_want_9 : decode cX4_want 9 = .ok (.iconst 1, 1) := dk_4 (dk_at dksX4_want_0 9 rfl rfl)
theorem dX4_want_10 : decode cX4_want 10 = .ok (.invokevirtual 70, 3) := dk_182 0 70 (dk_at dksX4_want_0 10 rfl rfl)
theorem dX4_want_13 : decode cX4_want 13 = .ok (.athrow, 1) := dk_191 (dk_at dksX4_want_0 13 rfl rfl)
theorem dX4_want_14 : decode cX4_want 14 = .ok (.aload_n 0, 1) := dk_42 (dk_at dksX4_want_0 14 rfl rfl)
theorem dX4_want_15 : decode cX4_want 15 = .ok (.invokevirtual 74, 3) := dk_182 0 74 (dk_at dksX4_want_0 15 rfl rfl)
theorem dX4_want_18 : decode cX4_want 18 = .ok (.return_, 1) := dk_177 (dk_at dksX4_want_0 18 rfl rfl)
def dkwX4_doing_9 : List UInt8 := [180, 0, 83, 1, 1, 42, 4, 16, 99, 182, 0, 133, 27, 183, 0, 151, 176]
abbrev dktX4_doing_9 : List UInt8 := dkwX4_doing_9 ++ []
def dkwX4_doing_8 : List UInt8 := [42, 180, 0, 83, 1, 1, 42, 3, 16, 7, 182, 0, 133, 27, 183, 0, 151, 176, 187, 0, 145, 89, 42]
abbrev dktX4_doing_8 : List UInt8 := dkwX4_doing_8 ++ dktX4_doing_9
def dkwX4_doing_7 : List UInt8 := [17, 0, 215, 4, 16, 99, 182, 0, 147, 27, 183, 0, 151, 176, 42, 27, 182, 0, 157, 176, 187, 0, 145, 89]
abbrev dktX4_doing_7 : List UInt8 := dkwX4_doing_7 ++ dktX4_doing_8
def dkwX4_doing_6 : List UInt8 := [3, 27, 183, 0, 151, 176, 42, 182, 0, 141, 77, 187, 0, 145, 89, 42, 180, 0, 83, 44, 1, 42]
abbrev dktX4_doing_6 : List UInt8 := dkwX4_doing_6 ++ dktX4_doing_7
def dkwX4_doing_5 : List UInt8 := [44, 42, 182, 0, 141, 3, 27, 183, 0, 151, 176, 187, 0, 145, 89, 42, 180, 0, 83, 42, 182, 0, 141, 1]
abbrev dktX4_doing_5 : List UInt8 := dkwX4_doing_5 ++ dktX4_doing_6
def dkwX4_doing_4 : List UInt8 := [183, 0, 151, 176, 42, 182, 0, 141, 77, 42, 17, 0, 214, 182, 0, 107, 187, 0, 145, 89, 42, 180, 0, 83]
abbrev dktX4_doing_4 : List UInt8 := dkwX4_doing_4 ++ dktX4_doing_5
def dkwX4_doing_3 : List UInt8 := [182, 0, 147, 27, 183, 0, 151, 176, 187, 0, 145, 89, 42, 180, 0, 83, 42, 182, 0, 154, 1, 3, 27]
abbrev dktX4_doing_3 : List UInt8 := dkwX4_doing_3 ++ dktX4_doing_4
def dkwX4_doing_2 : List UInt8 := [42, 182, 0, 141, 77, 187, 0, 145, 89, 42, 180, 0, 83, 44, 1, 42, 17, 0, 213, 3, 16, 9]
abbrev dktX4_doing_2 : List UInt8 := dkwX4_doing_2 ++ dktX4_doing_3
def dkwX4_doing_1 : List UInt8 := [170, 0, 0, 0, 0, 0, 0, 205, 0, 0, 0, 204, 0, 0, 0, 211, 0, 0, 0, 48, 0, 0, 0, 78, 0, 0, 0, 97, 0, 0, 0, 128, 0, 0, 0, 128, 0, 0, 0, 147, 0, 0, 0, 177, 0, 0, 0, 183]
abbrev dktX4_doing_1 : List UInt8 := dkwX4_doing_1 ++ dktX4_doing_2
def dkwX4_doing_0 : List UInt8 := [42, 180, 0, 83]
abbrev dktX4_doing_0 : List UInt8 := dkwX4_doing_0 ++ dktX4_doing_1
theorem dksX4_doing_0 : cX4_doing.data.toList.drop 0 = dktX4_doing_0 := by decide +kernel
theorem dksX4_doing_1 : cX4_doing.data.toList.drop 4 = dktX4_doing_1 := dk_seg dksX4_doing_0 4 rfl rfl
theorem dksX4_doing_2 : cX4_doing.data.toList.drop 52 = dktX4_doing_2 := dk_seg dksX4_doing_1 48 rfl rfl
theorem dksX4_doing_3 : cX4_doing.data.toList.drop 74 = dktX4_doing_3 := dk_seg dksX4_doing_2 22 rfl rfl
theorem dksX4_doing_4 : cX4_doing.data.toList.drop 97 = dktX4_doing_4 := dk_seg dksX4_doing_3 23 rfl rfl
theorem dksX4_doing_5 : cX4_doing.data.toList.drop 121 = dktX4_doing_5 := dk_seg dksX4_doing_4 24 rfl rfl
theorem dksX4_doing_6 : cX4_doing.data.toList.drop 145 = dktX4_doing_6 := dk_seg dksX4_doing_5 24 rfl rfl
theorem dksX4_doing_7 : cX4_doing.data.toList.drop 167 = dktX4_doing_7 := dk_seg dksX4_doing_6 22 rfl rfl
theorem dksX4_doing_8 : cX4_doing.data.toList.drop 191 = dktX4_doing_8 := dk_seg dksX4_doing_7 24 rfl rfl
theorem dksX4_doing_9 : cX4_doing.data.toList.drop 214 = dktX4_doing_9 := dk_seg dksX4_doing_8 23 rfl rfl
theorem dX4_doing_0 : decode cX4_doing 0 = .ok (.aload_n 0, 1) := dk_42 (dk_at dksX4_doing_0 0 rfl rfl)
theorem dX4_doing_1 : decode cX4_doing 1 = .ok (.getfield 83, 3) := dk_180 0 83 (dk_at dksX4_doing_0 1 rfl rfl)
theorem dX4_doing_4 : decode cX4_doing 4 = .ok (.tableswitch 205 204 211 #[48, 78, 97, 128, 128, 147, 177, 183], 48) := by decide +kernel
theorem dX4_doing_52 : decode cX4_doing 52 = .ok (.aload_n 0, 1) := dk_42 (dk_at dksX4_doing_2 0 rfl rfl)
theorem dX4_doing_53 : decode cX4_doing 53 = .ok (.invokevirtual 141, 3) := dk_182 0 141 (dk_at dksX4_doing_2 1 rfl rfl)
theorem dX4_doing_56 : decode cX4_doing 56 = .ok (.astore_n 2, 1) := dk_77 (dk_at dksX4_doing_2 4 rfl rfl)
theorem dX4_doing_57 : decode cX4_doing 57 = .ok (.new 145, 3) := dk_187 0 145 (dk_at dksX4_doing_2 5 rfl rfl)
theorem dX4_doing_60 : decode cX4_doing 60 = .ok (.dup, 1) := dk_89 (dk_at dksX4_doing_2 8 rfl rfl)
theorem dX4_doing_61 : decode cX4_doing 61 = .ok (.aload_n 0, 1) := dk_42 (dk_at dksX4_doing_2 9 rfl rfl)
theorem dX4_doing_62 : decode cX4_doing 62 = .ok (.getfield 83, 3) := dk_180 0 83 (dk_at dksX4_doing_2 10 rfl rfl)
theorem dX4_doing_65 : decode cX4_doing 65 = .ok (.aload_n 2, 1) := dk_44 (dk_at dksX4_doing_2 13 rfl rfl)
theorem dX4_doing_66 : decode cX4_doing 66 = .ok (.aconst_null, 1) := dk_1 (dk_at dksX4_doing_2 14 rfl rfl)
theorem dX4_doing_67 : decode cX4_doing 67 = .ok (.aload_n 0, 1) := dk_42 (dk_at dksX4_doing_2 15 rfl rfl)
theorem dX4_doing_68 : decode cX4_doing 68 = .ok (.sipush 213, 3) := dk_17 0 213 (dk_at dksX4_doing_2 16 rfl rfl)
theorem dX4_doing_71 : decode cX4_doing 71 = .ok (.iconst 0, 1) := dk_3 (dk_at dksX4_doing_2 19 rfl rfl)
theorem dX4_doing_72 : decode cX4_doing 72 = .ok (.bipush 9, 2) := dk_16 9 (dk_at dksX4_doing_2 20 rfl rfl)
theorem dX4_doing_74 : decode cX4_doing 74 = .ok (.invokevirtual 147, 3) := dk_182 0 147 (dk_at dksX4_doing_3 0 rfl rfl)
theorem dX4_doing_77 : decode cX4_doing 77 = .ok (.iload_n 1, 1) := dk_27 (dk_at dksX4_doing_3 3 rfl rfl)
theorem dX4_doing_78 : decode cX4_doing 78 = .ok (.invokespecial 151, 3) := dk_183 0 151 (dk_at dksX4_doing_3 4 rfl rfl)
theorem dX4_doing_81 : decode cX4_doing 81 = .ok (.areturn, 1) := dk_176 (dk_at dksX4_doing_3 7 rfl rfl)
theorem dX4_doing_82 : decode cX4_doing 82 = .ok (.new 145, 3) := dk_187 0 145 (dk_at dksX4_doing_3 8 rfl rfl)
theorem dX4_doing_85 : decode cX4_doing 85 = .ok (.dup, 1) := dk_89 (dk_at dksX4_doing_3 11 rfl rfl)
theorem dX4_doing_86 : decode cX4_doing 86 = .ok (.aload_n 0, 1) := dk_42 (dk_at dksX4_doing_3 12 rfl rfl)
theorem dX4_doing_87 : decode cX4_doing 87 = .ok (.getfield 83, 3) := dk_180 0 83 (dk_at dksX4_doing_3 13 rfl rfl)
theorem dX4_doing_90 : decode cX4_doing 90 = .ok (.aload_n 0, 1) := dk_42 (dk_at dksX4_doing_3 16 rfl rfl)
theorem dX4_doing_91 : decode cX4_doing 91 = .ok (.invokevirtual 154, 3) := dk_182 0 154 (dk_at dksX4_doing_3 17 rfl rfl)
theorem dX4_doing_94 : decode cX4_doing 94 = .ok (.aconst_null, 1) := dk_1 (dk_at dksX4_doing_3 20 rfl rfl)
theorem dX4_doing_95 : decode cX4_doing 95 = .ok (.iconst 0, 1) := dk_3 (dk_at dksX4_doing_3 21 rfl rfl)
theorem dX4_doing_96 : decode cX4_doing 96 = .ok (.iload_n 1, 1) := dk_27 (dk_at dksX4_doing_3 22 rfl rfl)
theorem dX4_doing_97 : decode cX4_doing 97 = .ok (.invokespecial 151, 3) := dk_183 0 151 (dk_at dksX4_doing_4 0 rfl rfl)
theorem dX4_doing_100 : decode cX4_doing 100 = .ok (.areturn, 1) := dk_176 (dk_at dksX4_doing_4 3 rfl rfl)
theorem dX4_doing_101 : decode cX4_doing 101 = .ok (.aload_n 0, 1) := dk_42 (dk_at dksX4_doing_4 4 rfl rfl)
theorem dX4_doing_102 : decode cX4_doing 102 = .ok (.invokevirtual 141, 3) := dk_182 0 141 (dk_at dksX4_doing_4 5 rfl rfl)
theorem dX4_doing_105 : decode cX4_doing 105 = .ok (.astore_n 2, 1) := dk_77 (dk_at dksX4_doing_4 8 rfl rfl)
theorem dX4_doing_106 : decode cX4_doing 106 = .ok (.aload_n 0, 1) := dk_42 (dk_at dksX4_doing_4 9 rfl rfl)
theorem dX4_doing_107 : decode cX4_doing 107 = .ok (.sipush 214, 3) := dk_17 0 214 (dk_at dksX4_doing_4 10 rfl rfl)
theorem dX4_doing_110 : decode cX4_doing 110 = .ok (.invokevirtual 107, 3) := dk_182 0 107 (dk_at dksX4_doing_4 13 rfl rfl)
theorem dX4_doing_113 : decode cX4_doing 113 = .ok (.new 145, 3) := dk_187 0 145 (dk_at dksX4_doing_4 16 rfl rfl)
theorem dX4_doing_116 : decode cX4_doing 116 = .ok (.dup, 1) := dk_89 (dk_at dksX4_doing_4 19 rfl rfl)
theorem dX4_doing_117 : decode cX4_doing 117 = .ok (.aload_n 0, 1) := dk_42 (dk_at dksX4_doing_4 20 rfl rfl)
theorem dX4_doing_118 : decode cX4_doing 118 = .ok (.getfield 83, 3) := dk_180 0 83 (dk_at dksX4_doing_4 21 rfl rfl)
theorem dX4_doing_121 : decode cX4_doing 121 = .ok (.aload_n 2, 1) := dk_44 (dk_at dksX4_doing_5 0 rfl rfl)
theorem dX4_doing_122 : decode cX4_doing 122 = .ok (.aload_n 0, 1) := dk_42 (dk_at dksX4_doing_5 1 rfl rfl)
theorem dX4_doing_123 : decode cX4_doing 123 = .ok (.invokevirtual 141, 3) := dk_182 0 141 (dk_at dksX4_doing_5 2 rfl rfl)
theorem dX4_doing_126 : decode cX4_doing 126 = .ok (.iconst 0, 1) := dk_3 (dk_at dksX4_doing_5 5 rfl rfl)
theorem dX4_doing_127 : decode cX4_doing 127 = .ok (.iload_n 1, 1) := dk_27 (dk_at dksX4_doing_5 6 rfl rfl)
theorem dX4_doing_128 : decode cX4_doing 128 = .ok (.invokespecial 151, 3) := dk_183 0 151 (dk_at dksX4_doing_5 7 rfl rfl)
theorem dX4_doing_131 : decode cX4_doing 131 = .ok (.areturn, 1) := dk_176 (dk_at dksX4_doing_5 10 rfl rfl)
theorem dX4_doing_132 : decode cX4_doing 132 = .ok (.new 145, 3) := dk_187 0 145 (dk_at dksX4_doing_5 11 rfl rfl)
theorem dX4_doing_135 : decode cX4_doing 135 = .ok (.dup, 1) := dk_89 (dk_at dksX4_doing_5 14 rfl rfl)
theorem dX4_doing_136 : decode cX4_doing 136 = .ok (.aload_n 0, 1) := dk_42 (dk_at dksX4_doing_5 15 rfl rfl)
theorem dX4_doing_137 : decode cX4_doing 137 = .ok (.getfield 83, 3) := dk_180 0 83 (dk_at dksX4_doing_5 16 rfl rfl)
theorem dX4_doing_140 : decode cX4_doing 140 = .ok (.aload_n 0, 1) := dk_42 (dk_at dksX4_doing_5 19 rfl rfl)
theorem dX4_doing_141 : decode cX4_doing 141 = .ok (.invokevirtual 141, 3) := dk_182 0 141 (dk_at dksX4_doing_5 20 rfl rfl)
theorem dX4_doing_144 : decode cX4_doing 144 = .ok (.aconst_null, 1) := dk_1 (dk_at dksX4_doing_5 23 rfl rfl)
theorem dX4_doing_145 : decode cX4_doing 145 = .ok (.iconst 0, 1) := dk_3 (dk_at dksX4_doing_6 0 rfl rfl)
theorem dX4_doing_146 : decode cX4_doing 146 = .ok (.iload_n 1, 1) := dk_27 (dk_at dksX4_doing_6 1 rfl rfl)
theorem dX4_doing_147 : decode cX4_doing 147 = .ok (.invokespecial 151, 3) := dk_183 0 151 (dk_at dksX4_doing_6 2 rfl rfl)
theorem dX4_doing_150 : decode cX4_doing 150 = .ok (.areturn, 1) := dk_176 (dk_at dksX4_doing_6 5 rfl rfl)
theorem dX4_doing_151 : decode cX4_doing 151 = .ok (.aload_n 0, 1) := dk_42 (dk_at dksX4_doing_6 6 rfl rfl)
theorem dX4_doing_152 : decode cX4_doing 152 = .ok (.invokevirtual 141, 3) := dk_182 0 141 (dk_at dksX4_doing_6 7 rfl rfl)
theorem dX4_doing_155 : decode cX4_doing 155 = .ok (.astore_n 2, 1) := dk_77 (dk_at dksX4_doing_6 10 rfl rfl)
theorem dX4_doing_156 : decode cX4_doing 156 = .ok (.new 145, 3) := dk_187 0 145 (dk_at dksX4_doing_6 11 rfl rfl)
theorem dX4_doing_159 : decode cX4_doing 159 = .ok (.dup, 1) := dk_89 (dk_at dksX4_doing_6 14 rfl rfl)
theorem dX4_doing_160 : decode cX4_doing 160 = .ok (.aload_n 0, 1) := dk_42 (dk_at dksX4_doing_6 15 rfl rfl)
theorem dX4_doing_161 : decode cX4_doing 161 = .ok (.getfield 83, 3) := dk_180 0 83 (dk_at dksX4_doing_6 16 rfl rfl)
theorem dX4_doing_164 : decode cX4_doing 164 = .ok (.aload_n 2, 1) := dk_44 (dk_at dksX4_doing_6 19 rfl rfl)
theorem dX4_doing_165 : decode cX4_doing 165 = .ok (.aconst_null, 1) := dk_1 (dk_at dksX4_doing_6 20 rfl rfl)
theorem dX4_doing_166 : decode cX4_doing 166 = .ok (.aload_n 0, 1) := dk_42 (dk_at dksX4_doing_6 21 rfl rfl)
theorem dX4_doing_167 : decode cX4_doing 167 = .ok (.sipush 215, 3) := dk_17 0 215 (dk_at dksX4_doing_7 0 rfl rfl)
theorem dX4_doing_170 : decode cX4_doing 170 = .ok (.iconst 1, 1) := dk_4 (dk_at dksX4_doing_7 3 rfl rfl)
theorem dX4_doing_171 : decode cX4_doing 171 = .ok (.bipush 99, 2) := dk_16 99 (dk_at dksX4_doing_7 4 rfl rfl)
theorem dX4_doing_173 : decode cX4_doing 173 = .ok (.invokevirtual 147, 3) := dk_182 0 147 (dk_at dksX4_doing_7 6 rfl rfl)
theorem dX4_doing_176 : decode cX4_doing 176 = .ok (.iload_n 1, 1) := dk_27 (dk_at dksX4_doing_7 9 rfl rfl)
theorem dX4_doing_177 : decode cX4_doing 177 = .ok (.invokespecial 151, 3) := dk_183 0 151 (dk_at dksX4_doing_7 10 rfl rfl)
theorem dX4_doing_180 : decode cX4_doing 180 = .ok (.areturn, 1) := dk_176 (dk_at dksX4_doing_7 13 rfl rfl)
theorem dX4_doing_181 : decode cX4_doing 181 = .ok (.aload_n 0, 1) := dk_42 (dk_at dksX4_doing_7 14 rfl rfl)
theorem dX4_doing_182 : decode cX4_doing 182 = .ok (.iload_n 1, 1) := dk_27 (dk_at dksX4_doing_7 15 rfl rfl)
theorem dX4_doing_183 : decode cX4_doing 183 = .ok (.invokevirtual 157, 3) := dk_182 0 157 (dk_at dksX4_doing_7 16 rfl rfl)
theorem dX4_doing_186 : decode cX4_doing 186 = .ok (.areturn, 1) := dk_176 (dk_at dksX4_doing_7 19 rfl rfl)
theorem dX4_doing_187 : decode cX4_doing 187 = .ok (.new 145, 3) := dk_187 0 145 (dk_at dksX4_doing_7 20 rfl rfl)
theorem dX4_doing_190 : decode cX4_doing 190 = .ok (.dup, 1) := dk_89 (dk_at dksX4_doing_7 23 rfl rfl)
theorem dX4_doing_191 : decode cX4_doing 191 = .ok (.aload_n 0, 1) := dk_42 (dk_at dksX4_doing_8 0 rfl rfl)
theorem dX4_doing_192 : decode cX4_doing 192 = .ok (.getfield 83, 3) := dk_180 0 83 (dk_at dksX4_doing_8 1 rfl rfl)
theorem dX4_doing_195 : decode cX4_doing 195 = .ok (.aconst_null, 1) := dk_1 (dk_at dksX4_doing_8 4 rfl rfl)
theorem dX4_doing_196 : decode cX4_doing 196 = .ok (.aconst_null, 1) := dk_1 (dk_at dksX4_doing_8 5 rfl rfl)
theorem dX4_doing_197 : decode cX4_doing 197 = .ok (.aload_n 0, 1) := dk_42 (dk_at dksX4_doing_8 6 rfl rfl)
theorem dX4_doing_198 : decode cX4_doing 198 = .ok (.iconst 0, 1) := dk_3 (dk_at dksX4_doing_8 7 rfl rfl)
theorem dX4_doing_199 : decode cX4_doing 199 = .ok (.bipush 7, 2) := dk_16 7 (dk_at dksX4_doing_8 8 rfl rfl)
theorem dX4_doing_201 : decode cX4_doing 201 = .ok (.invokevirtual 133, 3) := dk_182 0 133 (dk_at dksX4_doing_8 10 rfl rfl)
theorem dX4_doing_204 : decode cX4_doing 204 = .ok (.iload_n 1, 1) := dk_27 (dk_at dksX4_doing_8 13 rfl rfl)
theorem dX4_doing_205 : decode cX4_doing 205 = .ok (.invokespecial 151, 3) := dk_183 0 151 (dk_at dksX4_doing_8 14 rfl rfl)
theorem dX4_doing_208 : decode cX4_doing 208 = .ok (.areturn, 1) := dk_176 (dk_at dksX4_doing_8 17 rfl rfl)
theorem dX4_doing_209 : decode cX4_doing 209 = .ok (.new 145, 3) := dk_187 0 145 (dk_at dksX4_doing_8 18 rfl rfl)
theorem dX4_doing_212 : decode cX4_doing 212 = .ok (.dup, 1) := dk_89 (dk_at dksX4_doing_8 21 rfl rfl)
theorem dX4_doing_213 : decode cX4_doing 213 = .ok (.aload_n 0, 1) := dk_42 (dk_at dksX4_doing_8 22 rfl rfl)
theorem dX4_doing_214 : decode cX4_doing 214 = .ok (.getfield 83, 3) := dk_180 0 83 (dk_at dksX4_doing_9 0 rfl rfl)
theorem dX4_doing_217 : decode cX4_doing 217 = .ok (.aconst_null, 1) := dk_1 (dk_at dksX4_doing_9 3 rfl rfl)
theorem dX4_doing_218 : decode cX4_doing 218 = .ok (.aconst_null, 1) := dk_1 (dk_at dksX4_doing_9 4 rfl rfl)
theorem dX4_doing_219 : decode cX4_doing 219 = .ok (.aload_n 0, 1) := dk_42 (dk_at dksX4_doing_9 5 rfl rfl)
theorem dX4_doing_220 : decode cX4_doing 220 = .ok (.iconst 1, 1) := dk_4 (dk_at dksX4_doing_9 6 rfl rfl)
theorem dX4_doing_221 : decode cX4_doing 221 = .ok (.bipush 99, 2) := dk_16 99 (dk_at dksX4_doing_9 7 rfl rfl)
theorem dX4_doing_223 : decode cX4_doing 223 = .ok (.invokevirtual 133, 3) := dk_182 0 133 (dk_at dksX4_doing_9 9 rfl rfl)
theorem dX4_doing_226 : decode cX4_doing 226 = .ok (.iload_n 1, 1) := dk_27 (dk_at dksX4_doing_9 12 rfl rfl)
theorem dX4_doing_227 : decode cX4_doing 227 = .ok (.invokespecial 151, 3) := dk_183 0 151 (dk_at dksX4_doing_9 13 rfl rfl)
theorem dX4_doing_230 : decode cX4_doing 230 = .ok (.areturn, 1) := dk_176 (dk_at dksX4_doing_9 16 rfl rfl)
def dkwX4_letters_5 : List UInt8 := [182, 0, 74, 44, 176]
abbrev dktX4_letters_5 : List UInt8 := dkwX4_letters_5 ++ []
def dkwX4_letters_4 : List UInt8 := [162, 0, 23, 44, 29, 42, 180, 0, 9, 42, 180, 0, 22, 29, 96, 51, 79, 132, 3, 1, 167, 255, 234, 42]
abbrev dktX4_letters_4 : List UInt8 := dkwX4_letters_4 ++ dktX4_letters_5
def dkwX4_letters_3 : List UInt8 := [162, 0, 10, 42, 16, 7, 182, 0, 70, 191, 132, 2, 1, 167, 255, 221, 27, 188, 10, 77, 3, 62, 29, 27]
abbrev dktX4_letters_3 : List UInt8 := dkwX4_letters_3 ++ dktX4_letters_4
def dkwX4_letters_2 : List UInt8 := [28, 42, 180, 0, 19, 162, 0, 33, 27, 16, 8, 163, 0, 14, 42, 180, 0, 9, 28, 51, 16, 97]
abbrev dktX4_letters_2 : List UInt8 := dkwX4_letters_2 ++ dktX4_letters_3
def dkwX4_letters_1 : List UInt8 := [154, 0, 9, 42, 4, 182, 0, 70, 191, 42, 180, 0, 19, 42, 180, 0, 22, 100, 60, 42, 180, 0, 22, 61]
abbrev dktX4_letters_1 : List UInt8 := dkwX4_letters_1 ++ dktX4_letters_2
def dkwX4_letters_0 : List UInt8 := [42, 180, 0, 22, 42, 180, 0, 15, 159, 0, 18, 42, 180, 0, 9, 42, 180, 0, 22, 51, 184, 0, 28]
abbrev dktX4_letters_0 : List UInt8 := dkwX4_letters_0 ++ dktX4_letters_1
theorem dksX4_letters_0 : cX4_letters.data.toList.drop 0 = dktX4_letters_0 := by decide +kernel
theorem dksX4_letters_1 : cX4_letters.data.toList.drop 23 = dktX4_letters_1 := dk_seg dksX4_letters_0 23 rfl rfl
theorem dksX4_letters_2 : cX4_letters.data.toList.drop 47 = dktX4_letters_2 := dk_seg dksX4_letters_1 24 rfl rfl
theorem dksX4_letters_3 : cX4_letters.data.toList.drop 69 = dktX4_letters_3 := dk_seg dksX4_letters_2 22 rfl rfl
theorem dksX4_letters_4 : cX4_letters.data.toList.drop 93 = dktX4_letters_4 := dk_seg dksX4_letters_3 24 rfl rfl
theorem dksX4_letters_5 : cX4_letters.data.toList.drop 117 = dktX4_letters_5 := dk_seg dksX4_letters_4 24 rfl rfl
theorem dX4_letters_0 : decode cX4_letters 0 = .ok (.aload_n 0, 1) := dk_42 (dk_at dksX4_letters_0 0 rfl rfl)
theorem dX4_letters_1 : decode cX4_letters 1 = .ok (.getfield 22, 3) := dk_180 0 22 (dk_at dksX4_letters_0 1 rfl rfl)
theorem dX4_letters_4 : decode cX4_letters 4 = .ok (.aload_n 0, 1) := dk_42 (dk_at dksX4_letters_0 4 rfl rfl)
theorem dX4_letters_5 : decode cX4_letters 5 = .ok (.getfield 15, 3) := dk_180 0 15 (dk_at dksX4_letters_0 5 rfl rfl)
theorem dX4_letters_8 : decode cX4_letters 8 = .ok (.if_icmp .eq 18, 3) := dk_159 0 18 (dk_at dksX4_letters_0 8 rfl rfl)
theorem dX4_letters_11 : decode cX4_letters 11 = .ok (.aload_n 0, 1) := dk_42 (dk_at dksX4_letters_0 11 rfl rfl)
theorem dX4_letters_12 : decode cX4_letters 12 = .ok (.getfield 9, 3) := dk_180 0 9 (dk_at dksX4_letters_0 12 rfl rfl)
theorem dX4_letters_15 : decode cX4_letters 15 = .ok (.aload_n 0, 1) := dk_42 (dk_at dksX4_letters_0 15 rfl rfl)
theorem dX4_letters_16 : decode cX4_letters 16 = .ok (.getfield 22, 3) := dk_180 0 22 (dk_at dksX4_letters_0 16 rfl rfl)
theorem dX4_letters_19 : decode cX4_letters 19 = .ok (.baload, 1) := dk_51 (dk_at dksX4_letters_0 19 rfl rfl)
theorem dX4_letters_20 : decode cX4_letters 20 = .ok (.invokestatic 28, 3) := dk_184 0 28 (dk_at dksX4_letters_0 20 rfl rfl)
theorem dX4_letters_23 : decode cX4_letters 23 = .ok (.ifCond .ne 9, 3) := dk_154 0 9 (dk_at dksX4_letters_1 0 rfl rfl)
theorem dX4_letters_26 : decode cX4_letters 26 = .ok (.aload_n 0, 1) := dk_42 (dk_at dksX4_letters_1 3 rfl rfl)
theorem dX4_letters_27 : decode cX4_letters 27 = .ok (.iconst 1, 1) := dk_4 (dk_at dksX4_letters_1 4 rfl rfl)
theorem dX4_letters_28 : decode cX4_letters 28 = .ok (.invokevirtual 70, 3) := dk_182 0 70 (dk_at dksX4_letters_1 5 rfl rfl)
theorem dX4_letters_31 : decode cX4_letters 31 = .ok (.athrow, 1) := dk_191 (dk_at dksX4_letters_1 8 rfl rfl)
theorem dX4_letters_32 : decode cX4_letters 32 = .ok (.aload_n 0, 1) := dk_42 (dk_at dksX4_letters_1 9 rfl rfl)
theorem dX4_letters_33 : decode cX4_letters 33 = .ok (.getfield 19, 3) := dk_180 0 19 (dk_at dksX4_letters_1 10 rfl rfl)
theorem dX4_letters_36 : decode cX4_letters 36 = .ok (.aload_n 0, 1) := dk_42 (dk_at dksX4_letters_1 13 rfl rfl)
theorem dX4_letters_37 : decode cX4_letters 37 = .ok (.getfield 22, 3) := dk_180 0 22 (dk_at dksX4_letters_1 14 rfl rfl)
theorem dX4_letters_40 : decode cX4_letters 40 = .ok (.isub, 1) := dk_100 (dk_at dksX4_letters_1 17 rfl rfl)
theorem dX4_letters_41 : decode cX4_letters 41 = .ok (.istore_n 1, 1) := dk_60 (dk_at dksX4_letters_1 18 rfl rfl)
theorem dX4_letters_42 : decode cX4_letters 42 = .ok (.aload_n 0, 1) := dk_42 (dk_at dksX4_letters_1 19 rfl rfl)
theorem dX4_letters_43 : decode cX4_letters 43 = .ok (.getfield 22, 3) := dk_180 0 22 (dk_at dksX4_letters_1 20 rfl rfl)
theorem dX4_letters_46 : decode cX4_letters 46 = .ok (.istore_n 2, 1) := dk_61 (dk_at dksX4_letters_1 23 rfl rfl)
theorem dX4_letters_47 : decode cX4_letters 47 = .ok (.iload_n 2, 1) := dk_28 (dk_at dksX4_letters_2 0 rfl rfl)
theorem dX4_letters_48 : decode cX4_letters 48 = .ok (.aload_n 0, 1) := dk_42 (dk_at dksX4_letters_2 1 rfl rfl)
theorem dX4_letters_49 : decode cX4_letters 49 = .ok (.getfield 19, 3) := dk_180 0 19 (dk_at dksX4_letters_2 2 rfl rfl)
theorem dX4_letters_52 : decode cX4_letters 52 = .ok (.if_icmp .ge 33, 3) := dk_162 0 33 (dk_at dksX4_letters_2 5 rfl rfl)
theorem dX4_letters_55 : decode cX4_letters 55 = .ok (.iload_n 1, 1) := dk_27 (dk_at dksX4_letters_2 8 rfl rfl)
theorem dX4_letters_56 : decode cX4_letters 56 = .ok (.bipush 8, 2) := dk_16 8 (dk_at dksX4_letters_2 9 rfl rfl)
theorem dX4_letters_58 : decode cX4_letters 58 = .ok (.if_icmp .gt 14, 3) := dk_163 0 14 (dk_at dksX4_letters_2 11 rfl rfl)
theorem dX4_letters_61 : decode cX4_letters 61 = .ok (.aload_n 0, 1) := dk_42 (dk_at dksX4_letters_2 14 rfl rfl)
theorem dX4_letters_62 : decode cX4_letters 62 = .ok (.getfield 9, 3) := dk_180 0 9 (dk_at dksX4_letters_2 15 rfl rfl)
theorem dX4_letters_65 : decode cX4_letters 65 = .ok (.iload_n 2, 1) := dk_28 (dk_at dksX4_letters_2 18 rfl rfl)
theorem dX4_letters_66 : decode cX4_letters 66 = .ok (.baload, 1) := dk_51 (dk_at dksX4_letters_2 19 rfl rfl)
theorem dX4_letters_67 : decode cX4_letters 67 = .ok (.bipush 97, 2) := dk_16 97 (dk_at dksX4_letters_2 20 rfl rfl)
theorem dX4_letters_69 : decode cX4_letters 69 = .ok (.if_icmp .ge 10, 3) := dk_162 0 10 (dk_at dksX4_letters_3 0 rfl rfl)
theorem dX4_letters_72 : decode cX4_letters 72 = .ok (.aload_n 0, 1) := dk_42 (dk_at dksX4_letters_3 3 rfl rfl)
theorem dX4_letters_73 : decode cX4_letters 73 = .ok (.bipush 7, 2) := dk_16 7 (dk_at dksX4_letters_3 4 rfl rfl)
theorem dX4_letters_75 : decode cX4_letters 75 = .ok (.invokevirtual 70, 3) := dk_182 0 70 (dk_at dksX4_letters_3 6 rfl rfl)
theorem dX4_letters_78 : decode cX4_letters 78 = .ok (.athrow, 1) := dk_191 (dk_at dksX4_letters_3 9 rfl rfl)
theorem dX4_letters_79 : decode cX4_letters 79 = .ok (.iinc 2 1, 3) := dk_132 2 1 (dk_at dksX4_letters_3 10 rfl rfl)
theorem dX4_letters_82 : decode cX4_letters 82 = .ok (.goto (-35), 3) := dk_167 255 221 (dk_at dksX4_letters_3 13 rfl rfl)
theorem dX4_letters_85 : decode cX4_letters 85 = .ok (.iload_n 1, 1) := dk_27 (dk_at dksX4_letters_3 16 rfl rfl)
theorem dX4_letters_86 : decode cX4_letters 86 = .ok (.newarray .int, 2) := dk_188_10 (dk_at dksX4_letters_3 17 rfl rfl)
theorem dX4_letters_88 : decode cX4_letters 88 = .ok (.astore_n 2, 1) := dk_77 (dk_at dksX4_letters_3 19 rfl rfl)
theorem dX4_letters_89 : decode cX4_letters 89 = .ok (.iconst 0, 1) := dk_3 (dk_at dksX4_letters_3 20 rfl rfl)
theorem dX4_letters_90 : decode cX4_letters 90 = .ok (.istore_n 3, 1) := dk_62 (dk_at dksX4_letters_3 21 rfl rfl)
theorem dX4_letters_91 : decode cX4_letters 91 = .ok (.iload_n 3, 1) := dk_29 (dk_at dksX4_letters_3 22 rfl rfl)
theorem dX4_letters_92 : decode cX4_letters 92 = .ok (.iload_n 1, 1) := dk_27 (dk_at dksX4_letters_3 23 rfl rfl)
theorem dX4_letters_93 : decode cX4_letters 93 = .ok (.if_icmp .ge 23, 3) := dk_162 0 23 (dk_at dksX4_letters_4 0 rfl rfl)
theorem dX4_letters_96 : decode cX4_letters 96 = .ok (.aload_n 2, 1) := dk_44 (dk_at dksX4_letters_4 3 rfl rfl)
theorem dX4_letters_97 : decode cX4_letters 97 = .ok (.iload_n 3, 1) := dk_29 (dk_at dksX4_letters_4 4 rfl rfl)
theorem dX4_letters_98 : decode cX4_letters 98 = .ok (.aload_n 0, 1) := dk_42 (dk_at dksX4_letters_4 5 rfl rfl)
theorem dX4_letters_99 : decode cX4_letters 99 = .ok (.getfield 9, 3) := dk_180 0 9 (dk_at dksX4_letters_4 6 rfl rfl)
theorem dX4_letters_102 : decode cX4_letters 102 = .ok (.aload_n 0, 1) := dk_42 (dk_at dksX4_letters_4 9 rfl rfl)
theorem dX4_letters_103 : decode cX4_letters 103 = .ok (.getfield 22, 3) := dk_180 0 22 (dk_at dksX4_letters_4 10 rfl rfl)
theorem dX4_letters_106 : decode cX4_letters 106 = .ok (.iload_n 3, 1) := dk_29 (dk_at dksX4_letters_4 13 rfl rfl)
theorem dX4_letters_107 : decode cX4_letters 107 = .ok (.iadd, 1) := dk_96 (dk_at dksX4_letters_4 14 rfl rfl)
theorem dX4_letters_108 : decode cX4_letters 108 = .ok (.baload, 1) := dk_51 (dk_at dksX4_letters_4 15 rfl rfl)
theorem dX4_letters_109 : decode cX4_letters 109 = .ok (.iastore, 1) := dk_79 (dk_at dksX4_letters_4 16 rfl rfl)
theorem dX4_letters_110 : decode cX4_letters 110 = .ok (.iinc 3 1, 3) := dk_132 3 1 (dk_at dksX4_letters_4 17 rfl rfl)
theorem dX4_letters_113 : decode cX4_letters 113 = .ok (.goto (-22), 3) := dk_167 255 234 (dk_at dksX4_letters_4 20 rfl rfl)
theorem dX4_letters_116 : decode cX4_letters 116 = .ok (.aload_n 0, 1) := dk_42 (dk_at dksX4_letters_4 23 rfl rfl)
theorem dX4_letters_117 : decode cX4_letters 117 = .ok (.invokevirtual 74, 3) := dk_182 0 74 (dk_at dksX4_letters_5 0 rfl rfl)
theorem dX4_letters_120 : decode cX4_letters 120 = .ok (.aload_n 2, 1) := dk_44 (dk_at dksX4_letters_5 3 rfl rfl)
theorem dX4_letters_121 : decode cX4_letters 121 = .ok (.areturn, 1) := dk_176 (dk_at dksX4_letters_5 4 rfl rfl)
def dkwX4_behind_0 : List UInt8 := [42, 27, 182, 0, 107, 42, 28, 29, 182, 0, 133, 172]
abbrev dktX4_behind_0 : List UInt8 := dkwX4_behind_0 ++ []
theorem dksX4_behind_0 : cX4_behind.data.toList.drop 0 = dktX4_behind_0 := by decide +kernel
theorem dX4_behind_0 : decode cX4_behind 0 = .ok (.aload_n 0, 1) := dk_42 (dk_at dksX4_behind_0 0 rfl rfl)
theorem dX4_behind_1 : decode cX4_behind 1 = .ok (.iload_n 1, 1) := dk_27 (dk_at dksX4_behind_0 1 rfl rfl)
theorem dX4_behind_2 : decode cX4_behind 2 = .ok (.invokevirtual 107, 3) := dk_182 0 107 (dk_at dksX4_behind_0 2 rfl rfl)
theorem dX4_behind_5 : decode cX4_behind 5 = .ok (.aload_n 0, 1) := dk_42 (dk_at dksX4_behind_0 5 rfl rfl)
theorem dX4_behind_6 : decode cX4_behind 6 = .ok (.iload_n 2, 1) := dk_28 (dk_at dksX4_behind_0 6 rfl rfl)
theorem dX4_behind_7 : decode cX4_behind 7 = .ok (.iload_n 3, 1) := dk_29 (dk_at dksX4_behind_0 7 rfl rfl)
theorem dX4_behind_8 : decode cX4_behind 8 = .ok (.invokevirtual 133, 3) := dk_182 0 133 (dk_at dksX4_behind_0 8 rfl rfl)
theorem dX4_behind_11 : decode cX4_behind 11 = .ok (.ireturn, 1) := dk_172 (dk_at dksX4_behind_0 11 rfl rfl)
def dkwX4_senses_3 : List UInt8 := [4, 167, 0, 4, 3, 62, 29, 153, 0, 7, 42, 182, 0, 74, 167, 255, 180, 43, 28, 184, 0, 135, 176]
abbrev dktX4_senses_3 : List UInt8 := dkwX4_senses_3 ++ []
def dkwX4_senses_2 : List UInt8 := [16, 9, 182, 0, 133, 54, 4, 43, 28, 21, 4, 79, 132, 2, 1, 42, 180, 0, 25, 16, 44, 160, 0, 7]
abbrev dktX4_senses_2 : List UInt8 := dkwX4_senses_2 ++ dktX4_senses_3
def dkwX4_senses_1 : List UInt8 := [17, 1, 44, 160, 0, 19, 42, 180, 0, 43, 16, 10, 162, 0, 10, 42, 16, 8, 182, 0, 70, 191, 42, 3]
abbrev dktX4_senses_1 : List UInt8 := dkwX4_senses_1 ++ dktX4_senses_2
def dkwX4_senses_0 : List UInt8 := [16, 8, 188, 10, 76, 3, 61, 4, 62, 29, 153, 0, 78, 28, 16, 8, 160, 0, 29, 42, 180, 0, 25]
abbrev dktX4_senses_0 : List UInt8 := dkwX4_senses_0 ++ dktX4_senses_1
theorem dksX4_senses_0 : cX4_senses.data.toList.drop 0 = dktX4_senses_0 := by decide +kernel
theorem dksX4_senses_1 : cX4_senses.data.toList.drop 23 = dktX4_senses_1 := dk_seg dksX4_senses_0 23 rfl rfl
theorem dksX4_senses_2 : cX4_senses.data.toList.drop 47 = dktX4_senses_2 := dk_seg dksX4_senses_1 24 rfl rfl
theorem dksX4_senses_3 : cX4_senses.data.toList.drop 71 = dktX4_senses_3 := dk_seg dksX4_senses_2 24 rfl rfl
theorem dX4_senses_0 : decode cX4_senses 0 = .ok (.bipush 8, 2) := dk_16 8 (dk_at dksX4_senses_0 0 rfl rfl)
theorem dX4_senses_2 : decode cX4_senses 2 = .ok (.newarray .int, 2) := dk_188_10 (dk_at dksX4_senses_0 2 rfl rfl)
theorem dX4_senses_4 : decode cX4_senses 4 = .ok (.astore_n 1, 1) := dk_76 (dk_at dksX4_senses_0 4 rfl rfl)
theorem dX4_senses_5 : decode cX4_senses 5 = .ok (.iconst 0, 1) := dk_3 (dk_at dksX4_senses_0 5 rfl rfl)
theorem dX4_senses_6 : decode cX4_senses 6 = .ok (.istore_n 2, 1) := dk_61 (dk_at dksX4_senses_0 6 rfl rfl)
theorem dX4_senses_7 : decode cX4_senses 7 = .ok (.iconst 1, 1) := dk_4 (dk_at dksX4_senses_0 7 rfl rfl)
theorem dX4_senses_8 : decode cX4_senses 8 = .ok (.istore_n 3, 1) := dk_62 (dk_at dksX4_senses_0 8 rfl rfl)
theorem dX4_senses_9 : decode cX4_senses 9 = .ok (.iload_n 3, 1) := dk_29 (dk_at dksX4_senses_0 9 rfl rfl)
theorem dX4_senses_10 : decode cX4_senses 10 = .ok (.ifCond .eq 78, 3) := dk_153 0 78 (dk_at dksX4_senses_0 10 rfl rfl)
theorem dX4_senses_13 : decode cX4_senses 13 = .ok (.iload_n 2, 1) := dk_28 (dk_at dksX4_senses_0 13 rfl rfl)
theorem dX4_senses_14 : decode cX4_senses 14 = .ok (.bipush 8, 2) := dk_16 8 (dk_at dksX4_senses_0 14 rfl rfl)
theorem dX4_senses_16 : decode cX4_senses 16 = .ok (.if_icmp .ne 29, 3) := dk_160 0 29 (dk_at dksX4_senses_0 16 rfl rfl)
theorem dX4_senses_19 : decode cX4_senses 19 = .ok (.aload_n 0, 1) := dk_42 (dk_at dksX4_senses_0 19 rfl rfl)
theorem dX4_senses_20 : decode cX4_senses 20 = .ok (.getfield 25, 3) := dk_180 0 25 (dk_at dksX4_senses_0 20 rfl rfl)
theorem dX4_senses_23 : decode cX4_senses 23 = .ok (.sipush 300, 3) := dk_17 1 44 (dk_at dksX4_senses_1 0 rfl rfl)
theorem dX4_senses_26 : decode cX4_senses 26 = .ok (.if_icmp .ne 19, 3) := dk_160 0 19 (dk_at dksX4_senses_1 3 rfl rfl)
theorem dX4_senses_29 : decode cX4_senses 29 = .ok (.aload_n 0, 1) := dk_42 (dk_at dksX4_senses_1 6 rfl rfl)
theorem dX4_senses_30 : decode cX4_senses 30 = .ok (.getfield 43, 3) := dk_180 0 43 (dk_at dksX4_senses_1 7 rfl rfl)
theorem dX4_senses_33 : decode cX4_senses 33 = .ok (.bipush 10, 2) := dk_16 10 (dk_at dksX4_senses_1 10 rfl rfl)
theorem dX4_senses_35 : decode cX4_senses 35 = .ok (.if_icmp .ge 10, 3) := dk_162 0 10 (dk_at dksX4_senses_1 12 rfl rfl)
theorem dX4_senses_38 : decode cX4_senses 38 = .ok (.aload_n 0, 1) := dk_42 (dk_at dksX4_senses_1 15 rfl rfl)
theorem dX4_senses_39 : decode cX4_senses 39 = .ok (.bipush 8, 2) := dk_16 8 (dk_at dksX4_senses_1 16 rfl rfl)
theorem dX4_senses_41 : decode cX4_senses 41 = .ok (.invokevirtual 70, 3) := dk_182 0 70 (dk_at dksX4_senses_1 18 rfl rfl)
theorem dX4_senses_44 : decode cX4_senses 44 = .ok (.athrow, 1) := dk_191 (dk_at dksX4_senses_1 21 rfl rfl)
theorem dX4_senses_45 : decode cX4_senses 45 = .ok (.aload_n 0, 1) := dk_42 (dk_at dksX4_senses_1 22 rfl rfl)
theorem dX4_senses_46 : decode cX4_senses 46 = .ok (.iconst 0, 1) := dk_3 (dk_at dksX4_senses_1 23 rfl rfl)
theorem dX4_senses_47 : decode cX4_senses 47 = .ok (.bipush 9, 2) := dk_16 9 (dk_at dksX4_senses_2 0 rfl rfl)
theorem dX4_senses_49 : decode cX4_senses 49 = .ok (.invokevirtual 133, 3) := dk_182 0 133 (dk_at dksX4_senses_2 2 rfl rfl)
theorem dX4_senses_52 : decode cX4_senses 52 = .ok (.istore 4, 2) := dk_54 4 (dk_at dksX4_senses_2 5 rfl rfl)
theorem dX4_senses_54 : decode cX4_senses 54 = .ok (.aload_n 1, 1) := dk_43 (dk_at dksX4_senses_2 7 rfl rfl)
theorem dX4_senses_55 : decode cX4_senses 55 = .ok (.iload_n 2, 1) := dk_28 (dk_at dksX4_senses_2 8 rfl rfl)
theorem dX4_senses_56 : decode cX4_senses 56 = .ok (.iload 4, 2) := dk_21 4 (dk_at dksX4_senses_2 9 rfl rfl)
theorem dX4_senses_58 : decode cX4_senses 58 = .ok (.iastore, 1) := dk_79 (dk_at dksX4_senses_2 11 rfl rfl)
theorem dX4_senses_59 : decode cX4_senses 59 = .ok (.iinc 2 1, 3) := dk_132 2 1 (dk_at dksX4_senses_2 12 rfl rfl)
theorem dX4_senses_62 : decode cX4_senses 62 = .ok (.aload_n 0, 1) := dk_42 (dk_at dksX4_senses_2 15 rfl rfl)
theorem dX4_senses_63 : decode cX4_senses 63 = .ok (.getfield 25, 3) := dk_180 0 25 (dk_at dksX4_senses_2 16 rfl rfl)
theorem dX4_senses_66 : decode cX4_senses 66 = .ok (.bipush 44, 2) := dk_16 44 (dk_at dksX4_senses_2 19 rfl rfl)
theorem dX4_senses_68 : decode cX4_senses 68 = .ok (.if_icmp .ne 7, 3) := dk_160 0 7 (dk_at dksX4_senses_2 21 rfl rfl)
theorem dX4_senses_71 : decode cX4_senses 71 = .ok (.iconst 1, 1) := dk_4 (dk_at dksX4_senses_3 0 rfl rfl)
theorem dX4_senses_72 : decode cX4_senses 72 = .ok (.goto 4, 3) := dk_167 0 4 (dk_at dksX4_senses_3 1 rfl rfl)
theorem dX4_senses_75 : decode cX4_senses 75 = .ok (.iconst 0, 1) := dk_3 (dk_at dksX4_senses_3 4 rfl rfl)
theorem dX4_senses_76 : decode cX4_senses 76 = .ok (.istore_n 3, 1) := dk_62 (dk_at dksX4_senses_3 5 rfl rfl)
theorem dX4_senses_77 : decode cX4_senses 77 = .ok (.iload_n 3, 1) := dk_29 (dk_at dksX4_senses_3 6 rfl rfl)
theorem dX4_senses_78 : decode cX4_senses 78 = .ok (.ifCond .eq 7, 3) := dk_153 0 7 (dk_at dksX4_senses_3 7 rfl rfl)
theorem dX4_senses_81 : decode cX4_senses 81 = .ok (.aload_n 0, 1) := dk_42 (dk_at dksX4_senses_3 10 rfl rfl)
theorem dX4_senses_82 : decode cX4_senses 82 = .ok (.invokevirtual 74, 3) := dk_182 0 74 (dk_at dksX4_senses_3 11 rfl rfl)
theorem dX4_senses_85 : decode cX4_senses 85 = .ok (.goto (-76), 3) := dk_167 255 180 (dk_at dksX4_senses_3 14 rfl rfl)
theorem dX4_senses_88 : decode cX4_senses 88 = .ok (.aload_n 1, 1) := dk_43 (dk_at dksX4_senses_3 17 rfl rfl)
theorem dX4_senses_89 : decode cX4_senses 89 = .ok (.iload_n 2, 1) := dk_28 (dk_at dksX4_senses_3 18 rfl rfl)
theorem dX4_senses_90 : decode cX4_senses 90 = .ok (.invokestatic 135, 3) := dk_184 0 135 (dk_at dksX4_senses_3 19 rfl rfl)
theorem dX4_senses_93 : decode cX4_senses 93 = .ok (.areturn, 1) := dk_176 (dk_at dksX4_senses_3 22 rfl rfl)
def dkwX4_sign_2 : List UInt8 := [182, 0, 74, 187, 0, 145, 89, 17, 0, 210, 44, 1, 2, 27, 183, 0, 151, 176]
abbrev dktX4_sign_2 : List UInt8 := dkwX4_sign_2 ++ []
def dkwX4_sign_1 : List UInt8 := [187, 0, 145, 89, 17, 0, 210, 44, 1, 42, 3, 16, 9, 182, 0, 133, 27, 183, 0, 151, 176, 42]
abbrev dktX4_sign_1 : List UInt8 := dkwX4_sign_1 ++ dktX4_sign_2
def dkwX4_sign_0 : List UInt8 := [42, 182, 0, 141, 77, 42, 17, 0, 216, 182, 0, 107, 42, 180, 0, 25, 17, 0, 217, 159, 0, 24]
abbrev dktX4_sign_0 : List UInt8 := dkwX4_sign_0 ++ dktX4_sign_1
theorem dksX4_sign_0 : cX4_sign.data.toList.drop 0 = dktX4_sign_0 := by decide +kernel
theorem dksX4_sign_1 : cX4_sign.data.toList.drop 22 = dktX4_sign_1 := dk_seg dksX4_sign_0 22 rfl rfl
theorem dksX4_sign_2 : cX4_sign.data.toList.drop 44 = dktX4_sign_2 := dk_seg dksX4_sign_1 22 rfl rfl
theorem dX4_sign_0 : decode cX4_sign 0 = .ok (.aload_n 0, 1) := dk_42 (dk_at dksX4_sign_0 0 rfl rfl)
theorem dX4_sign_1 : decode cX4_sign 1 = .ok (.invokevirtual 141, 3) := dk_182 0 141 (dk_at dksX4_sign_0 1 rfl rfl)
theorem dX4_sign_4 : decode cX4_sign 4 = .ok (.astore_n 2, 1) := dk_77 (dk_at dksX4_sign_0 4 rfl rfl)
theorem dX4_sign_5 : decode cX4_sign 5 = .ok (.aload_n 0, 1) := dk_42 (dk_at dksX4_sign_0 5 rfl rfl)
theorem dX4_sign_6 : decode cX4_sign 6 = .ok (.sipush 216, 3) := dk_17 0 216 (dk_at dksX4_sign_0 6 rfl rfl)
theorem dX4_sign_9 : decode cX4_sign 9 = .ok (.invokevirtual 107, 3) := dk_182 0 107 (dk_at dksX4_sign_0 9 rfl rfl)
theorem dX4_sign_12 : decode cX4_sign 12 = .ok (.aload_n 0, 1) := dk_42 (dk_at dksX4_sign_0 12 rfl rfl)
theorem dX4_sign_13 : decode cX4_sign 13 = .ok (.getfield 25, 3) := dk_180 0 25 (dk_at dksX4_sign_0 13 rfl rfl)
theorem dX4_sign_16 : decode cX4_sign 16 = .ok (.sipush 217, 3) := dk_17 0 217 (dk_at dksX4_sign_0 16 rfl rfl)
theorem dX4_sign_19 : decode cX4_sign 19 = .ok (.if_icmp .eq 24, 3) := dk_159 0 24 (dk_at dksX4_sign_0 19 rfl rfl)
theorem dX4_sign_22 : decode cX4_sign 22 = .ok (.new 145, 3) := dk_187 0 145 (dk_at dksX4_sign_1 0 rfl rfl)
theorem dX4_sign_25 : decode cX4_sign 25 = .ok (.dup, 1) := dk_89 (dk_at dksX4_sign_1 3 rfl rfl)
theorem dX4_sign_26 : decode cX4_sign 26 = .ok (.sipush 210, 3) := dk_17 0 210 (dk_at dksX4_sign_1 4 rfl rfl)
theorem dX4_sign_29 : decode cX4_sign 29 = .ok (.aload_n 2, 1) := dk_44 (dk_at dksX4_sign_1 7 rfl rfl)
theorem dX4_sign_30 : decode cX4_sign 30 = .ok (.aconst_null, 1) := dk_1 (dk_at dksX4_sign_1 8 rfl rfl)
theorem dX4_sign_31 : decode cX4_sign 31 = .ok (.aload_n 0, 1) := dk_42 (dk_at dksX4_sign_1 9 rfl rfl)
theorem dX4_sign_32 : decode cX4_sign 32 = .ok (.iconst 0, 1) := dk_3 (dk_at dksX4_sign_1 10 rfl rfl)
theorem dX4_sign_33 : decode cX4_sign 33 = .ok (.bipush 9, 2) := dk_16 9 (dk_at dksX4_sign_1 11 rfl rfl)
theorem dX4_sign_35 : decode cX4_sign 35 = .ok (.invokevirtual 133, 3) := dk_182 0 133 (dk_at dksX4_sign_1 13 rfl rfl)
theorem dX4_sign_38 : decode cX4_sign 38 = .ok (.iload_n 1, 1) := dk_27 (dk_at dksX4_sign_1 16 rfl rfl)
theorem dX4_sign_39 : decode cX4_sign 39 = .ok (.invokespecial 151, 3) := dk_183 0 151 (dk_at dksX4_sign_1 17 rfl rfl)
theorem dX4_sign_42 : decode cX4_sign 42 = .ok (.areturn, 1) := dk_176 (dk_at dksX4_sign_1 20 rfl rfl)
theorem dX4_sign_43 : decode cX4_sign 43 = .ok (.aload_n 0, 1) := dk_42 (dk_at dksX4_sign_1 21 rfl rfl)
theorem dX4_sign_44 : decode cX4_sign 44 = .ok (.invokevirtual 74, 3) := dk_182 0 74 (dk_at dksX4_sign_2 0 rfl rfl)
theorem dX4_sign_47 : decode cX4_sign 47 = .ok (.new 145, 3) := dk_187 0 145 (dk_at dksX4_sign_2 3 rfl rfl)
theorem dX4_sign_50 : decode cX4_sign 50 = .ok (.dup, 1) := dk_89 (dk_at dksX4_sign_2 6 rfl rfl)
theorem dX4_sign_51 : decode cX4_sign 51 = .ok (.sipush 210, 3) := dk_17 0 210 (dk_at dksX4_sign_2 7 rfl rfl)
theorem dX4_sign_54 : decode cX4_sign 54 = .ok (.aload_n 2, 1) := dk_44 (dk_at dksX4_sign_2 10 rfl rfl)
theorem dX4_sign_55 : decode cX4_sign 55 = .ok (.aconst_null, 1) := dk_1 (dk_at dksX4_sign_2 11 rfl rfl)
theorem dX4_sign_56 : decode cX4_sign 56 = .ok (.iconst (-1), 1) := dk_2 (dk_at dksX4_sign_2 12 rfl rfl)
theorem dX4_sign_57 : decode cX4_sign 57 = .ok (.iload_n 1, 1) := dk_27 (dk_at dksX4_sign_2 13 rfl rfl)
theorem dX4_sign_58 : decode cX4_sign 58 = .ok (.invokespecial 151, 3) := dk_183 0 151 (dk_at dksX4_sign_2 14 rfl rfl)
theorem dX4_sign_61 : decode cX4_sign 61 = .ok (.areturn, 1) := dk_176 (dk_at dksX4_sign_2 17 rfl rfl)
def dkwX5_init_0 : List UInt8 := [42, 183, 0, 1, 42, 187, 0, 7, 89, 183, 0, 9, 181, 0, 10, 177]
abbrev dktX5_init_0 : List UInt8 := dkwX5_init_0 ++ []
theorem dksX5_init_0 : cX5_init.data.toList.drop 0 = dktX5_init_0 := by decide +kernel
theorem dX5_init_0 : decode cX5_init 0 = .ok (.aload_n 0, 1) := dk_42 (dk_at dksX5_init_0 0 rfl rfl)
theorem dX5_init_1 : decode cX5_init 1 = .ok (.invokespecial 1, 3) := dk_183 0 1 (dk_at dksX5_init_0 1 rfl rfl)
theorem dX5_init_4 : decode cX5_init 4 = .ok (.aload_n 0, 1) := dk_42 (dk_at dksX5_init_0 4 rfl rfl)
theorem dX5_init_5 : decode cX5_init 5 = .ok (.new 7, 3) := dk_187 0 7 (dk_at dksX5_init_0 5 rfl rfl)
theorem dX5_init_8 : decode cX5_init 8 = .ok (.dup, 1) := dk_89 (dk_at dksX5_init_0 8 rfl rfl)
theorem dX5_init_9 : decode cX5_init 9 = .ok (.invokespecial 9, 3) := dk_183 0 9 (dk_at dksX5_init_0 9 rfl rfl)
theorem dX5_init_12 : decode cX5_init 12 = .ok (.putfield 10, 3) := dk_181 0 10 (dk_at dksX5_init_0 12 rfl rfl)
theorem dX5_init_15 : decode cX5_init 15 = .ok (.return_, 1) := dk_177 (dk_at dksX5_init_0 15 rfl rfl)
def dkwX6_init_0 : List UInt8 := [42, 183, 0, 1, 42, 27, 181, 0, 7, 42, 28, 181, 0, 13, 177]
abbrev dktX6_init_0 : List UInt8 := dkwX6_init_0 ++ []
theorem dksX6_init_0 : cX6_init.data.toList.drop 0 = dktX6_init_0 := by decide +kernel
theorem dX6_init_0 : decode cX6_init 0 = .ok (.aload_n 0, 1) := dk_42 (dk_at dksX6_init_0 0 rfl rfl)
theorem dX6_init_1 : decode cX6_init 1 = .ok (.invokespecial 1, 3) := dk_183 0 1 (dk_at dksX6_init_0 1 rfl rfl)
theorem dX6_init_4 : decode cX6_init 4 = .ok (.aload_n 0, 1) := dk_42 (dk_at dksX6_init_0 4 rfl rfl)
theorem dX6_init_5 : decode cX6_init 5 = .ok (.iload_n 1, 1) := dk_27 (dk_at dksX6_init_0 5 rfl rfl)
theorem dX6_init_6 : decode cX6_init 6 = .ok (.putfield 7, 3) := dk_181 0 7 (dk_at dksX6_init_0 6 rfl rfl)
theorem dX6_init_9 : decode cX6_init 9 = .ok (.aload_n 0, 1) := dk_42 (dk_at dksX6_init_0 9 rfl rfl)
theorem dX6_init_10 : decode cX6_init 10 = .ok (.iload_n 2, 1) := dk_28 (dk_at dksX6_init_0 10 rfl rfl)
theorem dX6_init_11 : decode cX6_init 11 = .ok (.putfield 13, 3) := dk_181 0 13 (dk_at dksX6_init_0 11 rfl rfl)
theorem dX6_init_14 : decode cX6_init 14 = .ok (.return_, 1) := dk_177 (dk_at dksX6_init_0 14 rfl rfl)
def dkwX7_init_0 : List UInt8 := [42, 183, 0, 1, 42, 43, 181, 0, 7, 177]
abbrev dktX7_init_0 : List UInt8 := dkwX7_init_0 ++ []
theorem dksX7_init_0 : cX7_init.data.toList.drop 0 = dktX7_init_0 := by decide +kernel
theorem dX7_init_0 : decode cX7_init 0 = .ok (.aload_n 0, 1) := dk_42 (dk_at dksX7_init_0 0 rfl rfl)
theorem dX7_init_1 : decode cX7_init 1 = .ok (.invokespecial 1, 3) := dk_183 0 1 (dk_at dksX7_init_0 1 rfl rfl)
theorem dX7_init_4 : decode cX7_init 4 = .ok (.aload_n 0, 1) := dk_42 (dk_at dksX7_init_0 4 rfl rfl)
theorem dX7_init_5 : decode cX7_init 5 = .ok (.aload_n 1, 1) := dk_43 (dk_at dksX7_init_0 5 rfl rfl)
theorem dX7_init_6 : decode cX7_init 6 = .ok (.putfield 7, 3) := dk_181 0 7 (dk_at dksX7_init_0 6 rfl rfl)
theorem dX7_init_9 : decode cX7_init 9 = .ok (.return_, 1) := dk_177 (dk_at dksX7_init_0 9 rfl rfl)
def dkwX7_is_0 : List UInt8 := [42, 180, 0, 7, 43, 185, 0, 13, 2, 0, 154, 0, 7, 4, 167, 0, 4, 3, 172]
abbrev dktX7_is_0 : List UInt8 := dkwX7_is_0 ++ []
theorem dksX7_is_0 : cX7_is.data.toList.drop 0 = dktX7_is_0 := by decide +kernel
theorem dX7_is_0 : decode cX7_is 0 = .ok (.aload_n 0, 1) := dk_42 (dk_at dksX7_is_0 0 rfl rfl)
theorem dX7_is_1 : decode cX7_is 1 = .ok (.getfield 7, 3) := dk_180 0 7 (dk_at dksX7_is_0 1 rfl rfl)
theorem dX7_is_4 : decode cX7_is 4 = .ok (.aload_n 1, 1) := dk_43 (dk_at dksX7_is_0 4 rfl rfl)
theorem dX7_is_5 : decode cX7_is 5 = .ok (.invokeinterface 13 2, 5) := by decide +kernel
theorem dX7_is_10 : decode cX7_is 10 = .ok (.ifCond .ne 7, 3) := dk_154 0 7 (dk_at dksX7_is_0 10 rfl rfl)
theorem dX7_is_13 : decode cX7_is 13 = .ok (.iconst 1, 1) := dk_4 (dk_at dksX7_is_0 13 rfl rfl)
theorem dX7_is_14 : decode cX7_is 14 = .ok (.goto 4, 3) := dk_167 0 4 (dk_at dksX7_is_0 14 rfl rfl)
theorem dX7_is_17 : decode cX7_is 17 = .ok (.iconst 0, 1) := dk_3 (dk_at dksX7_is_0 17 rfl rfl)
theorem dX7_is_18 : decode cX7_is 18 = .ok (.ireturn, 1) := dk_172 (dk_at dksX7_is_0 18 rfl rfl)
def dkwX8_init_1 : List UInt8 := [181, 0, 18, 42, 43, 181, 0, 21, 177]
abbrev dktX8_init_1 : List UInt8 := dkwX8_init_1 ++ []
def dkwX8_init_0 : List UInt8 := [42, 183, 0, 3, 42, 187, 0, 9, 89, 183, 0, 11, 181, 0, 12, 42, 187, 0, 9, 89, 183, 0, 11]
abbrev dktX8_init_0 : List UInt8 := dkwX8_init_0 ++ dktX8_init_1
theorem dksX8_init_0 : cX8_init.data.toList.drop 0 = dktX8_init_0 := by decide +kernel
theorem dksX8_init_1 : cX8_init.data.toList.drop 23 = dktX8_init_1 := dk_seg dksX8_init_0 23 rfl rfl
theorem dX8_init_0 : decode cX8_init 0 = .ok (.aload_n 0, 1) := dk_42 (dk_at dksX8_init_0 0 rfl rfl)
theorem dX8_init_1 : decode cX8_init 1 = .ok (.invokespecial 3, 3) := dk_183 0 3 (dk_at dksX8_init_0 1 rfl rfl)
theorem dX8_init_4 : decode cX8_init 4 = .ok (.aload_n 0, 1) := dk_42 (dk_at dksX8_init_0 4 rfl rfl)
theorem dX8_init_5 : decode cX8_init 5 = .ok (.new 9, 3) := dk_187 0 9 (dk_at dksX8_init_0 5 rfl rfl)
theorem dX8_init_8 : decode cX8_init 8 = .ok (.dup, 1) := dk_89 (dk_at dksX8_init_0 8 rfl rfl)
theorem dX8_init_9 : decode cX8_init 9 = .ok (.invokespecial 11, 3) := dk_183 0 11 (dk_at dksX8_init_0 9 rfl rfl)
theorem dX8_init_12 : decode cX8_init 12 = .ok (.putfield 12, 3) := dk_181 0 12 (dk_at dksX8_init_0 12 rfl rfl)
theorem dX8_init_15 : decode cX8_init 15 = .ok (.aload_n 0, 1) := dk_42 (dk_at dksX8_init_0 15 rfl rfl)
theorem dX8_init_16 : decode cX8_init 16 = .ok (.new 9, 3) := dk_187 0 9 (dk_at dksX8_init_0 16 rfl rfl)
theorem dX8_init_19 : decode cX8_init 19 = .ok (.dup, 1) := dk_89 (dk_at dksX8_init_0 19 rfl rfl)
theorem dX8_init_20 : decode cX8_init 20 = .ok (.invokespecial 11, 3) := dk_183 0 11 (dk_at dksX8_init_0 20 rfl rfl)
theorem dX8_init_23 : decode cX8_init 23 = .ok (.putfield 18, 3) := dk_181 0 18 (dk_at dksX8_init_1 0 rfl rfl)
theorem dX8_init_26 : decode cX8_init 26 = .ok (.aload_n 0, 1) := dk_42 (dk_at dksX8_init_1 3 rfl rfl)
theorem dX8_init_27 : decode cX8_init 27 = .ok (.aload_n 1, 1) := dk_43 (dk_at dksX8_init_1 4 rfl rfl)
theorem dX8_init_28 : decode cX8_init 28 = .ok (.putfield 21, 3) := dk_181 0 21 (dk_at dksX8_init_1 5 rfl rfl)
theorem dX8_init_31 : decode cX8_init 31 = .ok (.return_, 1) := dk_177 (dk_at dksX8_init_1 8 rfl rfl)
def dkwX8_add_0 : List UInt8 := [42, 180, 0, 18, 27, 184, 0, 25, 182, 0, 31, 87, 42, 180, 0, 12, 44, 182, 0, 31, 87, 177]
abbrev dktX8_add_0 : List UInt8 := dkwX8_add_0 ++ []
theorem dksX8_add_0 : cX8_add.data.toList.drop 0 = dktX8_add_0 := by decide +kernel
theorem dX8_add_0 : decode cX8_add 0 = .ok (.aload_n 0, 1) := dk_42 (dk_at dksX8_add_0 0 rfl rfl)
theorem dX8_add_1 : decode cX8_add 1 = .ok (.getfield 18, 3) := dk_180 0 18 (dk_at dksX8_add_0 1 rfl rfl)
theorem dX8_add_4 : decode cX8_add 4 = .ok (.iload_n 1, 1) := dk_27 (dk_at dksX8_add_0 4 rfl rfl)
theorem dX8_add_5 : decode cX8_add 5 = .ok (.invokestatic 25, 3) := dk_184 0 25 (dk_at dksX8_add_0 5 rfl rfl)
theorem dX8_add_8 : decode cX8_add 8 = .ok (.invokevirtual 31, 3) := dk_182 0 31 (dk_at dksX8_add_0 8 rfl rfl)
theorem dX8_add_11 : decode cX8_add 11 = .ok (.pop, 1) := dk_87 (dk_at dksX8_add_0 11 rfl rfl)
theorem dX8_add_12 : decode cX8_add 12 = .ok (.aload_n 0, 1) := dk_42 (dk_at dksX8_add_0 12 rfl rfl)
theorem dX8_add_13 : decode cX8_add 13 = .ok (.getfield 12, 3) := dk_180 0 12 (dk_at dksX8_add_0 13 rfl rfl)
theorem dX8_add_16 : decode cX8_add 16 = .ok (.aload_n 2, 1) := dk_44 (dk_at dksX8_add_0 16 rfl rfl)
theorem dX8_add_17 : decode cX8_add 17 = .ok (.invokevirtual 31, 3) := dk_182 0 31 (dk_at dksX8_add_0 17 rfl rfl)
theorem dX8_add_20 : decode cX8_add 20 = .ok (.pop, 1) := dk_87 (dk_at dksX8_add_0 20 rfl rfl)
theorem dX8_add_21 : decode cX8_add 21 = .ok (.return_, 1) := dk_177 (dk_at dksX8_add_0 21 rfl rfl)
def dkwX8_itself_0 : List UInt8 := [42, 180, 0, 12, 182, 0, 35, 153, 0, 10, 42, 180, 0, 21, 167, 0, 4, 42, 176]
abbrev dktX8_itself_0 : List UInt8 := dkwX8_itself_0 ++ []
theorem dksX8_itself_0 : cX8_itself.data.toList.drop 0 = dktX8_itself_0 := by decide +kernel
theorem dX8_itself_0 : decode cX8_itself 0 = .ok (.aload_n 0, 1) := dk_42 (dk_at dksX8_itself_0 0 rfl rfl)
theorem dX8_itself_1 : decode cX8_itself 1 = .ok (.getfield 12, 3) := dk_180 0 12 (dk_at dksX8_itself_0 1 rfl rfl)
theorem dX8_itself_4 : decode cX8_itself 4 = .ok (.invokevirtual 35, 3) := dk_182 0 35 (dk_at dksX8_itself_0 4 rfl rfl)
theorem dX8_itself_7 : decode cX8_itself 7 = .ok (.ifCond .eq 10, 3) := dk_153 0 10 (dk_at dksX8_itself_0 7 rfl rfl)
theorem dX8_itself_10 : decode cX8_itself 10 = .ok (.aload_n 0, 1) := dk_42 (dk_at dksX8_itself_0 10 rfl rfl)
theorem dX8_itself_11 : decode cX8_itself 11 = .ok (.getfield 21, 3) := dk_180 0 21 (dk_at dksX8_itself_0 11 rfl rfl)
theorem dX8_itself_14 : decode cX8_itself 14 = .ok (.goto 4, 3) := dk_167 0 4 (dk_at dksX8_itself_0 14 rfl rfl)
theorem dX8_itself_17 : decode cX8_itself 17 = .ok (.aload_n 0, 1) := dk_42 (dk_at dksX8_itself_0 17 rfl rfl)
theorem dX8_itself_18 : decode cX8_itself 18 = .ok (.areturn, 1) := dk_176 (dk_at dksX8_itself_0 18 rfl rfl)
def dkwX8_of_6 : List UInt8 := [32, 173]
abbrev dktX8_of_6 : List UInt8 := dkwX8_of_6 ++ []
def dkwX8_of_5 : List UInt8 := [109, 55, 8, 20, 0, 56, 20, 0, 58, 22, 8, 184, 0, 60, 184, 0, 66, 65, 132, 4, 1, 167, 255, 130]
abbrev dktX8_of_5 : List UInt8 := dkwX8_of_5 ++ dktX8_of_6
def dkwX8_of_4 : List UInt8 := [160, 0, 10, 32, 22, 5, 105, 167, 0, 18, 22, 5, 9, 148, 154, 0, 7, 9, 167, 0, 7, 32, 22, 5]
abbrev dktX8_of_4 : List UInt8 := dkwX8_of_4 ++ dktX8_of_5
def dkwX8_of_3 : List UInt8 := [22, 5, 97, 167, 0, 46, 21, 7, 16, 45, 160, 0, 10, 32, 22, 5, 101, 167, 0, 32, 21, 7, 16, 42]
abbrev dktX8_of_3 : List UInt8 := dkwX8_of_3 ++ dktX8_of_4
def dkwX8_of_2 : List UInt8 := [180, 0, 18, 21, 4, 182, 0, 49, 192, 0, 26, 182, 0, 53, 54, 7, 21, 7, 16, 43, 160, 0, 10, 32]
abbrev dktX8_of_2 : List UInt8 := dkwX8_of_2 ++ dktX8_of_3
def dkwX8_of_1 : List UInt8 := [162, 0, 120, 42, 180, 0, 12, 21, 4, 182, 0, 49, 192, 0, 40, 43, 185, 0, 39, 2, 0, 55, 5, 42]
abbrev dktX8_of_1 : List UInt8 := dkwX8_of_1 ++ dktX8_of_2
def dkwX8_of_0 : List UInt8 := [42, 180, 0, 21, 43, 185, 0, 39, 2, 0, 65, 3, 54, 4, 21, 4, 42, 180, 0, 12, 182, 0, 45]
abbrev dktX8_of_0 : List UInt8 := dkwX8_of_0 ++ dktX8_of_1
theorem dksX8_of_0 : cX8_of.data.toList.drop 0 = dktX8_of_0 := by decide +kernel
theorem dksX8_of_1 : cX8_of.data.toList.drop 23 = dktX8_of_1 := dk_seg dksX8_of_0 23 rfl rfl
theorem dksX8_of_2 : cX8_of.data.toList.drop 47 = dktX8_of_2 := dk_seg dksX8_of_1 24 rfl rfl
theorem dksX8_of_3 : cX8_of.data.toList.drop 71 = dktX8_of_3 := dk_seg dksX8_of_2 24 rfl rfl
theorem dksX8_of_4 : cX8_of.data.toList.drop 95 = dktX8_of_4 := dk_seg dksX8_of_3 24 rfl rfl
theorem dksX8_of_5 : cX8_of.data.toList.drop 119 = dktX8_of_5 := dk_seg dksX8_of_4 24 rfl rfl
theorem dksX8_of_6 : cX8_of.data.toList.drop 143 = dktX8_of_6 := dk_seg dksX8_of_5 24 rfl rfl
theorem dX8_of_0 : decode cX8_of 0 = .ok (.aload_n 0, 1) := dk_42 (dk_at dksX8_of_0 0 rfl rfl)
theorem dX8_of_1 : decode cX8_of 1 = .ok (.getfield 21, 3) := dk_180 0 21 (dk_at dksX8_of_0 1 rfl rfl)
theorem dX8_of_4 : decode cX8_of 4 = .ok (.aload_n 1, 1) := dk_43 (dk_at dksX8_of_0 4 rfl rfl)
theorem dX8_of_5 : decode cX8_of 5 = .ok (.invokeinterface 39 2, 5) := by decide +kernel
theorem dX8_of_10 : decode cX8_of 10 = .ok (.lstore_n 2, 1) := dk_65 (dk_at dksX8_of_0 10 rfl rfl)
theorem dX8_of_11 : decode cX8_of 11 = .ok (.iconst 0, 1) := dk_3 (dk_at dksX8_of_0 11 rfl rfl)
theorem dX8_of_12 : decode cX8_of 12 = .ok (.istore 4, 2) := dk_54 4 (dk_at dksX8_of_0 12 rfl rfl)
theorem dX8_of_14 : decode cX8_of 14 = .ok (.iload 4, 2) := dk_21 4 (dk_at dksX8_of_0 14 rfl rfl)
theorem dX8_of_16 : decode cX8_of 16 = .ok (.aload_n 0, 1) := dk_42 (dk_at dksX8_of_0 16 rfl rfl)
theorem dX8_of_17 : decode cX8_of 17 = .ok (.getfield 12, 3) := dk_180 0 12 (dk_at dksX8_of_0 17 rfl rfl)
theorem dX8_of_20 : decode cX8_of 20 = .ok (.invokevirtual 45, 3) := dk_182 0 45 (dk_at dksX8_of_0 20 rfl rfl)
theorem dX8_of_23 : decode cX8_of 23 = .ok (.if_icmp .ge 120, 3) := dk_162 0 120 (dk_at dksX8_of_1 0 rfl rfl)
theorem dX8_of_26 : decode cX8_of 26 = .ok (.aload_n 0, 1) := dk_42 (dk_at dksX8_of_1 3 rfl rfl)
theorem dX8_of_27 : decode cX8_of 27 = .ok (.getfield 12, 3) := dk_180 0 12 (dk_at dksX8_of_1 4 rfl rfl)
theorem dX8_of_30 : decode cX8_of 30 = .ok (.iload 4, 2) := dk_21 4 (dk_at dksX8_of_1 7 rfl rfl)
theorem dX8_of_32 : decode cX8_of 32 = .ok (.invokevirtual 49, 3) := dk_182 0 49 (dk_at dksX8_of_1 9 rfl rfl)
theorem dX8_of_35 : decode cX8_of 35 = .ok (.checkcast 40, 3) := dk_192 0 40 (dk_at dksX8_of_1 12 rfl rfl)
theorem dX8_of_38 : decode cX8_of 38 = .ok (.aload_n 1, 1) := dk_43 (dk_at dksX8_of_1 15 rfl rfl)
theorem dX8_of_39 : decode cX8_of 39 = .ok (.invokeinterface 39 2, 5) := by decide +kernel
theorem dX8_of_44 : decode cX8_of 44 = .ok (.lstore 5, 2) := dk_55 5 (dk_at dksX8_of_1 21 rfl rfl)
theorem dX8_of_46 : decode cX8_of 46 = .ok (.aload_n 0, 1) := dk_42 (dk_at dksX8_of_1 23 rfl rfl)
theorem dX8_of_47 : decode cX8_of 47 = .ok (.getfield 18, 3) := dk_180 0 18 (dk_at dksX8_of_2 0 rfl rfl)
theorem dX8_of_50 : decode cX8_of 50 = .ok (.iload 4, 2) := dk_21 4 (dk_at dksX8_of_2 3 rfl rfl)
theorem dX8_of_52 : decode cX8_of 52 = .ok (.invokevirtual 49, 3) := dk_182 0 49 (dk_at dksX8_of_2 5 rfl rfl)
theorem dX8_of_55 : decode cX8_of 55 = .ok (.checkcast 26, 3) := dk_192 0 26 (dk_at dksX8_of_2 8 rfl rfl)
theorem dX8_of_58 : decode cX8_of 58 = .ok (.invokevirtual 53, 3) := dk_182 0 53 (dk_at dksX8_of_2 11 rfl rfl)
theorem dX8_of_61 : decode cX8_of 61 = .ok (.istore 7, 2) := dk_54 7 (dk_at dksX8_of_2 14 rfl rfl)
theorem dX8_of_63 : decode cX8_of 63 = .ok (.iload 7, 2) := dk_21 7 (dk_at dksX8_of_2 16 rfl rfl)
theorem dX8_of_65 : decode cX8_of 65 = .ok (.bipush 43, 2) := dk_16 43 (dk_at dksX8_of_2 18 rfl rfl)
theorem dX8_of_67 : decode cX8_of 67 = .ok (.if_icmp .ne 10, 3) := dk_160 0 10 (dk_at dksX8_of_2 20 rfl rfl)
theorem dX8_of_70 : decode cX8_of 70 = .ok (.lload_n 2, 1) := dk_32 (dk_at dksX8_of_2 23 rfl rfl)
theorem dX8_of_71 : decode cX8_of 71 = .ok (.lload 5, 2) := dk_22 5 (dk_at dksX8_of_3 0 rfl rfl)
theorem dX8_of_73 : decode cX8_of 73 = .ok (.ladd, 1) := dk_97 (dk_at dksX8_of_3 2 rfl rfl)
theorem dX8_of_74 : decode cX8_of 74 = .ok (.goto 46, 3) := dk_167 0 46 (dk_at dksX8_of_3 3 rfl rfl)
theorem dX8_of_77 : decode cX8_of 77 = .ok (.iload 7, 2) := dk_21 7 (dk_at dksX8_of_3 6 rfl rfl)
theorem dX8_of_79 : decode cX8_of 79 = .ok (.bipush 45, 2) := dk_16 45 (dk_at dksX8_of_3 8 rfl rfl)
theorem dX8_of_81 : decode cX8_of 81 = .ok (.if_icmp .ne 10, 3) := dk_160 0 10 (dk_at dksX8_of_3 10 rfl rfl)
theorem dX8_of_84 : decode cX8_of 84 = .ok (.lload_n 2, 1) := dk_32 (dk_at dksX8_of_3 13 rfl rfl)
theorem dX8_of_85 : decode cX8_of 85 = .ok (.lload 5, 2) := dk_22 5 (dk_at dksX8_of_3 14 rfl rfl)
theorem dX8_of_87 : decode cX8_of 87 = .ok (.lsub, 1) := dk_101 (dk_at dksX8_of_3 16 rfl rfl)
theorem dX8_of_88 : decode cX8_of 88 = .ok (.goto 32, 3) := dk_167 0 32 (dk_at dksX8_of_3 17 rfl rfl)
theorem dX8_of_91 : decode cX8_of 91 = .ok (.iload 7, 2) := dk_21 7 (dk_at dksX8_of_3 20 rfl rfl)
theorem dX8_of_93 : decode cX8_of 93 = .ok (.bipush 42, 2) := dk_16 42 (dk_at dksX8_of_3 22 rfl rfl)
theorem dX8_of_95 : decode cX8_of 95 = .ok (.if_icmp .ne 10, 3) := dk_160 0 10 (dk_at dksX8_of_4 0 rfl rfl)
theorem dX8_of_98 : decode cX8_of 98 = .ok (.lload_n 2, 1) := dk_32 (dk_at dksX8_of_4 3 rfl rfl)
theorem dX8_of_99 : decode cX8_of 99 = .ok (.lload 5, 2) := dk_22 5 (dk_at dksX8_of_4 4 rfl rfl)
theorem dX8_of_101 : decode cX8_of 101 = .ok (.lmul, 1) := dk_105 (dk_at dksX8_of_4 6 rfl rfl)
theorem dX8_of_102 : decode cX8_of 102 = .ok (.goto 18, 3) := dk_167 0 18 (dk_at dksX8_of_4 7 rfl rfl)
theorem dX8_of_105 : decode cX8_of 105 = .ok (.lload 5, 2) := dk_22 5 (dk_at dksX8_of_4 10 rfl rfl)
theorem dX8_of_107 : decode cX8_of 107 = .ok (.lconst 0, 1) := dk_9 (dk_at dksX8_of_4 12 rfl rfl)
theorem dX8_of_108 : decode cX8_of 108 = .ok (.lcmp, 1) := dk_148 (dk_at dksX8_of_4 13 rfl rfl)
theorem dX8_of_109 : decode cX8_of 109 = .ok (.ifCond .ne 7, 3) := dk_154 0 7 (dk_at dksX8_of_4 14 rfl rfl)
theorem dX8_of_112 : decode cX8_of 112 = .ok (.lconst 0, 1) := dk_9 (dk_at dksX8_of_4 17 rfl rfl)
theorem dX8_of_113 : decode cX8_of 113 = .ok (.goto 7, 3) := dk_167 0 7 (dk_at dksX8_of_4 18 rfl rfl)
theorem dX8_of_116 : decode cX8_of 116 = .ok (.lload_n 2, 1) := dk_32 (dk_at dksX8_of_4 21 rfl rfl)
theorem dX8_of_117 : decode cX8_of 117 = .ok (.lload 5, 2) := dk_22 5 (dk_at dksX8_of_4 22 rfl rfl)
theorem dX8_of_119 : decode cX8_of 119 = .ok (.ldiv, 1) := dk_109 (dk_at dksX8_of_5 0 rfl rfl)
theorem dX8_of_120 : decode cX8_of 120 = .ok (.lstore 8, 2) := dk_55 8 (dk_at dksX8_of_5 1 rfl rfl)
theorem dX8_of_122 : decode cX8_of 122 = .ok (.ldc2_w 56, 3) := dk_20 0 56 (dk_at dksX8_of_5 3 rfl rfl)
theorem dX8_of_125 : decode cX8_of 125 = .ok (.ldc2_w 58, 3) := dk_20 0 58 (dk_at dksX8_of_5 6 rfl rfl)
theorem dX8_of_128 : decode cX8_of 128 = .ok (.lload 8, 2) := dk_22 8 (dk_at dksX8_of_5 9 rfl rfl)
theorem dX8_of_130 : decode cX8_of 130 = .ok (.invokestatic 60, 3) := dk_184 0 60 (dk_at dksX8_of_5 11 rfl rfl)
theorem dX8_of_133 : decode cX8_of 133 = .ok (.invokestatic 66, 3) := dk_184 0 66 (dk_at dksX8_of_5 14 rfl rfl)
theorem dX8_of_136 : decode cX8_of 136 = .ok (.lstore_n 2, 1) := dk_65 (dk_at dksX8_of_5 17 rfl rfl)
theorem dX8_of_137 : decode cX8_of 137 = .ok (.iinc 4 1, 3) := dk_132 4 1 (dk_at dksX8_of_5 18 rfl rfl)
theorem dX8_of_140 : decode cX8_of 140 = .ok (.goto (-126), 3) := dk_167 255 130 (dk_at dksX8_of_5 21 rfl rfl)
theorem dX8_of_143 : decode cX8_of 143 = .ok (.lload_n 2, 1) := dk_32 (dk_at dksX8_of_6 0 rfl rfl)
theorem dX8_of_144 : decode cX8_of 144 = .ok (.lreturn, 1) := dk_173 (dk_at dksX8_of_6 1 rfl rfl)
def dkwX9_init_0 : List UInt8 := [42, 183, 0, 1, 42, 27, 181, 0, 7, 177]
abbrev dktX9_init_0 : List UInt8 := dkwX9_init_0 ++ []
theorem dksX9_init_0 : cX9_init.data.toList.drop 0 = dktX9_init_0 := by decide +kernel
theorem dX9_init_0 : decode cX9_init 0 = .ok (.aload_n 0, 1) := dk_42 (dk_at dksX9_init_0 0 rfl rfl)
theorem dX9_init_1 : decode cX9_init 1 = .ok (.invokespecial 1, 3) := dk_183 0 1 (dk_at dksX9_init_0 1 rfl rfl)
theorem dX9_init_4 : decode cX9_init 4 = .ok (.aload_n 0, 1) := dk_42 (dk_at dksX9_init_0 4 rfl rfl)
theorem dX9_init_5 : decode cX9_init 5 = .ok (.iload_n 1, 1) := dk_27 (dk_at dksX9_init_0 5 rfl rfl)
theorem dX9_init_6 : decode cX9_init 6 = .ok (.putfield 7, 3) := dk_181 0 7 (dk_at dksX9_init_0 6 rfl rfl)
theorem dX9_init_9 : decode cX9_init 9 = .ok (.return_, 1) := dk_177 (dk_at dksX9_init_0 9 rfl rfl)
def dkwX9_of_0 : List UInt8 := [42, 180, 0, 7, 133, 173]
abbrev dktX9_of_0 : List UInt8 := dkwX9_of_0 ++ []
theorem dksX9_of_0 : cX9_of.data.toList.drop 0 = dktX9_of_0 := by decide +kernel
theorem dX9_of_0 : decode cX9_of 0 = .ok (.aload_n 0, 1) := dk_42 (dk_at dksX9_of_0 0 rfl rfl)
theorem dX9_of_1 : decode cX9_of 1 = .ok (.getfield 7, 3) := dk_180 0 7 (dk_at dksX9_of_0 1 rfl rfl)
theorem dX9_of_4 : decode cX9_of 4 = .ok (.i2l, 1) := dk_133 (dk_at dksX9_of_0 4 rfl rfl)
theorem dX9_of_5 : decode cX9_of 5 = .ok (.lreturn, 1) := dk_173 (dk_at dksX9_of_0 5 rfl rfl)
