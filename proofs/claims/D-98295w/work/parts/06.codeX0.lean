/-! decode rows, the class -/
set_option maxRecDepth 100000
def dkwX0_init_5 : List UInt8 := [180, 0, 16, 42, 180, 0, 12, 182, 0, 58, 177]
abbrev dktX0_init_5 : List UInt8 := dkwX0_init_5 ++ []
def dkwX0_init_4 : List UInt8 := [42, 16, 26, 188, 10, 181, 0, 49, 42, 7, 188, 10, 181, 0, 52, 42, 7, 188, 10, 181, 0, 55, 42]
abbrev dktX0_init_4 : List UInt8 := dkwX0_init_4 ++ dktX0_init_5
def dkwX0_init_3 : List UInt8 := [16, 16, 188, 10, 181, 0, 40, 42, 17, 4, 0, 188, 8, 181, 0, 43, 42, 16, 10, 188, 10, 181, 0, 46]
abbrev dktX0_init_3 : List UInt8 := dkwX0_init_3 ++ dktX0_init_4
def dkwX0_init_2 : List UInt8 := [16, 14, 188, 10, 181, 0, 30, 42, 16, 8, 188, 10, 181, 0, 34, 42, 7, 188, 10, 181, 0, 37, 42]
abbrev dktX0_init_2 : List UInt8 := dkwX0_init_2 ++ dktX0_init_3
def dkwX0_init_1 : List UInt8 := [181, 0, 16, 42, 17, 1, 44, 188, 8, 181, 0, 19, 42, 2, 181, 0, 23, 42, 2, 181, 0, 27, 42]
abbrev dktX0_init_1 : List UInt8 := dkwX0_init_1 ++ dktX0_init_2
def dkwX0_init_0 : List UInt8 := [42, 183, 0, 3, 42, 187, 0, 9, 89, 183, 0, 11, 181, 0, 12, 42, 187, 0, 9, 89, 183, 0, 11]
abbrev dktX0_init_0 : List UInt8 := dkwX0_init_0 ++ dktX0_init_1
theorem dksX0_init_0 : cX0_init.data.toList.drop 0 = dktX0_init_0 := by decide +kernel
theorem dksX0_init_1 : cX0_init.data.toList.drop 23 = dktX0_init_1 := dk_seg dksX0_init_0 23 rfl rfl
theorem dksX0_init_2 : cX0_init.data.toList.drop 46 = dktX0_init_2 := dk_seg dksX0_init_1 23 rfl rfl
theorem dksX0_init_3 : cX0_init.data.toList.drop 69 = dktX0_init_3 := dk_seg dksX0_init_2 23 rfl rfl
theorem dksX0_init_4 : cX0_init.data.toList.drop 93 = dktX0_init_4 := dk_seg dksX0_init_3 24 rfl rfl
theorem dksX0_init_5 : cX0_init.data.toList.drop 116 = dktX0_init_5 := dk_seg dksX0_init_4 23 rfl rfl
theorem dX0_init_0 : decode cX0_init 0 = .ok (.aload_n 0, 1) := dk_42 (dk_at dksX0_init_0 0 rfl rfl)
theorem dX0_init_1 : decode cX0_init 1 = .ok (.invokespecial 3, 3) := dk_183 0 3 (dk_at dksX0_init_0 1 rfl rfl)
theorem dX0_init_4 : decode cX0_init 4 = .ok (.aload_n 0, 1) := dk_42 (dk_at dksX0_init_0 4 rfl rfl)
theorem dX0_init_5 : decode cX0_init 5 = .ok (.new 9, 3) := dk_187 0 9 (dk_at dksX0_init_0 5 rfl rfl)
theorem dX0_init_8 : decode cX0_init 8 = .ok (.dup, 1) := dk_89 (dk_at dksX0_init_0 8 rfl rfl)
theorem dX0_init_9 : decode cX0_init 9 = .ok (.invokespecial 11, 3) := dk_183 0 11 (dk_at dksX0_init_0 9 rfl rfl)
theorem dX0_init_12 : decode cX0_init 12 = .ok (.putfield 12, 3) := dk_181 0 12 (dk_at dksX0_init_0 12 rfl rfl)
theorem dX0_init_15 : decode cX0_init 15 = .ok (.aload_n 0, 1) := dk_42 (dk_at dksX0_init_0 15 rfl rfl)
theorem dX0_init_16 : decode cX0_init 16 = .ok (.new 9, 3) := dk_187 0 9 (dk_at dksX0_init_0 16 rfl rfl)
theorem dX0_init_19 : decode cX0_init 19 = .ok (.dup, 1) := dk_89 (dk_at dksX0_init_0 19 rfl rfl)
theorem dX0_init_20 : decode cX0_init 20 = .ok (.invokespecial 11, 3) := dk_183 0 11 (dk_at dksX0_init_0 20 rfl rfl)
theorem dX0_init_23 : decode cX0_init 23 = .ok (.putfield 16, 3) := dk_181 0 16 (dk_at dksX0_init_1 0 rfl rfl)
theorem dX0_init_26 : decode cX0_init 26 = .ok (.aload_n 0, 1) := dk_42 (dk_at dksX0_init_1 3 rfl rfl)
theorem dX0_init_27 : decode cX0_init 27 = .ok (.sipush 300, 3) := dk_17 1 44 (dk_at dksX0_init_1 4 rfl rfl)
theorem dX0_init_30 : decode cX0_init 30 = .ok (.newarray .byte, 2) := dk_188_8 (dk_at dksX0_init_1 7 rfl rfl)
theorem dX0_init_32 : decode cX0_init 32 = .ok (.putfield 19, 3) := dk_181 0 19 (dk_at dksX0_init_1 9 rfl rfl)
theorem dX0_init_35 : decode cX0_init 35 = .ok (.aload_n 0, 1) := dk_42 (dk_at dksX0_init_1 12 rfl rfl)
theorem dX0_init_36 : decode cX0_init 36 = .ok (.iconst (-1), 1) := dk_2 (dk_at dksX0_init_1 13 rfl rfl)
theorem dX0_init_37 : decode cX0_init 37 = .ok (.putfield 23, 3) := dk_181 0 23 (dk_at dksX0_init_1 14 rfl rfl)
theorem dX0_init_40 : decode cX0_init 40 = .ok (.aload_n 0, 1) := dk_42 (dk_at dksX0_init_1 17 rfl rfl)
theorem dX0_init_41 : decode cX0_init 41 = .ok (.iconst (-1), 1) := dk_2 (dk_at dksX0_init_1 18 rfl rfl)
theorem dX0_init_42 : decode cX0_init 42 = .ok (.putfield 27, 3) := dk_181 0 27 (dk_at dksX0_init_1 19 rfl rfl)
theorem dX0_init_45 : decode cX0_init 45 = .ok (.aload_n 0, 1) := dk_42 (dk_at dksX0_init_1 22 rfl rfl)
theorem dX0_init_46 : decode cX0_init 46 = .ok (.bipush 14, 2) := dk_16 14 (dk_at dksX0_init_2 0 rfl rfl)
theorem dX0_init_48 : decode cX0_init 48 = .ok (.newarray .int, 2) := dk_188_10 (dk_at dksX0_init_2 2 rfl rfl)
theorem dX0_init_50 : decode cX0_init 50 = .ok (.putfield 30, 3) := dk_181 0 30 (dk_at dksX0_init_2 4 rfl rfl)
theorem dX0_init_53 : decode cX0_init 53 = .ok (.aload_n 0, 1) := dk_42 (dk_at dksX0_init_2 7 rfl rfl)
theorem dX0_init_54 : decode cX0_init 54 = .ok (.bipush 8, 2) := dk_16 8 (dk_at dksX0_init_2 8 rfl rfl)
theorem dX0_init_56 : decode cX0_init 56 = .ok (.newarray .int, 2) := dk_188_10 (dk_at dksX0_init_2 10 rfl rfl)
theorem dX0_init_58 : decode cX0_init 58 = .ok (.putfield 34, 3) := dk_181 0 34 (dk_at dksX0_init_2 12 rfl rfl)
theorem dX0_init_61 : decode cX0_init 61 = .ok (.aload_n 0, 1) := dk_42 (dk_at dksX0_init_2 15 rfl rfl)
theorem dX0_init_62 : decode cX0_init 62 = .ok (.iconst 4, 1) := dk_7 (dk_at dksX0_init_2 16 rfl rfl)
theorem dX0_init_63 : decode cX0_init 63 = .ok (.newarray .int, 2) := dk_188_10 (dk_at dksX0_init_2 17 rfl rfl)
theorem dX0_init_65 : decode cX0_init 65 = .ok (.putfield 37, 3) := dk_181 0 37 (dk_at dksX0_init_2 19 rfl rfl)
theorem dX0_init_68 : decode cX0_init 68 = .ok (.aload_n 0, 1) := dk_42 (dk_at dksX0_init_2 22 rfl rfl)
theorem dX0_init_69 : decode cX0_init 69 = .ok (.bipush 16, 2) := dk_16 16 (dk_at dksX0_init_3 0 rfl rfl)
theorem dX0_init_71 : decode cX0_init 71 = .ok (.newarray .int, 2) := dk_188_10 (dk_at dksX0_init_3 2 rfl rfl)
theorem dX0_init_73 : decode cX0_init 73 = .ok (.putfield 40, 3) := dk_181 0 40 (dk_at dksX0_init_3 4 rfl rfl)
theorem dX0_init_76 : decode cX0_init 76 = .ok (.aload_n 0, 1) := dk_42 (dk_at dksX0_init_3 7 rfl rfl)
theorem dX0_init_77 : decode cX0_init 77 = .ok (.sipush 1024, 3) := dk_17 4 0 (dk_at dksX0_init_3 8 rfl rfl)
theorem dX0_init_80 : decode cX0_init 80 = .ok (.newarray .byte, 2) := dk_188_8 (dk_at dksX0_init_3 11 rfl rfl)
theorem dX0_init_82 : decode cX0_init 82 = .ok (.putfield 43, 3) := dk_181 0 43 (dk_at dksX0_init_3 13 rfl rfl)
theorem dX0_init_85 : decode cX0_init 85 = .ok (.aload_n 0, 1) := dk_42 (dk_at dksX0_init_3 16 rfl rfl)
theorem dX0_init_86 : decode cX0_init 86 = .ok (.bipush 10, 2) := dk_16 10 (dk_at dksX0_init_3 17 rfl rfl)
theorem dX0_init_88 : decode cX0_init 88 = .ok (.newarray .int, 2) := dk_188_10 (dk_at dksX0_init_3 19 rfl rfl)
theorem dX0_init_90 : decode cX0_init 90 = .ok (.putfield 46, 3) := dk_181 0 46 (dk_at dksX0_init_3 21 rfl rfl)
theorem dX0_init_93 : decode cX0_init 93 = .ok (.aload_n 0, 1) := dk_42 (dk_at dksX0_init_4 0 rfl rfl)
theorem dX0_init_94 : decode cX0_init 94 = .ok (.bipush 26, 2) := dk_16 26 (dk_at dksX0_init_4 1 rfl rfl)
theorem dX0_init_96 : decode cX0_init 96 = .ok (.newarray .int, 2) := dk_188_10 (dk_at dksX0_init_4 3 rfl rfl)
theorem dX0_init_98 : decode cX0_init 98 = .ok (.putfield 49, 3) := dk_181 0 49 (dk_at dksX0_init_4 5 rfl rfl)
theorem dX0_init_101 : decode cX0_init 101 = .ok (.aload_n 0, 1) := dk_42 (dk_at dksX0_init_4 8 rfl rfl)
theorem dX0_init_102 : decode cX0_init 102 = .ok (.iconst 4, 1) := dk_7 (dk_at dksX0_init_4 9 rfl rfl)
theorem dX0_init_103 : decode cX0_init 103 = .ok (.newarray .int, 2) := dk_188_10 (dk_at dksX0_init_4 10 rfl rfl)
theorem dX0_init_105 : decode cX0_init 105 = .ok (.putfield 52, 3) := dk_181 0 52 (dk_at dksX0_init_4 12 rfl rfl)
theorem dX0_init_108 : decode cX0_init 108 = .ok (.aload_n 0, 1) := dk_42 (dk_at dksX0_init_4 15 rfl rfl)
theorem dX0_init_109 : decode cX0_init 109 = .ok (.iconst 4, 1) := dk_7 (dk_at dksX0_init_4 16 rfl rfl)
theorem dX0_init_110 : decode cX0_init 110 = .ok (.newarray .int, 2) := dk_188_10 (dk_at dksX0_init_4 17 rfl rfl)
theorem dX0_init_112 : decode cX0_init 112 = .ok (.putfield 55, 3) := dk_181 0 55 (dk_at dksX0_init_4 19 rfl rfl)
theorem dX0_init_115 : decode cX0_init 115 = .ok (.aload_n 0, 1) := dk_42 (dk_at dksX0_init_4 22 rfl rfl)
theorem dX0_init_116 : decode cX0_init 116 = .ok (.getfield 16, 3) := dk_180 0 16 (dk_at dksX0_init_5 0 rfl rfl)
theorem dX0_init_119 : decode cX0_init 119 = .ok (.aload_n 0, 1) := dk_42 (dk_at dksX0_init_5 3 rfl rfl)
theorem dX0_init_120 : decode cX0_init 120 = .ok (.getfield 12, 3) := dk_180 0 12 (dk_at dksX0_init_5 4 rfl rfl)
theorem dX0_init_123 : decode cX0_init 123 = .ok (.invokevirtual 58, 3) := dk_182 0 58 (dk_at dksX0_init_5 7 rfl rfl)
theorem dX0_init_126 : decode cX0_init 126 = .ok (.return_, 1) := dk_177 (dk_at dksX0_init_5 10 rfl rfl)
def dkwX0_tie_2 : List UInt8 := [4, 28, 120, 128, 79, 4, 172]
abbrev dktX0_tie_2 : List UInt8 := dkwX0_tie_2 ++ []
def dkwX0_tie_1 : List UInt8 := [180, 0, 74, 27, 46, 28, 184, 0, 77, 153, 0, 5, 3, 172, 42, 180, 0, 12, 180, 0, 74, 27, 92, 46]
abbrev dktX0_tie_1 : List UInt8 := dkwX0_tie_1 ++ dktX0_tie_2
def dkwX0_tie_0 : List UInt8 := [27, 184, 0, 70, 153, 0, 31, 28, 184, 0, 70, 153, 0, 24, 27, 28, 159, 0, 19, 42, 180, 0, 12]
abbrev dktX0_tie_0 : List UInt8 := dkwX0_tie_0 ++ dktX0_tie_1
theorem dksX0_tie_0 : cX0_tie.data.toList.drop 0 = dktX0_tie_0 := by decide +kernel
theorem dksX0_tie_1 : cX0_tie.data.toList.drop 23 = dktX0_tie_1 := dk_seg dksX0_tie_0 23 rfl rfl
theorem dksX0_tie_2 : cX0_tie.data.toList.drop 47 = dktX0_tie_2 := dk_seg dksX0_tie_1 24 rfl rfl
theorem dX0_tie_0 : decode cX0_tie 0 = .ok (.iload_n 1, 1) := dk_27 (dk_at dksX0_tie_0 0 rfl rfl)
theorem dX0_tie_1 : decode cX0_tie 1 = .ok (.invokestatic 70, 3) := dk_184 0 70 (dk_at dksX0_tie_0 1 rfl rfl)
theorem dX0_tie_4 : decode cX0_tie 4 = .ok (.ifCond .eq 31, 3) := dk_153 0 31 (dk_at dksX0_tie_0 4 rfl rfl)
theorem dX0_tie_7 : decode cX0_tie 7 = .ok (.iload_n 2, 1) := dk_28 (dk_at dksX0_tie_0 7 rfl rfl)
theorem dX0_tie_8 : decode cX0_tie 8 = .ok (.invokestatic 70, 3) := dk_184 0 70 (dk_at dksX0_tie_0 8 rfl rfl)
theorem dX0_tie_11 : decode cX0_tie 11 = .ok (.ifCond .eq 24, 3) := dk_153 0 24 (dk_at dksX0_tie_0 11 rfl rfl)
theorem dX0_tie_14 : decode cX0_tie 14 = .ok (.iload_n 1, 1) := dk_27 (dk_at dksX0_tie_0 14 rfl rfl)
theorem dX0_tie_15 : decode cX0_tie 15 = .ok (.iload_n 2, 1) := dk_28 (dk_at dksX0_tie_0 15 rfl rfl)
theorem dX0_tie_16 : decode cX0_tie 16 = .ok (.if_icmp .eq 19, 3) := dk_159 0 19 (dk_at dksX0_tie_0 16 rfl rfl)
theorem dX0_tie_19 : decode cX0_tie 19 = .ok (.aload_n 0, 1) := dk_42 (dk_at dksX0_tie_0 19 rfl rfl)
theorem dX0_tie_20 : decode cX0_tie 20 = .ok (.getfield 12, 3) := dk_180 0 12 (dk_at dksX0_tie_0 20 rfl rfl)
theorem dX0_tie_23 : decode cX0_tie 23 = .ok (.getfield 74, 3) := dk_180 0 74 (dk_at dksX0_tie_1 0 rfl rfl)
theorem dX0_tie_26 : decode cX0_tie 26 = .ok (.iload_n 1, 1) := dk_27 (dk_at dksX0_tie_1 3 rfl rfl)
theorem dX0_tie_27 : decode cX0_tie 27 = .ok (.iaload, 1) := dk_46 (dk_at dksX0_tie_1 4 rfl rfl)
theorem dX0_tie_28 : decode cX0_tie 28 = .ok (.iload_n 2, 1) := dk_28 (dk_at dksX0_tie_1 5 rfl rfl)
theorem dX0_tie_29 : decode cX0_tie 29 = .ok (.invokestatic 77, 3) := dk_184 0 77 (dk_at dksX0_tie_1 6 rfl rfl)
theorem dX0_tie_32 : decode cX0_tie 32 = .ok (.ifCond .eq 5, 3) := dk_153 0 5 (dk_at dksX0_tie_1 9 rfl rfl)
theorem dX0_tie_35 : decode cX0_tie 35 = .ok (.iconst 0, 1) := dk_3 (dk_at dksX0_tie_1 12 rfl rfl)
theorem dX0_tie_36 : decode cX0_tie 36 = .ok (.ireturn, 1) := dk_172 (dk_at dksX0_tie_1 13 rfl rfl)
theorem dX0_tie_37 : decode cX0_tie 37 = .ok (.aload_n 0, 1) := dk_42 (dk_at dksX0_tie_1 14 rfl rfl)
theorem dX0_tie_38 : decode cX0_tie 38 = .ok (.getfield 12, 3) := dk_180 0 12 (dk_at dksX0_tie_1 15 rfl rfl)
theorem dX0_tie_41 : decode cX0_tie 41 = .ok (.getfield 74, 3) := dk_180 0 74 (dk_at dksX0_tie_1 18 rfl rfl)
theorem dX0_tie_44 : decode cX0_tie 44 = .ok (.iload_n 1, 1) := dk_27 (dk_at dksX0_tie_1 21 rfl rfl)
theorem dX0_tie_45 : decode cX0_tie 45 = .ok (.dup2, 1) := dk_92 (dk_at dksX0_tie_1 22 rfl rfl)
theorem dX0_tie_46 : decode cX0_tie 46 = .ok (.iaload, 1) := dk_46 (dk_at dksX0_tie_1 23 rfl rfl)
theorem dX0_tie_47 : decode cX0_tie 47 = .ok (.iconst 1, 1) := dk_4 (dk_at dksX0_tie_2 0 rfl rfl)
theorem dX0_tie_48 : decode cX0_tie 48 = .ok (.iload_n 2, 1) := dk_28 (dk_at dksX0_tie_2 1 rfl rfl)
theorem dX0_tie_49 : decode cX0_tie 49 = .ok (.ishl, 1) := dk_120 (dk_at dksX0_tie_2 2 rfl rfl)
theorem dX0_tie_50 : decode cX0_tie 50 = .ok (.ior, 1) := dk_128 (dk_at dksX0_tie_2 3 rfl rfl)
theorem dX0_tie_51 : decode cX0_tie 51 = .ok (.iastore, 1) := dk_79 (dk_at dksX0_tie_2 4 rfl rfl)
theorem dX0_tie_52 : decode cX0_tie 52 = .ok (.iconst 1, 1) := dk_4 (dk_at dksX0_tie_2 5 rfl rfl)
theorem dX0_tie_53 : decode cX0_tie 53 = .ok (.ireturn, 1) := dk_172 (dk_at dksX0_tie_2 6 rfl rfl)
def dkwX0_isLetter_0 : List UInt8 := [26, 3, 16, 25, 184, 0, 62, 172]
abbrev dktX0_isLetter_0 : List UInt8 := dkwX0_isLetter_0 ++ []
theorem dksX0_isLetter_0 : cX0_isLetter.data.toList.drop 0 = dktX0_isLetter_0 := by decide +kernel
theorem dX0_isLetter_0 : decode cX0_isLetter 0 = .ok (.iload_n 0, 1) := dk_26 (dk_at dksX0_isLetter_0 0 rfl rfl)
theorem dX0_isLetter_1 : decode cX0_isLetter 1 = .ok (.iconst 0, 1) := dk_3 (dk_at dksX0_isLetter_0 1 rfl rfl)
theorem dX0_isLetter_2 : decode cX0_isLetter 2 = .ok (.bipush 25, 2) := dk_16 25 (dk_at dksX0_isLetter_0 2 rfl rfl)
theorem dX0_isLetter_4 : decode cX0_isLetter 4 = .ok (.invokestatic 62, 3) := dk_184 0 62 (dk_at dksX0_isLetter_0 4 rfl rfl)
theorem dX0_isLetter_7 : decode cX0_isLetter 7 = .ok (.ireturn, 1) := dk_172 (dk_at dksX0_isLetter_0 7 rfl rfl)
def dkwX0_in_0 : List UInt8 := [26, 27, 161, 0, 12, 26, 28, 163, 0, 7, 4, 167, 0, 4, 3, 172]
abbrev dktX0_in_0 : List UInt8 := dkwX0_in_0 ++ []
theorem dksX0_in_0 : cX0_in.data.toList.drop 0 = dktX0_in_0 := by decide +kernel
theorem dX0_in_0 : decode cX0_in 0 = .ok (.iload_n 0, 1) := dk_26 (dk_at dksX0_in_0 0 rfl rfl)
theorem dX0_in_1 : decode cX0_in 1 = .ok (.iload_n 1, 1) := dk_27 (dk_at dksX0_in_0 1 rfl rfl)
theorem dX0_in_2 : decode cX0_in 2 = .ok (.if_icmp .lt 12, 3) := dk_161 0 12 (dk_at dksX0_in_0 2 rfl rfl)
theorem dX0_in_5 : decode cX0_in 5 = .ok (.iload_n 0, 1) := dk_26 (dk_at dksX0_in_0 5 rfl rfl)
theorem dX0_in_6 : decode cX0_in 6 = .ok (.iload_n 2, 1) := dk_28 (dk_at dksX0_in_0 6 rfl rfl)
theorem dX0_in_7 : decode cX0_in 7 = .ok (.if_icmp .gt 7, 3) := dk_163 0 7 (dk_at dksX0_in_0 7 rfl rfl)
theorem dX0_in_10 : decode cX0_in 10 = .ok (.iconst 1, 1) := dk_4 (dk_at dksX0_in_0 10 rfl rfl)
theorem dX0_in_11 : decode cX0_in 11 = .ok (.goto 4, 3) := dk_167 0 4 (dk_at dksX0_in_0 11 rfl rfl)
theorem dX0_in_14 : decode cX0_in 14 = .ok (.iconst 0, 1) := dk_3 (dk_at dksX0_in_0 14 rfl rfl)
theorem dX0_in_15 : decode cX0_in 15 = .ok (.ireturn, 1) := dk_172 (dk_at dksX0_in_0 15 rfl rfl)
def dkwX0_has_0 : List UInt8 := [26, 27, 122, 4, 126, 4, 160, 0, 7, 4, 167, 0, 4, 3, 172]
abbrev dktX0_has_0 : List UInt8 := dkwX0_has_0 ++ []
theorem dksX0_has_0 : cX0_has.data.toList.drop 0 = dktX0_has_0 := by decide +kernel
theorem dX0_has_0 : decode cX0_has 0 = .ok (.iload_n 0, 1) := dk_26 (dk_at dksX0_has_0 0 rfl rfl)
theorem dX0_has_1 : decode cX0_has 1 = .ok (.iload_n 1, 1) := dk_27 (dk_at dksX0_has_0 1 rfl rfl)
theorem dX0_has_2 : decode cX0_has 2 = .ok (.ishr, 1) := dk_122 (dk_at dksX0_has_0 2 rfl rfl)
theorem dX0_has_3 : decode cX0_has 3 = .ok (.iconst 1, 1) := dk_4 (dk_at dksX0_has_0 3 rfl rfl)
theorem dX0_has_4 : decode cX0_has 4 = .ok (.iand, 1) := dk_126 (dk_at dksX0_has_0 4 rfl rfl)
theorem dX0_has_5 : decode cX0_has 5 = .ok (.iconst 1, 1) := dk_4 (dk_at dksX0_has_0 5 rfl rfl)
theorem dX0_has_6 : decode cX0_has 6 = .ok (.if_icmp .ne 7, 3) := dk_160 0 7 (dk_at dksX0_has_0 6 rfl rfl)
theorem dX0_has_9 : decode cX0_has 9 = .ok (.iconst 1, 1) := dk_4 (dk_at dksX0_has_0 9 rfl rfl)
theorem dX0_has_10 : decode cX0_has 10 = .ok (.goto 4, 3) := dk_167 0 4 (dk_at dksX0_has_0 10 rfl rfl)
theorem dX0_has_13 : decode cX0_has 13 = .ok (.iconst 0, 1) := dk_3 (dk_at dksX0_has_0 13 rfl rfl)
theorem dX0_has_14 : decode cX0_has 14 = .ok (.ireturn, 1) := dk_172 (dk_at dksX0_has_0 14 rfl rfl)
def dkwX0_word_5 : List UInt8 := [167, 255, 193, 42, 25, 5, 29, 182, 0, 104, 172]
abbrev dktX0_word_5 : List UInt8 := dkwX0_word_5 ++ []
def dkwX0_word_4 : List UInt8 := [159, 0, 5, 2, 172, 21, 6, 21, 4, 162, 0, 10, 25, 5, 21, 6, 21, 7, 79, 132, 6, 1]
abbrev dktX0_word_4 : List UInt8 := dkwX0_word_4 ++ dktX0_word_5
def dkwX0_word_3 : List UInt8 := [21, 6, 21, 4, 162, 0, 14, 21, 7, 184, 0, 70, 154, 0, 15, 167, 0, 10, 21, 7, 16, 159]
abbrev dktX0_word_3 : List UInt8 := dkwX0_word_3 ++ dktX0_word_4
def dkwX0_word_2 : List UInt8 := [58, 5, 3, 54, 6, 21, 6, 16, 8, 162, 0, 62, 27, 28, 21, 6, 184, 0, 100, 16, 97, 100, 54, 7]
abbrev dktX0_word_2 : List UInt8 := dkwX0_word_2 ++ dktX0_word_3
def dkwX0_word_1 : List UInt8 := [167, 255, 236, 21, 4, 153, 0, 13, 29, 3, 16, 9, 184, 0, 62, 154, 0, 5, 2, 172, 21, 4, 188, 10]
abbrev dktX0_word_1 : List UInt8 := dkwX0_word_1 ++ dktX0_word_2
def dkwX0_word_0 : List UInt8 := [3, 54, 4, 21, 4, 16, 8, 162, 0, 19, 27, 28, 21, 4, 184, 0, 100, 153, 0, 9, 132, 4, 1]
abbrev dktX0_word_0 : List UInt8 := dkwX0_word_0 ++ dktX0_word_1
theorem dksX0_word_0 : cX0_word.data.toList.drop 0 = dktX0_word_0 := by decide +kernel
theorem dksX0_word_1 : cX0_word.data.toList.drop 23 = dktX0_word_1 := dk_seg dksX0_word_0 23 rfl rfl
theorem dksX0_word_2 : cX0_word.data.toList.drop 47 = dktX0_word_2 := dk_seg dksX0_word_1 24 rfl rfl
theorem dksX0_word_3 : cX0_word.data.toList.drop 71 = dktX0_word_3 := dk_seg dksX0_word_2 24 rfl rfl
theorem dksX0_word_4 : cX0_word.data.toList.drop 93 = dktX0_word_4 := dk_seg dksX0_word_3 22 rfl rfl
theorem dksX0_word_5 : cX0_word.data.toList.drop 115 = dktX0_word_5 := dk_seg dksX0_word_4 22 rfl rfl
theorem dX0_word_0 : decode cX0_word 0 = .ok (.iconst 0, 1) := dk_3 (dk_at dksX0_word_0 0 rfl rfl)
theorem dX0_word_1 : decode cX0_word 1 = .ok (.istore 4, 2) := dk_54 4 (dk_at dksX0_word_0 1 rfl rfl)
theorem dX0_word_3 : decode cX0_word 3 = .ok (.iload 4, 2) := dk_21 4 (dk_at dksX0_word_0 3 rfl rfl)
theorem dX0_word_5 : decode cX0_word 5 = .ok (.bipush 8, 2) := dk_16 8 (dk_at dksX0_word_0 5 rfl rfl)
theorem dX0_word_7 : decode cX0_word 7 = .ok (.if_icmp .ge 19, 3) := dk_162 0 19 (dk_at dksX0_word_0 7 rfl rfl)
theorem dX0_word_10 : decode cX0_word 10 = .ok (.iload_n 1, 1) := dk_27 (dk_at dksX0_word_0 10 rfl rfl)
theorem dX0_word_11 : decode cX0_word 11 = .ok (.iload_n 2, 1) := dk_28 (dk_at dksX0_word_0 11 rfl rfl)
theorem dX0_word_12 : decode cX0_word 12 = .ok (.iload 4, 2) := dk_21 4 (dk_at dksX0_word_0 12 rfl rfl)
theorem dX0_word_14 : decode cX0_word 14 = .ok (.invokestatic 100, 3) := dk_184 0 100 (dk_at dksX0_word_0 14 rfl rfl)
theorem dX0_word_17 : decode cX0_word 17 = .ok (.ifCond .eq 9, 3) := dk_153 0 9 (dk_at dksX0_word_0 17 rfl rfl)
theorem dX0_word_20 : decode cX0_word 20 = .ok (.iinc 4 1, 3) := dk_132 4 1 (dk_at dksX0_word_0 20 rfl rfl)
theorem dX0_word_23 : decode cX0_word 23 = .ok (.goto (-20), 3) := dk_167 255 236 (dk_at dksX0_word_1 0 rfl rfl)
theorem dX0_word_26 : decode cX0_word 26 = .ok (.iload 4, 2) := dk_21 4 (dk_at dksX0_word_1 3 rfl rfl)
theorem dX0_word_28 : decode cX0_word 28 = .ok (.ifCond .eq 13, 3) := dk_153 0 13 (dk_at dksX0_word_1 5 rfl rfl)
theorem dX0_word_31 : decode cX0_word 31 = .ok (.iload_n 3, 1) := dk_29 (dk_at dksX0_word_1 8 rfl rfl)
theorem dX0_word_32 : decode cX0_word 32 = .ok (.iconst 0, 1) := dk_3 (dk_at dksX0_word_1 9 rfl rfl)
theorem dX0_word_33 : decode cX0_word 33 = .ok (.bipush 9, 2) := dk_16 9 (dk_at dksX0_word_1 10 rfl rfl)
theorem dX0_word_35 : decode cX0_word 35 = .ok (.invokestatic 62, 3) := dk_184 0 62 (dk_at dksX0_word_1 12 rfl rfl)
theorem dX0_word_38 : decode cX0_word 38 = .ok (.ifCond .ne 5, 3) := dk_154 0 5 (dk_at dksX0_word_1 15 rfl rfl)
theorem dX0_word_41 : decode cX0_word 41 = .ok (.iconst (-1), 1) := dk_2 (dk_at dksX0_word_1 18 rfl rfl)
theorem dX0_word_42 : decode cX0_word 42 = .ok (.ireturn, 1) := dk_172 (dk_at dksX0_word_1 19 rfl rfl)
theorem dX0_word_43 : decode cX0_word 43 = .ok (.iload 4, 2) := dk_21 4 (dk_at dksX0_word_1 20 rfl rfl)
theorem dX0_word_45 : decode cX0_word 45 = .ok (.newarray .int, 2) := dk_188_10 (dk_at dksX0_word_1 22 rfl rfl)
theorem dX0_word_47 : decode cX0_word 47 = .ok (.astore 5, 2) := dk_58 5 (dk_at dksX0_word_2 0 rfl rfl)
theorem dX0_word_49 : decode cX0_word 49 = .ok (.iconst 0, 1) := dk_3 (dk_at dksX0_word_2 2 rfl rfl)
theorem dX0_word_50 : decode cX0_word 50 = .ok (.istore 6, 2) := dk_54 6 (dk_at dksX0_word_2 3 rfl rfl)
theorem dX0_word_52 : decode cX0_word 52 = .ok (.iload 6, 2) := dk_21 6 (dk_at dksX0_word_2 5 rfl rfl)
theorem dX0_word_54 : decode cX0_word 54 = .ok (.bipush 8, 2) := dk_16 8 (dk_at dksX0_word_2 7 rfl rfl)
theorem dX0_word_56 : decode cX0_word 56 = .ok (.if_icmp .ge 62, 3) := dk_162 0 62 (dk_at dksX0_word_2 9 rfl rfl)
theorem dX0_word_59 : decode cX0_word 59 = .ok (.iload_n 1, 1) := dk_27 (dk_at dksX0_word_2 12 rfl rfl)
theorem dX0_word_60 : decode cX0_word 60 = .ok (.iload_n 2, 1) := dk_28 (dk_at dksX0_word_2 13 rfl rfl)
theorem dX0_word_61 : decode cX0_word 61 = .ok (.iload 6, 2) := dk_21 6 (dk_at dksX0_word_2 14 rfl rfl)
theorem dX0_word_63 : decode cX0_word 63 = .ok (.invokestatic 100, 3) := dk_184 0 100 (dk_at dksX0_word_2 16 rfl rfl)
theorem dX0_word_66 : decode cX0_word 66 = .ok (.bipush 97, 2) := dk_16 97 (dk_at dksX0_word_2 19 rfl rfl)
theorem dX0_word_68 : decode cX0_word 68 = .ok (.isub, 1) := dk_100 (dk_at dksX0_word_2 21 rfl rfl)
theorem dX0_word_69 : decode cX0_word 69 = .ok (.istore 7, 2) := dk_54 7 (dk_at dksX0_word_2 22 rfl rfl)
theorem dX0_word_71 : decode cX0_word 71 = .ok (.iload 6, 2) := dk_21 6 (dk_at dksX0_word_3 0 rfl rfl)
theorem dX0_word_73 : decode cX0_word 73 = .ok (.iload 4, 2) := dk_21 4 (dk_at dksX0_word_3 2 rfl rfl)
theorem dX0_word_75 : decode cX0_word 75 = .ok (.if_icmp .ge 14, 3) := dk_162 0 14 (dk_at dksX0_word_3 4 rfl rfl)
theorem dX0_word_78 : decode cX0_word 78 = .ok (.iload 7, 2) := dk_21 7 (dk_at dksX0_word_3 7 rfl rfl)
theorem dX0_word_80 : decode cX0_word 80 = .ok (.invokestatic 70, 3) := dk_184 0 70 (dk_at dksX0_word_3 9 rfl rfl)
theorem dX0_word_83 : decode cX0_word 83 = .ok (.ifCond .ne 15, 3) := dk_154 0 15 (dk_at dksX0_word_3 12 rfl rfl)
theorem dX0_word_86 : decode cX0_word 86 = .ok (.goto 10, 3) := dk_167 0 10 (dk_at dksX0_word_3 15 rfl rfl)
theorem dX0_word_89 : decode cX0_word 89 = .ok (.iload 7, 2) := dk_21 7 (dk_at dksX0_word_3 18 rfl rfl)
theorem dX0_word_91 : decode cX0_word 91 = .ok (.bipush (-97), 2) := dk_16 159 (dk_at dksX0_word_3 20 rfl rfl)
theorem dX0_word_93 : decode cX0_word 93 = .ok (.if_icmp .eq 5, 3) := dk_159 0 5 (dk_at dksX0_word_4 0 rfl rfl)
theorem dX0_word_96 : decode cX0_word 96 = .ok (.iconst (-1), 1) := dk_2 (dk_at dksX0_word_4 3 rfl rfl)
theorem dX0_word_97 : decode cX0_word 97 = .ok (.ireturn, 1) := dk_172 (dk_at dksX0_word_4 4 rfl rfl)
theorem dX0_word_98 : decode cX0_word 98 = .ok (.iload 6, 2) := dk_21 6 (dk_at dksX0_word_4 5 rfl rfl)
theorem dX0_word_100 : decode cX0_word 100 = .ok (.iload 4, 2) := dk_21 4 (dk_at dksX0_word_4 7 rfl rfl)
theorem dX0_word_102 : decode cX0_word 102 = .ok (.if_icmp .ge 10, 3) := dk_162 0 10 (dk_at dksX0_word_4 9 rfl rfl)
theorem dX0_word_105 : decode cX0_word 105 = .ok (.aload 5, 2) := dk_25 5 (dk_at dksX0_word_4 12 rfl rfl)
theorem dX0_word_107 : decode cX0_word 107 = .ok (.iload 6, 2) := dk_21 6 (dk_at dksX0_word_4 14 rfl rfl)
theorem dX0_word_109 : decode cX0_word 109 = .ok (.iload 7, 2) := dk_21 7 (dk_at dksX0_word_4 16 rfl rfl)
theorem dX0_word_111 : decode cX0_word 111 = .ok (.iastore, 1) := dk_79 (dk_at dksX0_word_4 18 rfl rfl)
theorem dX0_word_112 : decode cX0_word 112 = .ok (.iinc 6 1, 3) := dk_132 6 1 (dk_at dksX0_word_4 19 rfl rfl)
theorem dX0_word_115 : decode cX0_word 115 = .ok (.goto (-63), 3) := dk_167 255 193 (dk_at dksX0_word_5 0 rfl rfl)
theorem dX0_word_118 : decode cX0_word 118 = .ok (.aload_n 0, 1) := dk_42 (dk_at dksX0_word_5 3 rfl rfl)
theorem dX0_word_119 : decode cX0_word 119 = .ok (.aload 5, 2) := dk_25 5 (dk_at dksX0_word_5 4 rfl rfl)
theorem dX0_word_121 : decode cX0_word 121 = .ok (.iload_n 3, 1) := dk_29 (dk_at dksX0_word_5 6 rfl rfl)
theorem dX0_word_122 : decode cX0_word 122 = .ok (.invokevirtual 104, 3) := dk_182 0 104 (dk_at dksX0_word_5 7 rfl rfl)
theorem dX0_word_125 : decode cX0_word 125 = .ok (.ireturn, 1) := dk_172 (dk_at dksX0_word_5 10 rfl rfl)
def dkwX0_byteOf_0 : List UInt8 := [28, 7, 162, 0, 7, 26, 167, 0, 4, 27, 16, 8, 28, 7, 112, 104, 122, 17, 0, 255, 126, 172]
abbrev dktX0_byteOf_0 : List UInt8 := dkwX0_byteOf_0 ++ []
theorem dksX0_byteOf_0 : cX0_byteOf.data.toList.drop 0 = dktX0_byteOf_0 := by decide +kernel
theorem dX0_byteOf_0 : decode cX0_byteOf 0 = .ok (.iload_n 2, 1) := dk_28 (dk_at dksX0_byteOf_0 0 rfl rfl)
theorem dX0_byteOf_1 : decode cX0_byteOf 1 = .ok (.iconst 4, 1) := dk_7 (dk_at dksX0_byteOf_0 1 rfl rfl)
theorem dX0_byteOf_2 : decode cX0_byteOf 2 = .ok (.if_icmp .ge 7, 3) := dk_162 0 7 (dk_at dksX0_byteOf_0 2 rfl rfl)
theorem dX0_byteOf_5 : decode cX0_byteOf 5 = .ok (.iload_n 0, 1) := dk_26 (dk_at dksX0_byteOf_0 5 rfl rfl)
theorem dX0_byteOf_6 : decode cX0_byteOf 6 = .ok (.goto 4, 3) := dk_167 0 4 (dk_at dksX0_byteOf_0 6 rfl rfl)
theorem dX0_byteOf_9 : decode cX0_byteOf 9 = .ok (.iload_n 1, 1) := dk_27 (dk_at dksX0_byteOf_0 9 rfl rfl)
theorem dX0_byteOf_10 : decode cX0_byteOf 10 = .ok (.bipush 8, 2) := dk_16 8 (dk_at dksX0_byteOf_0 10 rfl rfl)
theorem dX0_byteOf_12 : decode cX0_byteOf 12 = .ok (.iload_n 2, 1) := dk_28 (dk_at dksX0_byteOf_0 12 rfl rfl)
theorem dX0_byteOf_13 : decode cX0_byteOf 13 = .ok (.iconst 4, 1) := dk_7 (dk_at dksX0_byteOf_0 13 rfl rfl)
theorem dX0_byteOf_14 : decode cX0_byteOf 14 = .ok (.irem, 1) := dk_112 (dk_at dksX0_byteOf_0 14 rfl rfl)
theorem dX0_byteOf_15 : decode cX0_byteOf 15 = .ok (.imul, 1) := dk_104 (dk_at dksX0_byteOf_0 15 rfl rfl)
theorem dX0_byteOf_16 : decode cX0_byteOf 16 = .ok (.ishr, 1) := dk_122 (dk_at dksX0_byteOf_0 16 rfl rfl)
theorem dX0_byteOf_17 : decode cX0_byteOf 17 = .ok (.sipush 255, 3) := dk_17 0 255 (dk_at dksX0_byteOf_0 17 rfl rfl)
theorem dX0_byteOf_20 : decode cX0_byteOf 20 = .ok (.iand, 1) := dk_126 (dk_at dksX0_byteOf_0 20 rfl rfl)
theorem dX0_byteOf_21 : decode cX0_byteOf 21 = .ok (.ireturn, 1) := dk_172 (dk_at dksX0_byteOf_0 21 rfl rfl)
def dkwX0_adds_6 : List UInt8 := [42, 180, 0, 12, 180, 0, 66, 3, 46, 4, 100, 172]
abbrev dktX0_adds_6 : List UInt8 := dkwX0_adds_6 ++ []
def dkwX0_adds_5 : List UInt8 := [187, 0, 86, 89, 43, 29, 28, 183, 0, 97, 83, 42, 180, 0, 12, 180, 0, 66, 3, 92, 46, 4, 96, 79]
abbrev dktX0_adds_5 : List UInt8 := dkwX0_adds_5 ++ dktX0_adds_6
def dkwX0_adds_4 : List UInt8 := [172, 132, 4, 1, 167, 255, 217, 42, 180, 0, 12, 180, 0, 81, 42, 180, 0, 12, 180, 0, 66, 3, 46]
abbrev dktX0_adds_4 : List UInt8 := dkwX0_adds_4 ++ dktX0_adds_5
def dkwX0_adds_3 : List UInt8 := [162, 0, 31, 42, 180, 0, 12, 180, 0, 81, 21, 4, 50, 182, 0, 85, 43, 184, 0, 91, 153, 0, 5, 2]
abbrev dktX0_adds_3 : List UInt8 := dkwX0_adds_3 ++ dktX0_adds_4
def dkwX0_adds_2 : List UInt8 := [128, 62, 132, 6, 1, 167, 255, 232, 3, 54, 4, 21, 4, 42, 180, 0, 12, 180, 0, 66, 3, 46]
abbrev dktX0_adds_2 : List UInt8 := dkwX0_adds_2 ++ dktX0_adds_3
def dkwX0_adds_1 : List UInt8 := [54, 5, 3, 54, 6, 21, 6, 21, 5, 162, 0, 23, 25, 4, 21, 6, 46, 54, 7, 29, 4, 21, 7, 120]
abbrev dktX0_adds_1 : List UInt8 := dkwX0_adds_1 ++ dktX0_adds_2
def dkwX0_adds_0 : List UInt8 := [42, 180, 0, 12, 180, 0, 66, 3, 46, 16, 24, 160, 0, 5, 2, 172, 3, 62, 43, 58, 4, 25, 4, 190]
abbrev dktX0_adds_0 : List UInt8 := dkwX0_adds_0 ++ dktX0_adds_1
theorem dksX0_adds_0 : cX0_adds.data.toList.drop 0 = dktX0_adds_0 := by decide +kernel
theorem dksX0_adds_1 : cX0_adds.data.toList.drop 24 = dktX0_adds_1 := dk_seg dksX0_adds_0 24 rfl rfl
theorem dksX0_adds_2 : cX0_adds.data.toList.drop 48 = dktX0_adds_2 := dk_seg dksX0_adds_1 24 rfl rfl
theorem dksX0_adds_3 : cX0_adds.data.toList.drop 70 = dktX0_adds_3 := dk_seg dksX0_adds_2 22 rfl rfl
theorem dksX0_adds_4 : cX0_adds.data.toList.drop 94 = dktX0_adds_4 := dk_seg dksX0_adds_3 24 rfl rfl
theorem dksX0_adds_5 : cX0_adds.data.toList.drop 117 = dktX0_adds_5 := dk_seg dksX0_adds_4 23 rfl rfl
theorem dksX0_adds_6 : cX0_adds.data.toList.drop 141 = dktX0_adds_6 := dk_seg dksX0_adds_5 24 rfl rfl
theorem dX0_adds_0 : decode cX0_adds 0 = .ok (.aload_n 0, 1) := dk_42 (dk_at dksX0_adds_0 0 rfl rfl)
theorem dX0_adds_1 : decode cX0_adds 1 = .ok (.getfield 12, 3) := dk_180 0 12 (dk_at dksX0_adds_0 1 rfl rfl)
theorem dX0_adds_4 : decode cX0_adds 4 = .ok (.getfield 66, 3) := dk_180 0 66 (dk_at dksX0_adds_0 4 rfl rfl)
theorem dX0_adds_7 : decode cX0_adds 7 = .ok (.iconst 0, 1) := dk_3 (dk_at dksX0_adds_0 7 rfl rfl)
theorem dX0_adds_8 : decode cX0_adds 8 = .ok (.iaload, 1) := dk_46 (dk_at dksX0_adds_0 8 rfl rfl)
theorem dX0_adds_9 : decode cX0_adds 9 = .ok (.bipush 24, 2) := dk_16 24 (dk_at dksX0_adds_0 9 rfl rfl)
theorem dX0_adds_11 : decode cX0_adds 11 = .ok (.if_icmp .ne 5, 3) := dk_160 0 5 (dk_at dksX0_adds_0 11 rfl rfl)
theorem dX0_adds_14 : decode cX0_adds 14 = .ok (.iconst (-1), 1) := dk_2 (dk_at dksX0_adds_0 14 rfl rfl)
theorem dX0_adds_15 : decode cX0_adds 15 = .ok (.ireturn, 1) := dk_172 (dk_at dksX0_adds_0 15 rfl rfl)
theorem dX0_adds_16 : decode cX0_adds 16 = .ok (.iconst 0, 1) := dk_3 (dk_at dksX0_adds_0 16 rfl rfl)
theorem dX0_adds_17 : decode cX0_adds 17 = .ok (.istore_n 3, 1) := dk_62 (dk_at dksX0_adds_0 17 rfl rfl)
theorem dX0_adds_18 : decode cX0_adds 18 = .ok (.aload_n 1, 1) := dk_43 (dk_at dksX0_adds_0 18 rfl rfl)
theorem dX0_adds_19 : decode cX0_adds 19 = .ok (.astore 4, 2) := dk_58 4 (dk_at dksX0_adds_0 19 rfl rfl)
theorem dX0_adds_21 : decode cX0_adds 21 = .ok (.aload 4, 2) := dk_25 4 (dk_at dksX0_adds_0 21 rfl rfl)
theorem dX0_adds_23 : decode cX0_adds 23 = .ok (.arraylength, 1) := dk_190 (dk_at dksX0_adds_0 23 rfl rfl)
theorem dX0_adds_24 : decode cX0_adds 24 = .ok (.istore 5, 2) := dk_54 5 (dk_at dksX0_adds_1 0 rfl rfl)
theorem dX0_adds_26 : decode cX0_adds 26 = .ok (.iconst 0, 1) := dk_3 (dk_at dksX0_adds_1 2 rfl rfl)
theorem dX0_adds_27 : decode cX0_adds 27 = .ok (.istore 6, 2) := dk_54 6 (dk_at dksX0_adds_1 3 rfl rfl)
theorem dX0_adds_29 : decode cX0_adds 29 = .ok (.iload 6, 2) := dk_21 6 (dk_at dksX0_adds_1 5 rfl rfl)
theorem dX0_adds_31 : decode cX0_adds 31 = .ok (.iload 5, 2) := dk_21 5 (dk_at dksX0_adds_1 7 rfl rfl)
theorem dX0_adds_33 : decode cX0_adds 33 = .ok (.if_icmp .ge 23, 3) := dk_162 0 23 (dk_at dksX0_adds_1 9 rfl rfl)
theorem dX0_adds_36 : decode cX0_adds 36 = .ok (.aload 4, 2) := dk_25 4 (dk_at dksX0_adds_1 12 rfl rfl)
theorem dX0_adds_38 : decode cX0_adds 38 = .ok (.iload 6, 2) := dk_21 6 (dk_at dksX0_adds_1 14 rfl rfl)
theorem dX0_adds_40 : decode cX0_adds 40 = .ok (.iaload, 1) := dk_46 (dk_at dksX0_adds_1 16 rfl rfl)
theorem dX0_adds_41 : decode cX0_adds 41 = .ok (.istore 7, 2) := dk_54 7 (dk_at dksX0_adds_1 17 rfl rfl)
theorem dX0_adds_43 : decode cX0_adds 43 = .ok (.iload_n 3, 1) := dk_29 (dk_at dksX0_adds_1 19 rfl rfl)
theorem dX0_adds_44 : decode cX0_adds 44 = .ok (.iconst 1, 1) := dk_4 (dk_at dksX0_adds_1 20 rfl rfl)
theorem dX0_adds_45 : decode cX0_adds 45 = .ok (.iload 7, 2) := dk_21 7 (dk_at dksX0_adds_1 21 rfl rfl)
theorem dX0_adds_47 : decode cX0_adds 47 = .ok (.ishl, 1) := dk_120 (dk_at dksX0_adds_1 23 rfl rfl)
theorem dX0_adds_48 : decode cX0_adds 48 = .ok (.ior, 1) := dk_128 (dk_at dksX0_adds_2 0 rfl rfl)
theorem dX0_adds_49 : decode cX0_adds 49 = .ok (.istore_n 3, 1) := dk_62 (dk_at dksX0_adds_2 1 rfl rfl)
theorem dX0_adds_50 : decode cX0_adds 50 = .ok (.iinc 6 1, 3) := dk_132 6 1 (dk_at dksX0_adds_2 2 rfl rfl)
theorem dX0_adds_53 : decode cX0_adds 53 = .ok (.goto (-24), 3) := dk_167 255 232 (dk_at dksX0_adds_2 5 rfl rfl)
theorem dX0_adds_56 : decode cX0_adds 56 = .ok (.iconst 0, 1) := dk_3 (dk_at dksX0_adds_2 8 rfl rfl)
theorem dX0_adds_57 : decode cX0_adds 57 = .ok (.istore 4, 2) := dk_54 4 (dk_at dksX0_adds_2 9 rfl rfl)
theorem dX0_adds_59 : decode cX0_adds 59 = .ok (.iload 4, 2) := dk_21 4 (dk_at dksX0_adds_2 11 rfl rfl)
theorem dX0_adds_61 : decode cX0_adds 61 = .ok (.aload_n 0, 1) := dk_42 (dk_at dksX0_adds_2 13 rfl rfl)
theorem dX0_adds_62 : decode cX0_adds 62 = .ok (.getfield 12, 3) := dk_180 0 12 (dk_at dksX0_adds_2 14 rfl rfl)
theorem dX0_adds_65 : decode cX0_adds 65 = .ok (.getfield 66, 3) := dk_180 0 66 (dk_at dksX0_adds_2 17 rfl rfl)
theorem dX0_adds_68 : decode cX0_adds 68 = .ok (.iconst 0, 1) := dk_3 (dk_at dksX0_adds_2 20 rfl rfl)
theorem dX0_adds_69 : decode cX0_adds 69 = .ok (.iaload, 1) := dk_46 (dk_at dksX0_adds_2 21 rfl rfl)
theorem dX0_adds_70 : decode cX0_adds 70 = .ok (.if_icmp .ge 31, 3) := dk_162 0 31 (dk_at dksX0_adds_3 0 rfl rfl)
theorem dX0_adds_73 : decode cX0_adds 73 = .ok (.aload_n 0, 1) := dk_42 (dk_at dksX0_adds_3 3 rfl rfl)
theorem dX0_adds_74 : decode cX0_adds 74 = .ok (.getfield 12, 3) := dk_180 0 12 (dk_at dksX0_adds_3 4 rfl rfl)
theorem dX0_adds_77 : decode cX0_adds 77 = .ok (.getfield 81, 3) := dk_180 0 81 (dk_at dksX0_adds_3 7 rfl rfl)
theorem dX0_adds_80 : decode cX0_adds 80 = .ok (.iload 4, 2) := dk_21 4 (dk_at dksX0_adds_3 10 rfl rfl)
theorem dX0_adds_82 : decode cX0_adds 82 = .ok (.aaload, 1) := dk_50 (dk_at dksX0_adds_3 12 rfl rfl)
theorem dX0_adds_83 : decode cX0_adds 83 = .ok (.invokevirtual 85, 3) := dk_182 0 85 (dk_at dksX0_adds_3 13 rfl rfl)
theorem dX0_adds_86 : decode cX0_adds 86 = .ok (.aload_n 1, 1) := dk_43 (dk_at dksX0_adds_3 16 rfl rfl)
theorem dX0_adds_87 : decode cX0_adds 87 = .ok (.invokestatic 91, 3) := dk_184 0 91 (dk_at dksX0_adds_3 17 rfl rfl)
theorem dX0_adds_90 : decode cX0_adds 90 = .ok (.ifCond .eq 5, 3) := dk_153 0 5 (dk_at dksX0_adds_3 20 rfl rfl)
theorem dX0_adds_93 : decode cX0_adds 93 = .ok (.iconst (-1), 1) := dk_2 (dk_at dksX0_adds_3 23 rfl rfl)
theorem dX0_adds_94 : decode cX0_adds 94 = .ok (.ireturn, 1) := dk_172 (dk_at dksX0_adds_4 0 rfl rfl)
theorem dX0_adds_95 : decode cX0_adds 95 = .ok (.iinc 4 1, 3) := dk_132 4 1 (dk_at dksX0_adds_4 1 rfl rfl)
theorem dX0_adds_98 : decode cX0_adds 98 = .ok (.goto (-39), 3) := dk_167 255 217 (dk_at dksX0_adds_4 4 rfl rfl)
theorem dX0_adds_101 : decode cX0_adds 101 = .ok (.aload_n 0, 1) := dk_42 (dk_at dksX0_adds_4 7 rfl rfl)
theorem dX0_adds_102 : decode cX0_adds 102 = .ok (.getfield 12, 3) := dk_180 0 12 (dk_at dksX0_adds_4 8 rfl rfl)
theorem dX0_adds_105 : decode cX0_adds 105 = .ok (.getfield 81, 3) := dk_180 0 81 (dk_at dksX0_adds_4 11 rfl rfl)
theorem dX0_adds_108 : decode cX0_adds 108 = .ok (.aload_n 0, 1) := dk_42 (dk_at dksX0_adds_4 14 rfl rfl)
theorem dX0_adds_109 : decode cX0_adds 109 = .ok (.getfield 12, 3) := dk_180 0 12 (dk_at dksX0_adds_4 15 rfl rfl)
theorem dX0_adds_112 : decode cX0_adds 112 = .ok (.getfield 66, 3) := dk_180 0 66 (dk_at dksX0_adds_4 18 rfl rfl)
theorem dX0_adds_115 : decode cX0_adds 115 = .ok (.iconst 0, 1) := dk_3 (dk_at dksX0_adds_4 21 rfl rfl)
theorem dX0_adds_116 : decode cX0_adds 116 = .ok (.iaload, 1) := dk_46 (dk_at dksX0_adds_4 22 rfl rfl)
theorem dX0_adds_117 : decode cX0_adds 117 = .ok (.new 86, 3) := dk_187 0 86 (dk_at dksX0_adds_5 0 rfl rfl)
theorem dX0_adds_120 : decode cX0_adds 120 = .ok (.dup, 1) := dk_89 (dk_at dksX0_adds_5 3 rfl rfl)
theorem dX0_adds_121 : decode cX0_adds 121 = .ok (.aload_n 1, 1) := dk_43 (dk_at dksX0_adds_5 4 rfl rfl)
theorem dX0_adds_122 : decode cX0_adds 122 = .ok (.iload_n 3, 1) := dk_29 (dk_at dksX0_adds_5 5 rfl rfl)
theorem dX0_adds_123 : decode cX0_adds 123 = .ok (.iload_n 2, 1) := dk_28 (dk_at dksX0_adds_5 6 rfl rfl)
theorem dX0_adds_124 : decode cX0_adds 124 = .ok (.invokespecial 97, 3) := dk_183 0 97 (dk_at dksX0_adds_5 7 rfl rfl)
theorem dX0_adds_127 : decode cX0_adds 127 = .ok (.aastore, 1) := dk_83 (dk_at dksX0_adds_5 10 rfl rfl)
theorem dX0_adds_128 : decode cX0_adds 128 = .ok (.aload_n 0, 1) := dk_42 (dk_at dksX0_adds_5 11 rfl rfl)
theorem dX0_adds_129 : decode cX0_adds 129 = .ok (.getfield 12, 3) := dk_180 0 12 (dk_at dksX0_adds_5 12 rfl rfl)
theorem dX0_adds_132 : decode cX0_adds 132 = .ok (.getfield 66, 3) := dk_180 0 66 (dk_at dksX0_adds_5 15 rfl rfl)
theorem dX0_adds_135 : decode cX0_adds 135 = .ok (.iconst 0, 1) := dk_3 (dk_at dksX0_adds_5 18 rfl rfl)
theorem dX0_adds_136 : decode cX0_adds 136 = .ok (.dup2, 1) := dk_92 (dk_at dksX0_adds_5 19 rfl rfl)
theorem dX0_adds_137 : decode cX0_adds 137 = .ok (.iaload, 1) := dk_46 (dk_at dksX0_adds_5 20 rfl rfl)
theorem dX0_adds_138 : decode cX0_adds 138 = .ok (.iconst 1, 1) := dk_4 (dk_at dksX0_adds_5 21 rfl rfl)
theorem dX0_adds_139 : decode cX0_adds 139 = .ok (.iadd, 1) := dk_96 (dk_at dksX0_adds_5 22 rfl rfl)
theorem dX0_adds_140 : decode cX0_adds 140 = .ok (.iastore, 1) := dk_79 (dk_at dksX0_adds_5 23 rfl rfl)
theorem dX0_adds_141 : decode cX0_adds 141 = .ok (.aload_n 0, 1) := dk_42 (dk_at dksX0_adds_6 0 rfl rfl)
theorem dX0_adds_142 : decode cX0_adds 142 = .ok (.getfield 12, 3) := dk_180 0 12 (dk_at dksX0_adds_6 1 rfl rfl)
theorem dX0_adds_145 : decode cX0_adds 145 = .ok (.getfield 66, 3) := dk_180 0 66 (dk_at dksX0_adds_6 4 rfl rfl)
theorem dX0_adds_148 : decode cX0_adds 148 = .ok (.iconst 0, 1) := dk_3 (dk_at dksX0_adds_6 7 rfl rfl)
theorem dX0_adds_149 : decode cX0_adds 149 = .ok (.iaload, 1) := dk_46 (dk_at dksX0_adds_6 8 rfl rfl)
theorem dX0_adds_150 : decode cX0_adds 150 = .ok (.iconst 1, 1) := dk_4 (dk_at dksX0_adds_6 9 rfl rfl)
theorem dX0_adds_151 : decode cX0_adds 151 = .ok (.isub, 1) := dk_100 (dk_at dksX0_adds_6 10 rfl rfl)
theorem dX0_adds_152 : decode cX0_adds 152 = .ok (.ireturn, 1) := dk_172 (dk_at dksX0_adds_6 11 rfl rfl)
def dkwX0_saying_3 : List UInt8 := [79, 132, 5, 255, 21, 6, 16, 10, 108, 54, 6, 167, 255, 231, 42, 25, 4, 182, 0, 112, 172]
abbrev dktX0_saying_3 : List UInt8 := dkwX0_saying_3 ++ []
def dkwX0_saying_2 : List UInt8 := [58, 4, 28, 4, 100, 54, 5, 27, 54, 6, 21, 5, 155, 0, 26, 25, 4, 21, 5, 21, 6, 16, 10, 112]
abbrev dktX0_saying_2 : List UInt8 := dkwX0_saying_2 ++ dktX0_saying_3
def dkwX0_saying_1 : List UInt8 := [16, 10, 161, 0, 16, 28, 16, 8, 163, 0, 10, 27, 29, 108, 4, 159, 0, 5, 2, 172, 28, 188, 10]
abbrev dktX0_saying_1 : List UInt8 := dkwX0_saying_1 ++ dktX0_saying_2
def dkwX0_saying_0 : List UInt8 := [3, 61, 4, 62, 27, 29, 108, 16, 9, 164, 0, 14, 29, 16, 10, 104, 62, 132, 2, 1, 167, 255, 240, 27]
abbrev dktX0_saying_0 : List UInt8 := dkwX0_saying_0 ++ dktX0_saying_1
theorem dksX0_saying_0 : cX0_saying.data.toList.drop 0 = dktX0_saying_0 := by decide +kernel
theorem dksX0_saying_1 : cX0_saying.data.toList.drop 24 = dktX0_saying_1 := dk_seg dksX0_saying_0 24 rfl rfl
theorem dksX0_saying_2 : cX0_saying.data.toList.drop 47 = dktX0_saying_2 := dk_seg dksX0_saying_1 23 rfl rfl
theorem dksX0_saying_3 : cX0_saying.data.toList.drop 71 = dktX0_saying_3 := dk_seg dksX0_saying_2 24 rfl rfl
theorem dX0_saying_0 : decode cX0_saying 0 = .ok (.iconst 0, 1) := dk_3 (dk_at dksX0_saying_0 0 rfl rfl)
theorem dX0_saying_1 : decode cX0_saying 1 = .ok (.istore_n 2, 1) := dk_61 (dk_at dksX0_saying_0 1 rfl rfl)
theorem dX0_saying_2 : decode cX0_saying 2 = .ok (.iconst 1, 1) := dk_4 (dk_at dksX0_saying_0 2 rfl rfl)
theorem dX0_saying_3 : decode cX0_saying 3 = .ok (.istore_n 3, 1) := dk_62 (dk_at dksX0_saying_0 3 rfl rfl)
theorem dX0_saying_4 : decode cX0_saying 4 = .ok (.iload_n 1, 1) := dk_27 (dk_at dksX0_saying_0 4 rfl rfl)
theorem dX0_saying_5 : decode cX0_saying 5 = .ok (.iload_n 3, 1) := dk_29 (dk_at dksX0_saying_0 5 rfl rfl)
theorem dX0_saying_6 : decode cX0_saying 6 = .ok (.idiv, 1) := dk_108 (dk_at dksX0_saying_0 6 rfl rfl)
theorem dX0_saying_7 : decode cX0_saying 7 = .ok (.bipush 9, 2) := dk_16 9 (dk_at dksX0_saying_0 7 rfl rfl)
theorem dX0_saying_9 : decode cX0_saying 9 = .ok (.if_icmp .le 14, 3) := dk_164 0 14 (dk_at dksX0_saying_0 9 rfl rfl)
theorem dX0_saying_12 : decode cX0_saying 12 = .ok (.iload_n 3, 1) := dk_29 (dk_at dksX0_saying_0 12 rfl rfl)
theorem dX0_saying_13 : decode cX0_saying 13 = .ok (.bipush 10, 2) := dk_16 10 (dk_at dksX0_saying_0 13 rfl rfl)
theorem dX0_saying_15 : decode cX0_saying 15 = .ok (.imul, 1) := dk_104 (dk_at dksX0_saying_0 15 rfl rfl)
theorem dX0_saying_16 : decode cX0_saying 16 = .ok (.istore_n 3, 1) := dk_62 (dk_at dksX0_saying_0 16 rfl rfl)
theorem dX0_saying_17 : decode cX0_saying 17 = .ok (.iinc 2 1, 3) := dk_132 2 1 (dk_at dksX0_saying_0 17 rfl rfl)
theorem dX0_saying_20 : decode cX0_saying 20 = .ok (.goto (-16), 3) := dk_167 255 240 (dk_at dksX0_saying_0 20 rfl rfl)
theorem dX0_saying_23 : decode cX0_saying 23 = .ok (.iload_n 1, 1) := dk_27 (dk_at dksX0_saying_0 23 rfl rfl)
theorem dX0_saying_24 : decode cX0_saying 24 = .ok (.bipush 10, 2) := dk_16 10 (dk_at dksX0_saying_1 0 rfl rfl)
theorem dX0_saying_26 : decode cX0_saying 26 = .ok (.if_icmp .lt 16, 3) := dk_161 0 16 (dk_at dksX0_saying_1 2 rfl rfl)
theorem dX0_saying_29 : decode cX0_saying 29 = .ok (.iload_n 2, 1) := dk_28 (dk_at dksX0_saying_1 5 rfl rfl)
theorem dX0_saying_30 : decode cX0_saying 30 = .ok (.bipush 8, 2) := dk_16 8 (dk_at dksX0_saying_1 6 rfl rfl)
theorem dX0_saying_32 : decode cX0_saying 32 = .ok (.if_icmp .gt 10, 3) := dk_163 0 10 (dk_at dksX0_saying_1 8 rfl rfl)
theorem dX0_saying_35 : decode cX0_saying 35 = .ok (.iload_n 1, 1) := dk_27 (dk_at dksX0_saying_1 11 rfl rfl)
theorem dX0_saying_36 : decode cX0_saying 36 = .ok (.iload_n 3, 1) := dk_29 (dk_at dksX0_saying_1 12 rfl rfl)
theorem dX0_saying_37 : decode cX0_saying 37 = .ok (.idiv, 1) := dk_108 (dk_at dksX0_saying_1 13 rfl rfl)
theorem dX0_saying_38 : decode cX0_saying 38 = .ok (.iconst 1, 1) := dk_4 (dk_at dksX0_saying_1 14 rfl rfl)
theorem dX0_saying_39 : decode cX0_saying 39 = .ok (.if_icmp .eq 5, 3) := dk_159 0 5 (dk_at dksX0_saying_1 15 rfl rfl)
theorem dX0_saying_42 : decode cX0_saying 42 = .ok (.iconst (-1), 1) := dk_2 (dk_at dksX0_saying_1 18 rfl rfl)
theorem dX0_saying_43 : decode cX0_saying 43 = .ok (.ireturn, 1) := dk_172 (dk_at dksX0_saying_1 19 rfl rfl)
theorem dX0_saying_44 : decode cX0_saying 44 = .ok (.iload_n 2, 1) := dk_28 (dk_at dksX0_saying_1 20 rfl rfl)
theorem dX0_saying_45 : decode cX0_saying 45 = .ok (.newarray .int, 2) := dk_188_10 (dk_at dksX0_saying_1 21 rfl rfl)
theorem dX0_saying_47 : decode cX0_saying 47 = .ok (.astore 4, 2) := dk_58 4 (dk_at dksX0_saying_2 0 rfl rfl)
theorem dX0_saying_49 : decode cX0_saying 49 = .ok (.iload_n 2, 1) := dk_28 (dk_at dksX0_saying_2 2 rfl rfl)
theorem dX0_saying_50 : decode cX0_saying 50 = .ok (.iconst 1, 1) := dk_4 (dk_at dksX0_saying_2 3 rfl rfl)
theorem dX0_saying_51 : decode cX0_saying 51 = .ok (.isub, 1) := dk_100 (dk_at dksX0_saying_2 4 rfl rfl)
theorem dX0_saying_52 : decode cX0_saying 52 = .ok (.istore 5, 2) := dk_54 5 (dk_at dksX0_saying_2 5 rfl rfl)
theorem dX0_saying_54 : decode cX0_saying 54 = .ok (.iload_n 1, 1) := dk_27 (dk_at dksX0_saying_2 7 rfl rfl)
theorem dX0_saying_55 : decode cX0_saying 55 = .ok (.istore 6, 2) := dk_54 6 (dk_at dksX0_saying_2 8 rfl rfl)
theorem dX0_saying_57 : decode cX0_saying 57 = .ok (.iload 5, 2) := dk_21 5 (dk_at dksX0_saying_2 10 rfl rfl)
theorem dX0_saying_59 : decode cX0_saying 59 = .ok (.ifCond .lt 26, 3) := dk_155 0 26 (dk_at dksX0_saying_2 12 rfl rfl)
theorem dX0_saying_62 : decode cX0_saying 62 = .ok (.aload 4, 2) := dk_25 4 (dk_at dksX0_saying_2 15 rfl rfl)
theorem dX0_saying_64 : decode cX0_saying 64 = .ok (.iload 5, 2) := dk_21 5 (dk_at dksX0_saying_2 17 rfl rfl)
theorem dX0_saying_66 : decode cX0_saying 66 = .ok (.iload 6, 2) := dk_21 6 (dk_at dksX0_saying_2 19 rfl rfl)
theorem dX0_saying_68 : decode cX0_saying 68 = .ok (.bipush 10, 2) := dk_16 10 (dk_at dksX0_saying_2 21 rfl rfl)
theorem dX0_saying_70 : decode cX0_saying 70 = .ok (.irem, 1) := dk_112 (dk_at dksX0_saying_2 23 rfl rfl)
theorem dX0_saying_71 : decode cX0_saying 71 = .ok (.iastore, 1) := dk_79 (dk_at dksX0_saying_3 0 rfl rfl)
theorem dX0_saying_72 : decode cX0_saying 72 = .ok (.iinc 5 (-1), 3) := dk_132 5 255 (dk_at dksX0_saying_3 1 rfl rfl)
theorem dX0_saying_75 : decode cX0_saying 75 = .ok (.iload 6, 2) := dk_21 6 (dk_at dksX0_saying_3 4 rfl rfl)
theorem dX0_saying_77 : decode cX0_saying 77 = .ok (.bipush 10, 2) := dk_16 10 (dk_at dksX0_saying_3 6 rfl rfl)
theorem dX0_saying_79 : decode cX0_saying 79 = .ok (.idiv, 1) := dk_108 (dk_at dksX0_saying_3 8 rfl rfl)
theorem dX0_saying_80 : decode cX0_saying 80 = .ok (.istore 6, 2) := dk_54 6 (dk_at dksX0_saying_3 9 rfl rfl)
theorem dX0_saying_82 : decode cX0_saying 82 = .ok (.goto (-25), 3) := dk_167 255 231 (dk_at dksX0_saying_3 11 rfl rfl)
theorem dX0_saying_85 : decode cX0_saying 85 = .ok (.aload_n 0, 1) := dk_42 (dk_at dksX0_saying_3 14 rfl rfl)
theorem dX0_saying_86 : decode cX0_saying 86 = .ok (.aload 4, 2) := dk_25 4 (dk_at dksX0_saying_3 15 rfl rfl)
theorem dX0_saying_88 : decode cX0_saying 88 = .ok (.invokevirtual 112, 3) := dk_182 0 112 (dk_at dksX0_saying_3 17 rfl rfl)
theorem dX0_saying_91 : decode cX0_saying 91 = .ok (.ireturn, 1) := dk_172 (dk_at dksX0_saying_3 20 rfl rfl)
def dkwX0_addsSaying_2 : List UInt8 := [180, 0, 12, 180, 0, 66, 4, 46, 4, 100, 172]
abbrev dktX0_addsSaying_2 : List UInt8 := dkwX0_addsSaying_2 ++ []
def dkwX0_addsSaying_1 : List UInt8 := [180, 0, 12, 180, 0, 66, 4, 46, 43, 83, 42, 180, 0, 12, 180, 0, 66, 4, 92, 46, 4, 96, 79, 42]
abbrev dktX0_addsSaying_1 : List UInt8 := dkwX0_addsSaying_1 ++ dktX0_addsSaying_2
def dkwX0_addsSaying_0 : List UInt8 := [42, 180, 0, 12, 180, 0, 66, 4, 46, 16, 8, 160, 0, 5, 2, 172, 42, 180, 0, 12, 180, 0, 108, 42]
abbrev dktX0_addsSaying_0 : List UInt8 := dkwX0_addsSaying_0 ++ dktX0_addsSaying_1
theorem dksX0_addsSaying_0 : cX0_addsSaying.data.toList.drop 0 = dktX0_addsSaying_0 := by decide +kernel
theorem dksX0_addsSaying_1 : cX0_addsSaying.data.toList.drop 24 = dktX0_addsSaying_1 := dk_seg dksX0_addsSaying_0 24 rfl rfl
theorem dksX0_addsSaying_2 : cX0_addsSaying.data.toList.drop 48 = dktX0_addsSaying_2 := dk_seg dksX0_addsSaying_1 24 rfl rfl
theorem dX0_addsSaying_0 : decode cX0_addsSaying 0 = .ok (.aload_n 0, 1) := dk_42 (dk_at dksX0_addsSaying_0 0 rfl rfl)
theorem dX0_addsSaying_1 : decode cX0_addsSaying 1 = .ok (.getfield 12, 3) := dk_180 0 12 (dk_at dksX0_addsSaying_0 1 rfl rfl)
theorem dX0_addsSaying_4 : decode cX0_addsSaying 4 = .ok (.getfield 66, 3) := dk_180 0 66 (dk_at dksX0_addsSaying_0 4 rfl rfl)
theorem dX0_addsSaying_7 : decode cX0_addsSaying 7 = .ok (.iconst 1, 1) := dk_4 (dk_at dksX0_addsSaying_0 7 rfl rfl)
theorem dX0_addsSaying_8 : decode cX0_addsSaying 8 = .ok (.iaload, 1) := dk_46 (dk_at dksX0_addsSaying_0 8 rfl rfl)
theorem dX0_addsSaying_9 : decode cX0_addsSaying 9 = .ok (.bipush 8, 2) := dk_16 8 (dk_at dksX0_addsSaying_0 9 rfl rfl)
theorem dX0_addsSaying_11 : decode cX0_addsSaying 11 = .ok (.if_icmp .ne 5, 3) := dk_160 0 5 (dk_at dksX0_addsSaying_0 11 rfl rfl)
theorem dX0_addsSaying_14 : decode cX0_addsSaying 14 = .ok (.iconst (-1), 1) := dk_2 (dk_at dksX0_addsSaying_0 14 rfl rfl)
theorem dX0_addsSaying_15 : decode cX0_addsSaying 15 = .ok (.ireturn, 1) := dk_172 (dk_at dksX0_addsSaying_0 15 rfl rfl)
theorem dX0_addsSaying_16 : decode cX0_addsSaying 16 = .ok (.aload_n 0, 1) := dk_42 (dk_at dksX0_addsSaying_0 16 rfl rfl)
theorem dX0_addsSaying_17 : decode cX0_addsSaying 17 = .ok (.getfield 12, 3) := dk_180 0 12 (dk_at dksX0_addsSaying_0 17 rfl rfl)
theorem dX0_addsSaying_20 : decode cX0_addsSaying 20 = .ok (.getfield 108, 3) := dk_180 0 108 (dk_at dksX0_addsSaying_0 20 rfl rfl)
theorem dX0_addsSaying_23 : decode cX0_addsSaying 23 = .ok (.aload_n 0, 1) := dk_42 (dk_at dksX0_addsSaying_0 23 rfl rfl)
theorem dX0_addsSaying_24 : decode cX0_addsSaying 24 = .ok (.getfield 12, 3) := dk_180 0 12 (dk_at dksX0_addsSaying_1 0 rfl rfl)
theorem dX0_addsSaying_27 : decode cX0_addsSaying 27 = .ok (.getfield 66, 3) := dk_180 0 66 (dk_at dksX0_addsSaying_1 3 rfl rfl)
theorem dX0_addsSaying_30 : decode cX0_addsSaying 30 = .ok (.iconst 1, 1) := dk_4 (dk_at dksX0_addsSaying_1 6 rfl rfl)
theorem dX0_addsSaying_31 : decode cX0_addsSaying 31 = .ok (.iaload, 1) := dk_46 (dk_at dksX0_addsSaying_1 7 rfl rfl)
theorem dX0_addsSaying_32 : decode cX0_addsSaying 32 = .ok (.aload_n 1, 1) := dk_43 (dk_at dksX0_addsSaying_1 8 rfl rfl)
theorem dX0_addsSaying_33 : decode cX0_addsSaying 33 = .ok (.aastore, 1) := dk_83 (dk_at dksX0_addsSaying_1 9 rfl rfl)
theorem dX0_addsSaying_34 : decode cX0_addsSaying 34 = .ok (.aload_n 0, 1) := dk_42 (dk_at dksX0_addsSaying_1 10 rfl rfl)
theorem dX0_addsSaying_35 : decode cX0_addsSaying 35 = .ok (.getfield 12, 3) := dk_180 0 12 (dk_at dksX0_addsSaying_1 11 rfl rfl)
theorem dX0_addsSaying_38 : decode cX0_addsSaying 38 = .ok (.getfield 66, 3) := dk_180 0 66 (dk_at dksX0_addsSaying_1 14 rfl rfl)
theorem dX0_addsSaying_41 : decode cX0_addsSaying 41 = .ok (.iconst 1, 1) := dk_4 (dk_at dksX0_addsSaying_1 17 rfl rfl)
theorem dX0_addsSaying_42 : decode cX0_addsSaying 42 = .ok (.dup2, 1) := dk_92 (dk_at dksX0_addsSaying_1 18 rfl rfl)
theorem dX0_addsSaying_43 : decode cX0_addsSaying 43 = .ok (.iaload, 1) := dk_46 (dk_at dksX0_addsSaying_1 19 rfl rfl)
theorem dX0_addsSaying_44 : decode cX0_addsSaying 44 = .ok (.iconst 1, 1) := dk_4 (dk_at dksX0_addsSaying_1 20 rfl rfl)
theorem dX0_addsSaying_45 : decode cX0_addsSaying 45 = .ok (.iadd, 1) := dk_96 (dk_at dksX0_addsSaying_1 21 rfl rfl)
theorem dX0_addsSaying_46 : decode cX0_addsSaying 46 = .ok (.iastore, 1) := dk_79 (dk_at dksX0_addsSaying_1 22 rfl rfl)
theorem dX0_addsSaying_47 : decode cX0_addsSaying 47 = .ok (.aload_n 0, 1) := dk_42 (dk_at dksX0_addsSaying_1 23 rfl rfl)
theorem dX0_addsSaying_48 : decode cX0_addsSaying 48 = .ok (.getfield 12, 3) := dk_180 0 12 (dk_at dksX0_addsSaying_2 0 rfl rfl)
theorem dX0_addsSaying_51 : decode cX0_addsSaying 51 = .ok (.getfield 66, 3) := dk_180 0 66 (dk_at dksX0_addsSaying_2 3 rfl rfl)
theorem dX0_addsSaying_54 : decode cX0_addsSaying 54 = .ok (.iconst 1, 1) := dk_4 (dk_at dksX0_addsSaying_2 6 rfl rfl)
theorem dX0_addsSaying_55 : decode cX0_addsSaying 55 = .ok (.iaload, 1) := dk_46 (dk_at dksX0_addsSaying_2 7 rfl rfl)
theorem dX0_addsSaying_56 : decode cX0_addsSaying 56 = .ok (.iconst 1, 1) := dk_4 (dk_at dksX0_addsSaying_2 8 rfl rfl)
theorem dX0_addsSaying_57 : decode cX0_addsSaying 57 = .ok (.isub, 1) := dk_100 (dk_at dksX0_addsSaying_2 9 rfl rfl)
theorem dX0_addsSaying_58 : decode cX0_addsSaying 58 = .ok (.ireturn, 1) := dk_172 (dk_at dksX0_addsSaying_2 10 rfl rfl)
def dkwX0_feed_2 : List UInt8 := [172]
abbrev dktX0_feed_2 : List UInt8 := dkwX0_feed_2 ++ []
def dkwX0_feed_1 : List UInt8 := [182, 0, 119, 42, 29, 182, 0, 119, 42, 21, 4, 182, 0, 119, 42, 21, 5, 182, 0, 119, 42, 180, 0, 116]
abbrev dktX0_feed_1 : List UInt8 := dkwX0_feed_1 ++ dktX0_feed_2
def dkwX0_feed_0 : List UInt8 := [42, 180, 0, 116, 16, 20, 96, 17, 1, 44, 164, 0, 5, 2, 172, 42, 27, 182, 0, 119, 42, 28]
abbrev dktX0_feed_0 : List UInt8 := dkwX0_feed_0 ++ dktX0_feed_1
theorem dksX0_feed_0 : cX0_feed.data.toList.drop 0 = dktX0_feed_0 := by decide +kernel
theorem dksX0_feed_1 : cX0_feed.data.toList.drop 22 = dktX0_feed_1 := dk_seg dksX0_feed_0 22 rfl rfl
theorem dksX0_feed_2 : cX0_feed.data.toList.drop 46 = dktX0_feed_2 := dk_seg dksX0_feed_1 24 rfl rfl
theorem dX0_feed_0 : decode cX0_feed 0 = .ok (.aload_n 0, 1) := dk_42 (dk_at dksX0_feed_0 0 rfl rfl)
theorem dX0_feed_1 : decode cX0_feed 1 = .ok (.getfield 116, 3) := dk_180 0 116 (dk_at dksX0_feed_0 1 rfl rfl)
theorem dX0_feed_4 : decode cX0_feed 4 = .ok (.bipush 20, 2) := dk_16 20 (dk_at dksX0_feed_0 4 rfl rfl)
theorem dX0_feed_6 : decode cX0_feed 6 = .ok (.iadd, 1) := dk_96 (dk_at dksX0_feed_0 6 rfl rfl)
theorem dX0_feed_7 : decode cX0_feed 7 = .ok (.sipush 300, 3) := dk_17 1 44 (dk_at dksX0_feed_0 7 rfl rfl)
theorem dX0_feed_10 : decode cX0_feed 10 = .ok (.if_icmp .le 5, 3) := dk_164 0 5 (dk_at dksX0_feed_0 10 rfl rfl)
theorem dX0_feed_13 : decode cX0_feed 13 = .ok (.iconst (-1), 1) := dk_2 (dk_at dksX0_feed_0 13 rfl rfl)
theorem dX0_feed_14 : decode cX0_feed 14 = .ok (.ireturn, 1) := dk_172 (dk_at dksX0_feed_0 14 rfl rfl)
theorem dX0_feed_15 : decode cX0_feed 15 = .ok (.aload_n 0, 1) := dk_42 (dk_at dksX0_feed_0 15 rfl rfl)
theorem dX0_feed_16 : decode cX0_feed 16 = .ok (.iload_n 1, 1) := dk_27 (dk_at dksX0_feed_0 16 rfl rfl)
theorem dX0_feed_17 : decode cX0_feed 17 = .ok (.invokevirtual 119, 3) := dk_182 0 119 (dk_at dksX0_feed_0 17 rfl rfl)
theorem dX0_feed_20 : decode cX0_feed 20 = .ok (.aload_n 0, 1) := dk_42 (dk_at dksX0_feed_0 20 rfl rfl)
theorem dX0_feed_21 : decode cX0_feed 21 = .ok (.iload_n 2, 1) := dk_28 (dk_at dksX0_feed_0 21 rfl rfl)
theorem dX0_feed_22 : decode cX0_feed 22 = .ok (.invokevirtual 119, 3) := dk_182 0 119 (dk_at dksX0_feed_1 0 rfl rfl)
theorem dX0_feed_25 : decode cX0_feed 25 = .ok (.aload_n 0, 1) := dk_42 (dk_at dksX0_feed_1 3 rfl rfl)
theorem dX0_feed_26 : decode cX0_feed 26 = .ok (.iload_n 3, 1) := dk_29 (dk_at dksX0_feed_1 4 rfl rfl)
theorem dX0_feed_27 : decode cX0_feed 27 = .ok (.invokevirtual 119, 3) := dk_182 0 119 (dk_at dksX0_feed_1 5 rfl rfl)
theorem dX0_feed_30 : decode cX0_feed 30 = .ok (.aload_n 0, 1) := dk_42 (dk_at dksX0_feed_1 8 rfl rfl)
theorem dX0_feed_31 : decode cX0_feed 31 = .ok (.iload 4, 2) := dk_21 4 (dk_at dksX0_feed_1 9 rfl rfl)
theorem dX0_feed_33 : decode cX0_feed 33 = .ok (.invokevirtual 119, 3) := dk_182 0 119 (dk_at dksX0_feed_1 11 rfl rfl)
theorem dX0_feed_36 : decode cX0_feed 36 = .ok (.aload_n 0, 1) := dk_42 (dk_at dksX0_feed_1 14 rfl rfl)
theorem dX0_feed_37 : decode cX0_feed 37 = .ok (.iload 5, 2) := dk_21 5 (dk_at dksX0_feed_1 15 rfl rfl)
theorem dX0_feed_39 : decode cX0_feed 39 = .ok (.invokevirtual 119, 3) := dk_182 0 119 (dk_at dksX0_feed_1 17 rfl rfl)
theorem dX0_feed_42 : decode cX0_feed 42 = .ok (.aload_n 0, 1) := dk_42 (dk_at dksX0_feed_1 20 rfl rfl)
theorem dX0_feed_43 : decode cX0_feed 43 = .ok (.getfield 116, 3) := dk_180 0 116 (dk_at dksX0_feed_1 21 rfl rfl)
theorem dX0_feed_46 : decode cX0_feed 46 = .ok (.ireturn, 1) := dk_172 (dk_at dksX0_feed_2 0 rfl rfl)
def dkwX0_put_1 : List UInt8 := [180, 0, 116, 4, 96, 181, 0, 116, 132, 2, 248, 167, 255, 226, 177]
abbrev dktX0_put_1 : List UInt8 := dkwX0_put_1 ++ []
def dkwX0_put_0 : List UInt8 := [16, 24, 61, 28, 155, 0, 32, 42, 180, 0, 19, 42, 180, 0, 116, 27, 28, 122, 145, 84, 42, 89]
abbrev dktX0_put_0 : List UInt8 := dkwX0_put_0 ++ dktX0_put_1
theorem dksX0_put_0 : cX0_put.data.toList.drop 0 = dktX0_put_0 := by decide +kernel
theorem dksX0_put_1 : cX0_put.data.toList.drop 22 = dktX0_put_1 := dk_seg dksX0_put_0 22 rfl rfl
theorem dX0_put_0 : decode cX0_put 0 = .ok (.bipush 24, 2) := dk_16 24 (dk_at dksX0_put_0 0 rfl rfl)
theorem dX0_put_2 : decode cX0_put 2 = .ok (.istore_n 2, 1) := dk_61 (dk_at dksX0_put_0 2 rfl rfl)
theorem dX0_put_3 : decode cX0_put 3 = .ok (.iload_n 2, 1) := dk_28 (dk_at dksX0_put_0 3 rfl rfl)
theorem dX0_put_4 : decode cX0_put 4 = .ok (.ifCond .lt 32, 3) := dk_155 0 32 (dk_at dksX0_put_0 4 rfl rfl)
theorem dX0_put_7 : decode cX0_put 7 = .ok (.aload_n 0, 1) := dk_42 (dk_at dksX0_put_0 7 rfl rfl)
theorem dX0_put_8 : decode cX0_put 8 = .ok (.getfield 19, 3) := dk_180 0 19 (dk_at dksX0_put_0 8 rfl rfl)
theorem dX0_put_11 : decode cX0_put 11 = .ok (.aload_n 0, 1) := dk_42 (dk_at dksX0_put_0 11 rfl rfl)
theorem dX0_put_12 : decode cX0_put 12 = .ok (.getfield 116, 3) := dk_180 0 116 (dk_at dksX0_put_0 12 rfl rfl)
theorem dX0_put_15 : decode cX0_put 15 = .ok (.iload_n 1, 1) := dk_27 (dk_at dksX0_put_0 15 rfl rfl)
theorem dX0_put_16 : decode cX0_put 16 = .ok (.iload_n 2, 1) := dk_28 (dk_at dksX0_put_0 16 rfl rfl)
theorem dX0_put_17 : decode cX0_put 17 = .ok (.ishr, 1) := dk_122 (dk_at dksX0_put_0 17 rfl rfl)
theorem dX0_put_18 : decode cX0_put 18 = .ok (.i2b, 1) := dk_145 (dk_at dksX0_put_0 18 rfl rfl)
theorem dX0_put_19 : decode cX0_put 19 = .ok (.bastore, 1) := dk_84 (dk_at dksX0_put_0 19 rfl rfl)
theorem dX0_put_20 : decode cX0_put 20 = .ok (.aload_n 0, 1) := dk_42 (dk_at dksX0_put_0 20 rfl rfl)
theorem dX0_put_21 : decode cX0_put 21 = .ok (.dup, 1) := dk_89 (dk_at dksX0_put_0 21 rfl rfl)
theorem dX0_put_22 : decode cX0_put 22 = .ok (.getfield 116, 3) := dk_180 0 116 (dk_at dksX0_put_1 0 rfl rfl)
theorem dX0_put_25 : decode cX0_put 25 = .ok (.iconst 1, 1) := dk_4 (dk_at dksX0_put_1 3 rfl rfl)
theorem dX0_put_26 : decode cX0_put 26 = .ok (.iadd, 1) := dk_96 (dk_at dksX0_put_1 4 rfl rfl)
theorem dX0_put_27 : decode cX0_put 27 = .ok (.putfield 116, 3) := dk_181 0 116 (dk_at dksX0_put_1 5 rfl rfl)
theorem dX0_put_30 : decode cX0_put 30 = .ok (.iinc 2 (-8), 3) := dk_132 2 248 (dk_at dksX0_put_1 8 rfl rfl)
theorem dX0_put_33 : decode cX0_put 33 = .ok (.goto (-30), 3) := dk_167 255 226 (dk_at dksX0_put_1 11 rfl rfl)
theorem dX0_put_36 : decode cX0_put 36 = .ok (.return_, 1) := dk_177 (dk_at dksX0_put_1 14 rfl rfl)
def dkwX0_end_0 : List UInt8 := [27, 3, 42, 180, 0, 116, 184, 0, 62, 154, 0, 5, 2, 172, 42, 27, 181, 0, 116, 27, 172]
abbrev dktX0_end_0 : List UInt8 := dkwX0_end_0 ++ []
theorem dksX0_end_0 : cX0_end.data.toList.drop 0 = dktX0_end_0 := by decide +kernel
theorem dX0_end_0 : decode cX0_end 0 = .ok (.iload_n 1, 1) := dk_27 (dk_at dksX0_end_0 0 rfl rfl)
theorem dX0_end_1 : decode cX0_end 1 = .ok (.iconst 0, 1) := dk_3 (dk_at dksX0_end_0 1 rfl rfl)
theorem dX0_end_2 : decode cX0_end 2 = .ok (.aload_n 0, 1) := dk_42 (dk_at dksX0_end_0 2 rfl rfl)
theorem dX0_end_3 : decode cX0_end 3 = .ok (.getfield 116, 3) := dk_180 0 116 (dk_at dksX0_end_0 3 rfl rfl)
theorem dX0_end_6 : decode cX0_end 6 = .ok (.invokestatic 62, 3) := dk_184 0 62 (dk_at dksX0_end_0 6 rfl rfl)
theorem dX0_end_9 : decode cX0_end 9 = .ok (.ifCond .ne 5, 3) := dk_154 0 5 (dk_at dksX0_end_0 9 rfl rfl)
theorem dX0_end_12 : decode cX0_end 12 = .ok (.iconst (-1), 1) := dk_2 (dk_at dksX0_end_0 12 rfl rfl)
theorem dX0_end_13 : decode cX0_end 13 = .ok (.ireturn, 1) := dk_172 (dk_at dksX0_end_0 13 rfl rfl)
theorem dX0_end_14 : decode cX0_end 14 = .ok (.aload_n 0, 1) := dk_42 (dk_at dksX0_end_0 14 rfl rfl)
theorem dX0_end_15 : decode cX0_end 15 = .ok (.iload_n 1, 1) := dk_27 (dk_at dksX0_end_0 15 rfl rfl)
theorem dX0_end_16 : decode cX0_end 16 = .ok (.putfield 116, 3) := dk_181 0 116 (dk_at dksX0_end_0 16 rfl rfl)
theorem dX0_end_19 : decode cX0_end 19 = .ok (.iload_n 1, 1) := dk_27 (dk_at dksX0_end_0 19 rfl rfl)
theorem dX0_end_20 : decode cX0_end 20 = .ok (.ireturn, 1) := dk_172 (dk_at dksX0_end_0 20 rfl rfl)
def dkwX0_text_5 : List UInt8 := [79, 42, 180, 0, 12, 180, 0, 66, 5, 46, 4, 100, 172]
abbrev dktX0_text_5 : List UInt8 := dkwX0_text_5 ++ []
def dkwX0_text_4 : List UInt8 := [29, 172, 58, 4, 42, 3, 181, 0, 116, 25, 4, 191, 42, 180, 0, 12, 180, 0, 66, 5, 92, 46, 4, 96]
abbrev dktX0_text_4 : List UInt8 := dkwX0_text_4 ++ dktX0_text_5
def dkwX0_text_3 : List UInt8 := [77, 42, 44, 180, 0, 138, 181, 0, 23, 42, 44, 180, 0, 139, 181, 0, 27, 2, 62, 42, 3, 181, 0, 116]
abbrev dktX0_text_3 : List UInt8 := dkwX0_text_3 ++ dktX0_text_4
def dkwX0_text_2 : List UInt8 := [187, 0, 127, 89, 42, 180, 0, 19, 27, 183, 0, 129, 182, 0, 132, 83, 42, 3, 181, 0, 116, 167, 0, 39]
abbrev dktX0_text_2 : List UInt8 := dkwX0_text_2 ++ dktX0_text_3
def dkwX0_text_1 : List UInt8 := [181, 0, 23, 42, 2, 181, 0, 27, 42, 180, 0, 12, 180, 0, 123, 42, 180, 0, 12, 180, 0, 66, 5, 46]
abbrev dktX0_text_1 : List UInt8 := dkwX0_text_1 ++ dktX0_text_2
def dkwX0_text_0 : List UInt8 := [42, 180, 0, 12, 180, 0, 66, 5, 46, 7, 160, 0, 5, 2, 172, 42, 180, 0, 116, 60, 42, 3]
abbrev dktX0_text_0 : List UInt8 := dkwX0_text_0 ++ dktX0_text_1
theorem dksX0_text_0 : cX0_text.data.toList.drop 0 = dktX0_text_0 := by decide +kernel
theorem dksX0_text_1 : cX0_text.data.toList.drop 22 = dktX0_text_1 := dk_seg dksX0_text_0 22 rfl rfl
theorem dksX0_text_2 : cX0_text.data.toList.drop 46 = dktX0_text_2 := dk_seg dksX0_text_1 24 rfl rfl
theorem dksX0_text_3 : cX0_text.data.toList.drop 70 = dktX0_text_3 := dk_seg dksX0_text_2 24 rfl rfl
theorem dksX0_text_4 : cX0_text.data.toList.drop 94 = dktX0_text_4 := dk_seg dksX0_text_3 24 rfl rfl
theorem dksX0_text_5 : cX0_text.data.toList.drop 118 = dktX0_text_5 := dk_seg dksX0_text_4 24 rfl rfl
theorem dX0_text_0 : decode cX0_text 0 = .ok (.aload_n 0, 1) := dk_42 (dk_at dksX0_text_0 0 rfl rfl)
theorem dX0_text_1 : decode cX0_text 1 = .ok (.getfield 12, 3) := dk_180 0 12 (dk_at dksX0_text_0 1 rfl rfl)
theorem dX0_text_4 : decode cX0_text 4 = .ok (.getfield 66, 3) := dk_180 0 66 (dk_at dksX0_text_0 4 rfl rfl)
theorem dX0_text_7 : decode cX0_text 7 = .ok (.iconst 2, 1) := dk_5 (dk_at dksX0_text_0 7 rfl rfl)
theorem dX0_text_8 : decode cX0_text 8 = .ok (.iaload, 1) := dk_46 (dk_at dksX0_text_0 8 rfl rfl)
theorem dX0_text_9 : decode cX0_text 9 = .ok (.iconst 4, 1) := dk_7 (dk_at dksX0_text_0 9 rfl rfl)
theorem dX0_text_10 : decode cX0_text 10 = .ok (.if_icmp .ne 5, 3) := dk_160 0 5 (dk_at dksX0_text_0 10 rfl rfl)
theorem dX0_text_13 : decode cX0_text 13 = .ok (.iconst (-1), 1) := dk_2 (dk_at dksX0_text_0 13 rfl rfl)
theorem dX0_text_14 : decode cX0_text 14 = .ok (.ireturn, 1) := dk_172 (dk_at dksX0_text_0 14 rfl rfl)
theorem dX0_text_15 : decode cX0_text 15 = .ok (.aload_n 0, 1) := dk_42 (dk_at dksX0_text_0 15 rfl rfl)
theorem dX0_text_16 : decode cX0_text 16 = .ok (.getfield 116, 3) := dk_180 0 116 (dk_at dksX0_text_0 16 rfl rfl)
theorem dX0_text_19 : decode cX0_text 19 = .ok (.istore_n 1, 1) := dk_60 (dk_at dksX0_text_0 19 rfl rfl)
theorem dX0_text_20 : decode cX0_text 20 = .ok (.aload_n 0, 1) := dk_42 (dk_at dksX0_text_0 20 rfl rfl)
theorem dX0_text_21 : decode cX0_text 21 = .ok (.iconst 0, 1) := dk_3 (dk_at dksX0_text_0 21 rfl rfl)
theorem dX0_text_22 : decode cX0_text 22 = .ok (.putfield 23, 3) := dk_181 0 23 (dk_at dksX0_text_1 0 rfl rfl)
theorem dX0_text_25 : decode cX0_text 25 = .ok (.aload_n 0, 1) := dk_42 (dk_at dksX0_text_1 3 rfl rfl)
theorem dX0_text_26 : decode cX0_text 26 = .ok (.iconst (-1), 1) := dk_2 (dk_at dksX0_text_1 4 rfl rfl)
theorem dX0_text_27 : decode cX0_text 27 = .ok (.putfield 27, 3) := dk_181 0 27 (dk_at dksX0_text_1 5 rfl rfl)
theorem dX0_text_30 : decode cX0_text 30 = .ok (.aload_n 0, 1) := dk_42 (dk_at dksX0_text_1 8 rfl rfl)
theorem dX0_text_31 : decode cX0_text 31 = .ok (.getfield 12, 3) := dk_180 0 12 (dk_at dksX0_text_1 9 rfl rfl)
theorem dX0_text_34 : decode cX0_text 34 = .ok (.getfield 123, 3) := dk_180 0 123 (dk_at dksX0_text_1 12 rfl rfl)
theorem dX0_text_37 : decode cX0_text 37 = .ok (.aload_n 0, 1) := dk_42 (dk_at dksX0_text_1 15 rfl rfl)
theorem dX0_text_38 : decode cX0_text 38 = .ok (.getfield 12, 3) := dk_180 0 12 (dk_at dksX0_text_1 16 rfl rfl)
theorem dX0_text_41 : decode cX0_text 41 = .ok (.getfield 66, 3) := dk_180 0 66 (dk_at dksX0_text_1 19 rfl rfl)
theorem dX0_text_44 : decode cX0_text 44 = .ok (.iconst 2, 1) := dk_5 (dk_at dksX0_text_1 22 rfl rfl)
theorem dX0_text_45 : decode cX0_text 45 = .ok (.iaload, 1) := dk_46 (dk_at dksX0_text_1 23 rfl rfl)
theorem dX0_text_46 : decode cX0_text 46 = .ok (.new 127, 3) := dk_187 0 127 (dk_at dksX0_text_2 0 rfl rfl)
theorem dX0_text_49 : decode cX0_text 49 = .ok (.dup, 1) := dk_89 (dk_at dksX0_text_2 3 rfl rfl)
theorem dX0_text_50 : decode cX0_text 50 = .ok (.aload_n 0, 1) := dk_42 (dk_at dksX0_text_2 4 rfl rfl)
theorem dX0_text_51 : decode cX0_text 51 = .ok (.getfield 19, 3) := dk_180 0 19 (dk_at dksX0_text_2 5 rfl rfl)
theorem dX0_text_54 : decode cX0_text 54 = .ok (.iload_n 1, 1) := dk_27 (dk_at dksX0_text_2 8 rfl rfl)
theorem dX0_text_55 : decode cX0_text 55 = .ok (.invokespecial 129, 3) := dk_183 0 129 (dk_at dksX0_text_2 9 rfl rfl)
theorem dX0_text_58 : decode cX0_text 58 = .ok (.invokevirtual 132, 3) := dk_182 0 132 (dk_at dksX0_text_2 12 rfl rfl)
theorem dX0_text_61 : decode cX0_text 61 = .ok (.aastore, 1) := dk_83 (dk_at dksX0_text_2 15 rfl rfl)
theorem dX0_text_62 : decode cX0_text 62 = .ok (.aload_n 0, 1) := dk_42 (dk_at dksX0_text_2 16 rfl rfl)
theorem dX0_text_63 : decode cX0_text 63 = .ok (.iconst 0, 1) := dk_3 (dk_at dksX0_text_2 17 rfl rfl)
theorem dX0_text_64 : decode cX0_text 64 = .ok (.putfield 116, 3) := dk_181 0 116 (dk_at dksX0_text_2 18 rfl rfl)
theorem dX0_text_67 : decode cX0_text 67 = .ok (.goto 39, 3) := dk_167 0 39 (dk_at dksX0_text_2 21 rfl rfl)
theorem dX0_text_70 : decode cX0_text 70 = .ok (.astore_n 2, 1) := dk_77 (dk_at dksX0_text_3 0 rfl rfl)
theorem dX0_text_71 : decode cX0_text 71 = .ok (.aload_n 0, 1) := dk_42 (dk_at dksX0_text_3 1 rfl rfl)
theorem dX0_text_72 : decode cX0_text 72 = .ok (.aload_n 2, 1) := dk_44 (dk_at dksX0_text_3 2 rfl rfl)
theorem dX0_text_73 : decode cX0_text 73 = .ok (.getfield 138, 3) := dk_180 0 138 (dk_at dksX0_text_3 3 rfl rfl)
theorem dX0_text_76 : decode cX0_text 76 = .ok (.putfield 23, 3) := dk_181 0 23 (dk_at dksX0_text_3 6 rfl rfl)
theorem dX0_text_79 : decode cX0_text 79 = .ok (.aload_n 0, 1) := dk_42 (dk_at dksX0_text_3 9 rfl rfl)
theorem dX0_text_80 : decode cX0_text 80 = .ok (.aload_n 2, 1) := dk_44 (dk_at dksX0_text_3 10 rfl rfl)
theorem dX0_text_81 : decode cX0_text 81 = .ok (.getfield 139, 3) := dk_180 0 139 (dk_at dksX0_text_3 11 rfl rfl)
theorem dX0_text_84 : decode cX0_text 84 = .ok (.putfield 27, 3) := dk_181 0 27 (dk_at dksX0_text_3 14 rfl rfl)
theorem dX0_text_87 : decode cX0_text 87 = .ok (.iconst (-1), 1) := dk_2 (dk_at dksX0_text_3 17 rfl rfl)
theorem dX0_text_88 : decode cX0_text 88 = .ok (.istore_n 3, 1) := dk_62 (dk_at dksX0_text_3 18 rfl rfl)
theorem dX0_text_89 : decode cX0_text 89 = .ok (.aload_n 0, 1) := dk_42 (dk_at dksX0_text_3 19 rfl rfl)
theorem dX0_text_90 : decode cX0_text 90 = .ok (.iconst 0, 1) := dk_3 (dk_at dksX0_text_3 20 rfl rfl)
theorem dX0_text_91 : decode cX0_text 91 = .ok (.putfield 116, 3) := dk_181 0 116 (dk_at dksX0_text_3 21 rfl rfl)
theorem dX0_text_94 : decode cX0_text 94 = .ok (.iload_n 3, 1) := dk_29 (dk_at dksX0_text_4 0 rfl rfl)
theorem dX0_text_95 : decode cX0_text 95 = .ok (.ireturn, 1) := dk_172 (dk_at dksX0_text_4 1 rfl rfl)
theorem dX0_text_96 : decode cX0_text 96 = .ok (.astore 4, 2) := dk_58 4 (dk_at dksX0_text_4 2 rfl rfl)
theorem dX0_text_98 : decode cX0_text 98 = .ok (.aload_n 0, 1) := dk_42 (dk_at dksX0_text_4 4 rfl rfl)
theorem dX0_text_99 : decode cX0_text 99 = .ok (.iconst 0, 1) := dk_3 (dk_at dksX0_text_4 5 rfl rfl)
theorem dX0_text_100 : decode cX0_text 100 = .ok (.putfield 116, 3) := dk_181 0 116 (dk_at dksX0_text_4 6 rfl rfl)
theorem dX0_text_103 : decode cX0_text 103 = .ok (.aload 4, 2) := dk_25 4 (dk_at dksX0_text_4 9 rfl rfl)
theorem dX0_text_105 : decode cX0_text 105 = .ok (.athrow, 1) := dk_191 (dk_at dksX0_text_4 11 rfl rfl)
theorem dX0_text_106 : decode cX0_text 106 = .ok (.aload_n 0, 1) := dk_42 (dk_at dksX0_text_4 12 rfl rfl)
theorem dX0_text_107 : decode cX0_text 107 = .ok (.getfield 12, 3) := dk_180 0 12 (dk_at dksX0_text_4 13 rfl rfl)
theorem dX0_text_110 : decode cX0_text 110 = .ok (.getfield 66, 3) := dk_180 0 66 (dk_at dksX0_text_4 16 rfl rfl)
theorem dX0_text_113 : decode cX0_text 113 = .ok (.iconst 2, 1) := dk_5 (dk_at dksX0_text_4 19 rfl rfl)
theorem dX0_text_114 : decode cX0_text 114 = .ok (.dup2, 1) := dk_92 (dk_at dksX0_text_4 20 rfl rfl)
theorem dX0_text_115 : decode cX0_text 115 = .ok (.iaload, 1) := dk_46 (dk_at dksX0_text_4 21 rfl rfl)
theorem dX0_text_116 : decode cX0_text 116 = .ok (.iconst 1, 1) := dk_4 (dk_at dksX0_text_4 22 rfl rfl)
theorem dX0_text_117 : decode cX0_text 117 = .ok (.iadd, 1) := dk_96 (dk_at dksX0_text_4 23 rfl rfl)
theorem dX0_text_118 : decode cX0_text 118 = .ok (.iastore, 1) := dk_79 (dk_at dksX0_text_5 0 rfl rfl)
theorem dX0_text_119 : decode cX0_text 119 = .ok (.aload_n 0, 1) := dk_42 (dk_at dksX0_text_5 1 rfl rfl)
theorem dX0_text_120 : decode cX0_text 120 = .ok (.getfield 12, 3) := dk_180 0 12 (dk_at dksX0_text_5 2 rfl rfl)
theorem dX0_text_123 : decode cX0_text 123 = .ok (.getfield 66, 3) := dk_180 0 66 (dk_at dksX0_text_5 5 rfl rfl)
theorem dX0_text_126 : decode cX0_text 126 = .ok (.iconst 2, 1) := dk_5 (dk_at dksX0_text_5 8 rfl rfl)
theorem dX0_text_127 : decode cX0_text 127 = .ok (.iaload, 1) := dk_46 (dk_at dksX0_text_5 9 rfl rfl)
theorem dX0_text_128 : decode cX0_text 128 = .ok (.iconst 1, 1) := dk_4 (dk_at dksX0_text_5 10 rfl rfl)
theorem dX0_text_129 : decode cX0_text 129 = .ok (.isub, 1) := dk_100 (dk_at dksX0_text_5 11 rfl rfl)
theorem dX0_text_130 : decode cX0_text 130 = .ok (.ireturn, 1) := dk_172 (dk_at dksX0_text_5 12 rfl rfl)
def dkwX0_fault_1 : List UInt8 := [172]
abbrev dktX0_fault_1 : List UInt8 := dkwX0_fault_1 ++ []
def dkwX0_fault_0 : List UInt8 := [27, 154, 0, 10, 42, 180, 0, 23, 167, 0, 16, 27, 4, 160, 0, 10, 42, 180, 0, 27, 167, 0, 4, 2]
abbrev dktX0_fault_0 : List UInt8 := dkwX0_fault_0 ++ dktX0_fault_1
theorem dksX0_fault_0 : cX0_fault.data.toList.drop 0 = dktX0_fault_0 := by decide +kernel
theorem dksX0_fault_1 : cX0_fault.data.toList.drop 24 = dktX0_fault_1 := dk_seg dksX0_fault_0 24 rfl rfl
theorem dX0_fault_0 : decode cX0_fault 0 = .ok (.iload_n 1, 1) := dk_27 (dk_at dksX0_fault_0 0 rfl rfl)
theorem dX0_fault_1 : decode cX0_fault 1 = .ok (.ifCond .ne 10, 3) := dk_154 0 10 (dk_at dksX0_fault_0 1 rfl rfl)
theorem dX0_fault_4 : decode cX0_fault 4 = .ok (.aload_n 0, 1) := dk_42 (dk_at dksX0_fault_0 4 rfl rfl)
theorem dX0_fault_5 : decode cX0_fault 5 = .ok (.getfield 23, 3) := dk_180 0 23 (dk_at dksX0_fault_0 5 rfl rfl)
theorem dX0_fault_8 : decode cX0_fault 8 = .ok (.goto 16, 3) := dk_167 0 16 (dk_at dksX0_fault_0 8 rfl rfl)
theorem dX0_fault_11 : decode cX0_fault 11 = .ok (.iload_n 1, 1) := dk_27 (dk_at dksX0_fault_0 11 rfl rfl)
theorem dX0_fault_12 : decode cX0_fault 12 = .ok (.iconst 1, 1) := dk_4 (dk_at dksX0_fault_0 12 rfl rfl)
theorem dX0_fault_13 : decode cX0_fault 13 = .ok (.if_icmp .ne 10, 3) := dk_160 0 10 (dk_at dksX0_fault_0 13 rfl rfl)
theorem dX0_fault_16 : decode cX0_fault 16 = .ok (.aload_n 0, 1) := dk_42 (dk_at dksX0_fault_0 16 rfl rfl)
theorem dX0_fault_17 : decode cX0_fault 17 = .ok (.getfield 27, 3) := dk_180 0 27 (dk_at dksX0_fault_0 17 rfl rfl)
theorem dX0_fault_20 : decode cX0_fault 20 = .ok (.goto 4, 3) := dk_167 0 4 (dk_at dksX0_fault_0 20 rfl rfl)
theorem dX0_fault_23 : decode cX0_fault 23 = .ok (.iconst (-1), 1) := dk_2 (dk_at dksX0_fault_0 23 rfl rfl)
theorem dX0_fault_24 : decode cX0_fault 24 = .ok (.ireturn, 1) := dk_172 (dk_at dksX0_fault_1 0 rfl rfl)
def dkwX0_by_1 : List UInt8 := [79, 4, 172]
abbrev dktX0_by_1 : List UInt8 := dkwX0_by_1 ++ []
def dkwX0_by_0 : List UInt8 := [27, 2, 159, 0, 13, 42, 27, 182, 0, 142, 154, 0, 5, 3, 172, 42, 180, 0, 12, 180, 0, 66, 6, 27]
abbrev dktX0_by_0 : List UInt8 := dkwX0_by_0 ++ dktX0_by_1
theorem dksX0_by_0 : cX0_by.data.toList.drop 0 = dktX0_by_0 := by decide +kernel
theorem dksX0_by_1 : cX0_by.data.toList.drop 24 = dktX0_by_1 := dk_seg dksX0_by_0 24 rfl rfl
theorem dX0_by_0 : decode cX0_by 0 = .ok (.iload_n 1, 1) := dk_27 (dk_at dksX0_by_0 0 rfl rfl)
theorem dX0_by_1 : decode cX0_by 1 = .ok (.iconst (-1), 1) := dk_2 (dk_at dksX0_by_0 1 rfl rfl)
theorem dX0_by_2 : decode cX0_by 2 = .ok (.if_icmp .eq 13, 3) := dk_159 0 13 (dk_at dksX0_by_0 2 rfl rfl)
theorem dX0_by_5 : decode cX0_by 5 = .ok (.aload_n 0, 1) := dk_42 (dk_at dksX0_by_0 5 rfl rfl)
theorem dX0_by_6 : decode cX0_by 6 = .ok (.iload_n 1, 1) := dk_27 (dk_at dksX0_by_0 6 rfl rfl)
theorem dX0_by_7 : decode cX0_by 7 = .ok (.invokevirtual 142, 3) := dk_182 0 142 (dk_at dksX0_by_0 7 rfl rfl)
theorem dX0_by_10 : decode cX0_by 10 = .ok (.ifCond .ne 5, 3) := dk_154 0 5 (dk_at dksX0_by_0 10 rfl rfl)
theorem dX0_by_13 : decode cX0_by 13 = .ok (.iconst 0, 1) := dk_3 (dk_at dksX0_by_0 13 rfl rfl)
theorem dX0_by_14 : decode cX0_by 14 = .ok (.ireturn, 1) := dk_172 (dk_at dksX0_by_0 14 rfl rfl)
theorem dX0_by_15 : decode cX0_by 15 = .ok (.aload_n 0, 1) := dk_42 (dk_at dksX0_by_0 15 rfl rfl)
theorem dX0_by_16 : decode cX0_by 16 = .ok (.getfield 12, 3) := dk_180 0 12 (dk_at dksX0_by_0 16 rfl rfl)
theorem dX0_by_19 : decode cX0_by 19 = .ok (.getfield 66, 3) := dk_180 0 66 (dk_at dksX0_by_0 19 rfl rfl)
theorem dX0_by_22 : decode cX0_by 22 = .ok (.iconst 3, 1) := dk_6 (dk_at dksX0_by_0 22 rfl rfl)
theorem dX0_by_23 : decode cX0_by 23 = .ok (.iload_n 1, 1) := dk_27 (dk_at dksX0_by_0 23 rfl rfl)
theorem dX0_by_24 : decode cX0_by 24 = .ok (.iastore, 1) := dk_79 (dk_at dksX0_by_1 0 rfl rfl)
theorem dX0_by_25 : decode cX0_by 25 = .ok (.iconst 1, 1) := dk_4 (dk_at dksX0_by_1 1 rfl rfl)
theorem dX0_by_26 : decode cX0_by 26 = .ok (.ireturn, 1) := dk_172 (dk_at dksX0_by_1 2 rfl rfl)
def dkwX0_isText_0 : List UInt8 := [27, 3, 42, 180, 0, 12, 180, 0, 66, 5, 46, 4, 100, 184, 0, 62, 172]
abbrev dktX0_isText_0 : List UInt8 := dkwX0_isText_0 ++ []
theorem dksX0_isText_0 : cX0_isText.data.toList.drop 0 = dktX0_isText_0 := by decide +kernel
theorem dX0_isText_0 : decode cX0_isText 0 = .ok (.iload_n 1, 1) := dk_27 (dk_at dksX0_isText_0 0 rfl rfl)
theorem dX0_isText_1 : decode cX0_isText 1 = .ok (.iconst 0, 1) := dk_3 (dk_at dksX0_isText_0 1 rfl rfl)
theorem dX0_isText_2 : decode cX0_isText 2 = .ok (.aload_n 0, 1) := dk_42 (dk_at dksX0_isText_0 2 rfl rfl)
theorem dX0_isText_3 : decode cX0_isText 3 = .ok (.getfield 12, 3) := dk_180 0 12 (dk_at dksX0_isText_0 3 rfl rfl)
theorem dX0_isText_6 : decode cX0_isText 6 = .ok (.getfield 66, 3) := dk_180 0 66 (dk_at dksX0_isText_0 6 rfl rfl)
theorem dX0_isText_9 : decode cX0_isText 9 = .ok (.iconst 2, 1) := dk_5 (dk_at dksX0_isText_0 9 rfl rfl)
theorem dX0_isText_10 : decode cX0_isText 10 = .ok (.iaload, 1) := dk_46 (dk_at dksX0_isText_0 10 rfl rfl)
theorem dX0_isText_11 : decode cX0_isText 11 = .ok (.iconst 1, 1) := dk_4 (dk_at dksX0_isText_0 11 rfl rfl)
theorem dX0_isText_12 : decode cX0_isText 12 = .ok (.isub, 1) := dk_100 (dk_at dksX0_isText_0 12 rfl rfl)
theorem dX0_isText_13 : decode cX0_isText 13 = .ok (.invokestatic 62, 3) := dk_184 0 62 (dk_at dksX0_isText_0 13 rfl rfl)
theorem dX0_isText_16 : decode cX0_isText 16 = .ok (.ireturn, 1) := dk_172 (dk_at dksX0_isText_0 16 rfl rfl)
def dkwX0_morning_2 : List UInt8 := [132, 2, 1, 167, 255, 237, 42, 182, 0, 158, 172]
abbrev dktX0_morning_2 : List UInt8 := dkwX0_morning_2 ++ []
def dkwX0_morning_1 : List UInt8 := [164, 0, 5, 2, 172, 3, 61, 28, 27, 162, 0, 20, 42, 180, 0, 12, 182, 0, 228, 42, 182, 0, 231]
abbrev dktX0_morning_1 : List UInt8 := dkwX0_morning_1 ++ dktX0_morning_2
def dkwX0_morning_0 : List UInt8 := [27, 4, 16, 99, 184, 0, 62, 153, 0, 20, 42, 180, 0, 12, 180, 0, 149, 4, 46, 27, 96, 17, 3, 231]
abbrev dktX0_morning_0 : List UInt8 := dkwX0_morning_0 ++ dktX0_morning_1
theorem dksX0_morning_0 : cX0_morning.data.toList.drop 0 = dktX0_morning_0 := by decide +kernel
theorem dksX0_morning_1 : cX0_morning.data.toList.drop 24 = dktX0_morning_1 := dk_seg dksX0_morning_0 24 rfl rfl
theorem dksX0_morning_2 : cX0_morning.data.toList.drop 47 = dktX0_morning_2 := dk_seg dksX0_morning_1 23 rfl rfl
theorem dX0_morning_0 : decode cX0_morning 0 = .ok (.iload_n 1, 1) := dk_27 (dk_at dksX0_morning_0 0 rfl rfl)
theorem dX0_morning_1 : decode cX0_morning 1 = .ok (.iconst 1, 1) := dk_4 (dk_at dksX0_morning_0 1 rfl rfl)
theorem dX0_morning_2 : decode cX0_morning 2 = .ok (.bipush 99, 2) := dk_16 99 (dk_at dksX0_morning_0 2 rfl rfl)
theorem dX0_morning_4 : decode cX0_morning 4 = .ok (.invokestatic 62, 3) := dk_184 0 62 (dk_at dksX0_morning_0 4 rfl rfl)
theorem dX0_morning_7 : decode cX0_morning 7 = .ok (.ifCond .eq 20, 3) := dk_153 0 20 (dk_at dksX0_morning_0 7 rfl rfl)
theorem dX0_morning_10 : decode cX0_morning 10 = .ok (.aload_n 0, 1) := dk_42 (dk_at dksX0_morning_0 10 rfl rfl)
theorem dX0_morning_11 : decode cX0_morning 11 = .ok (.getfield 12, 3) := dk_180 0 12 (dk_at dksX0_morning_0 11 rfl rfl)
theorem dX0_morning_14 : decode cX0_morning 14 = .ok (.getfield 149, 3) := dk_180 0 149 (dk_at dksX0_morning_0 14 rfl rfl)
theorem dX0_morning_17 : decode cX0_morning 17 = .ok (.iconst 1, 1) := dk_4 (dk_at dksX0_morning_0 17 rfl rfl)
theorem dX0_morning_18 : decode cX0_morning 18 = .ok (.iaload, 1) := dk_46 (dk_at dksX0_morning_0 18 rfl rfl)
theorem dX0_morning_19 : decode cX0_morning 19 = .ok (.iload_n 1, 1) := dk_27 (dk_at dksX0_morning_0 19 rfl rfl)
theorem dX0_morning_20 : decode cX0_morning 20 = .ok (.iadd, 1) := dk_96 (dk_at dksX0_morning_0 20 rfl rfl)
theorem dX0_morning_21 : decode cX0_morning 21 = .ok (.sipush 999, 3) := dk_17 3 231 (dk_at dksX0_morning_0 21 rfl rfl)
theorem dX0_morning_24 : decode cX0_morning 24 = .ok (.if_icmp .le 5, 3) := dk_164 0 5 (dk_at dksX0_morning_1 0 rfl rfl)
theorem dX0_morning_27 : decode cX0_morning 27 = .ok (.iconst (-1), 1) := dk_2 (dk_at dksX0_morning_1 3 rfl rfl)
theorem dX0_morning_28 : decode cX0_morning 28 = .ok (.ireturn, 1) := dk_172 (dk_at dksX0_morning_1 4 rfl rfl)
theorem dX0_morning_29 : decode cX0_morning 29 = .ok (.iconst 0, 1) := dk_3 (dk_at dksX0_morning_1 5 rfl rfl)
theorem dX0_morning_30 : decode cX0_morning 30 = .ok (.istore_n 2, 1) := dk_61 (dk_at dksX0_morning_1 6 rfl rfl)
theorem dX0_morning_31 : decode cX0_morning 31 = .ok (.iload_n 2, 1) := dk_28 (dk_at dksX0_morning_1 7 rfl rfl)
theorem dX0_morning_32 : decode cX0_morning 32 = .ok (.iload_n 1, 1) := dk_27 (dk_at dksX0_morning_1 8 rfl rfl)
theorem dX0_morning_33 : decode cX0_morning 33 = .ok (.if_icmp .ge 20, 3) := dk_162 0 20 (dk_at dksX0_morning_1 9 rfl rfl)
theorem dX0_morning_36 : decode cX0_morning 36 = .ok (.aload_n 0, 1) := dk_42 (dk_at dksX0_morning_1 12 rfl rfl)
theorem dX0_morning_37 : decode cX0_morning 37 = .ok (.getfield 12, 3) := dk_180 0 12 (dk_at dksX0_morning_1 13 rfl rfl)
theorem dX0_morning_40 : decode cX0_morning 40 = .ok (.invokevirtual 228, 3) := dk_182 0 228 (dk_at dksX0_morning_1 16 rfl rfl)
theorem dX0_morning_43 : decode cX0_morning 43 = .ok (.aload_n 0, 1) := dk_42 (dk_at dksX0_morning_1 19 rfl rfl)
theorem dX0_morning_44 : decode cX0_morning 44 = .ok (.invokevirtual 231, 3) := dk_182 0 231 (dk_at dksX0_morning_1 20 rfl rfl)
theorem dX0_morning_47 : decode cX0_morning 47 = .ok (.iinc 2 1, 3) := dk_132 2 1 (dk_at dksX0_morning_2 0 rfl rfl)
theorem dX0_morning_50 : decode cX0_morning 50 = .ok (.goto (-19), 3) := dk_167 255 237 (dk_at dksX0_morning_2 3 rfl rfl)
theorem dX0_morning_53 : decode cX0_morning 53 = .ok (.aload_n 0, 1) := dk_42 (dk_at dksX0_morning_2 6 rfl rfl)
theorem dX0_morning_54 : decode cX0_morning 54 = .ok (.invokevirtual 158, 3) := dk_182 0 158 (dk_at dksX0_morning_2 7 rfl rfl)
theorem dX0_morning_57 : decode cX0_morning 57 = .ok (.ireturn, 1) := dk_172 (dk_at dksX0_morning_2 10 rfl rfl)
def dkwX0_mornings_5 : List UInt8 := [79, 177]
abbrev dktX0_mornings_5 : List UInt8 := dkwX0_mornings_5 ++ []
def dkwX0_mornings_4 : List UInt8 := [180, 0, 12, 180, 0, 149, 3, 92, 46, 27, 130, 79, 42, 180, 0, 12, 180, 0, 149, 4, 92, 46, 4, 96]
abbrev dktX0_mornings_4 : List UInt8 := dkwX0_mornings_4 ++ dktX0_mornings_5
def dkwX0_mornings_3 : List UInt8 := [180, 0, 12, 180, 0, 149, 6, 28, 96, 46, 4, 96, 184, 0, 225, 79, 132, 2, 1, 167, 255, 205, 42]
abbrev dktX0_mornings_3 : List UInt8 := dkwX0_mornings_3 ++ dktX0_mornings_4
def dkwX0_mornings_2 : List UInt8 := [180, 0, 149, 6, 28, 96, 27, 28, 184, 0, 77, 153, 0, 7, 3, 167, 0, 22, 17, 3, 231, 42]
abbrev dktX0_mornings_2 : List UInt8 := dkwX0_mornings_2 ++ dktX0_mornings_3
def dkwX0_mornings_1 : List UInt8 := [167, 0, 4, 3, 128, 60, 132, 2, 1, 167, 255, 229, 3, 61, 28, 16, 26, 162, 0, 51, 42, 180, 0, 12]
abbrev dktX0_mornings_1 : List UInt8 := dkwX0_mornings_1 ++ dktX0_mornings_2
def dkwX0_mornings_0 : List UInt8 := [3, 60, 3, 61, 28, 16, 26, 162, 0, 27, 27, 42, 28, 182, 0, 222, 153, 0, 9, 4, 28, 120]
abbrev dktX0_mornings_0 : List UInt8 := dkwX0_mornings_0 ++ dktX0_mornings_1
theorem dksX0_mornings_0 : cX0_mornings.data.toList.drop 0 = dktX0_mornings_0 := by decide +kernel
theorem dksX0_mornings_1 : cX0_mornings.data.toList.drop 22 = dktX0_mornings_1 := dk_seg dksX0_mornings_0 22 rfl rfl
theorem dksX0_mornings_2 : cX0_mornings.data.toList.drop 46 = dktX0_mornings_2 := dk_seg dksX0_mornings_1 24 rfl rfl
theorem dksX0_mornings_3 : cX0_mornings.data.toList.drop 68 = dktX0_mornings_3 := dk_seg dksX0_mornings_2 22 rfl rfl
theorem dksX0_mornings_4 : cX0_mornings.data.toList.drop 91 = dktX0_mornings_4 := dk_seg dksX0_mornings_3 23 rfl rfl
theorem dksX0_mornings_5 : cX0_mornings.data.toList.drop 115 = dktX0_mornings_5 := dk_seg dksX0_mornings_4 24 rfl rfl
theorem dX0_mornings_0 : decode cX0_mornings 0 = .ok (.iconst 0, 1) := dk_3 (dk_at dksX0_mornings_0 0 rfl rfl)
theorem dX0_mornings_1 : decode cX0_mornings 1 = .ok (.istore_n 1, 1) := dk_60 (dk_at dksX0_mornings_0 1 rfl rfl)
theorem dX0_mornings_2 : decode cX0_mornings 2 = .ok (.iconst 0, 1) := dk_3 (dk_at dksX0_mornings_0 2 rfl rfl)
theorem dX0_mornings_3 : decode cX0_mornings 3 = .ok (.istore_n 2, 1) := dk_61 (dk_at dksX0_mornings_0 3 rfl rfl)
theorem dX0_mornings_4 : decode cX0_mornings 4 = .ok (.iload_n 2, 1) := dk_28 (dk_at dksX0_mornings_0 4 rfl rfl)
theorem dX0_mornings_5 : decode cX0_mornings 5 = .ok (.bipush 26, 2) := dk_16 26 (dk_at dksX0_mornings_0 5 rfl rfl)
theorem dX0_mornings_7 : decode cX0_mornings 7 = .ok (.if_icmp .ge 27, 3) := dk_162 0 27 (dk_at dksX0_mornings_0 7 rfl rfl)
theorem dX0_mornings_10 : decode cX0_mornings 10 = .ok (.iload_n 1, 1) := dk_27 (dk_at dksX0_mornings_0 10 rfl rfl)
theorem dX0_mornings_11 : decode cX0_mornings 11 = .ok (.aload_n 0, 1) := dk_42 (dk_at dksX0_mornings_0 11 rfl rfl)
theorem dX0_mornings_12 : decode cX0_mornings 12 = .ok (.iload_n 2, 1) := dk_28 (dk_at dksX0_mornings_0 12 rfl rfl)
theorem dX0_mornings_13 : decode cX0_mornings 13 = .ok (.invokevirtual 222, 3) := dk_182 0 222 (dk_at dksX0_mornings_0 13 rfl rfl)
theorem dX0_mornings_16 : decode cX0_mornings 16 = .ok (.ifCond .eq 9, 3) := dk_153 0 9 (dk_at dksX0_mornings_0 16 rfl rfl)
theorem dX0_mornings_19 : decode cX0_mornings 19 = .ok (.iconst 1, 1) := dk_4 (dk_at dksX0_mornings_0 19 rfl rfl)
theorem dX0_mornings_20 : decode cX0_mornings 20 = .ok (.iload_n 2, 1) := dk_28 (dk_at dksX0_mornings_0 20 rfl rfl)
theorem dX0_mornings_21 : decode cX0_mornings 21 = .ok (.ishl, 1) := dk_120 (dk_at dksX0_mornings_0 21 rfl rfl)
theorem dX0_mornings_22 : decode cX0_mornings 22 = .ok (.goto 4, 3) := dk_167 0 4 (dk_at dksX0_mornings_1 0 rfl rfl)
theorem dX0_mornings_25 : decode cX0_mornings 25 = .ok (.iconst 0, 1) := dk_3 (dk_at dksX0_mornings_1 3 rfl rfl)
theorem dX0_mornings_26 : decode cX0_mornings 26 = .ok (.ior, 1) := dk_128 (dk_at dksX0_mornings_1 4 rfl rfl)
theorem dX0_mornings_27 : decode cX0_mornings 27 = .ok (.istore_n 1, 1) := dk_60 (dk_at dksX0_mornings_1 5 rfl rfl)
theorem dX0_mornings_28 : decode cX0_mornings 28 = .ok (.iinc 2 1, 3) := dk_132 2 1 (dk_at dksX0_mornings_1 6 rfl rfl)
theorem dX0_mornings_31 : decode cX0_mornings 31 = .ok (.goto (-27), 3) := dk_167 255 229 (dk_at dksX0_mornings_1 9 rfl rfl)
theorem dX0_mornings_34 : decode cX0_mornings 34 = .ok (.iconst 0, 1) := dk_3 (dk_at dksX0_mornings_1 12 rfl rfl)
theorem dX0_mornings_35 : decode cX0_mornings 35 = .ok (.istore_n 2, 1) := dk_61 (dk_at dksX0_mornings_1 13 rfl rfl)
theorem dX0_mornings_36 : decode cX0_mornings 36 = .ok (.iload_n 2, 1) := dk_28 (dk_at dksX0_mornings_1 14 rfl rfl)
theorem dX0_mornings_37 : decode cX0_mornings 37 = .ok (.bipush 26, 2) := dk_16 26 (dk_at dksX0_mornings_1 15 rfl rfl)
theorem dX0_mornings_39 : decode cX0_mornings 39 = .ok (.if_icmp .ge 51, 3) := dk_162 0 51 (dk_at dksX0_mornings_1 17 rfl rfl)
theorem dX0_mornings_42 : decode cX0_mornings 42 = .ok (.aload_n 0, 1) := dk_42 (dk_at dksX0_mornings_1 20 rfl rfl)
theorem dX0_mornings_43 : decode cX0_mornings 43 = .ok (.getfield 12, 3) := dk_180 0 12 (dk_at dksX0_mornings_1 21 rfl rfl)
theorem dX0_mornings_46 : decode cX0_mornings 46 = .ok (.getfield 149, 3) := dk_180 0 149 (dk_at dksX0_mornings_2 0 rfl rfl)
theorem dX0_mornings_49 : decode cX0_mornings 49 = .ok (.iconst 3, 1) := dk_6 (dk_at dksX0_mornings_2 3 rfl rfl)
theorem dX0_mornings_50 : decode cX0_mornings 50 = .ok (.iload_n 2, 1) := dk_28 (dk_at dksX0_mornings_2 4 rfl rfl)
theorem dX0_mornings_51 : decode cX0_mornings 51 = .ok (.iadd, 1) := dk_96 (dk_at dksX0_mornings_2 5 rfl rfl)
theorem dX0_mornings_52 : decode cX0_mornings 52 = .ok (.iload_n 1, 1) := dk_27 (dk_at dksX0_mornings_2 6 rfl rfl)
theorem dX0_mornings_53 : decode cX0_mornings 53 = .ok (.iload_n 2, 1) := dk_28 (dk_at dksX0_mornings_2 7 rfl rfl)
theorem dX0_mornings_54 : decode cX0_mornings 54 = .ok (.invokestatic 77, 3) := dk_184 0 77 (dk_at dksX0_mornings_2 8 rfl rfl)
theorem dX0_mornings_57 : decode cX0_mornings 57 = .ok (.ifCond .eq 7, 3) := dk_153 0 7 (dk_at dksX0_mornings_2 11 rfl rfl)
theorem dX0_mornings_60 : decode cX0_mornings 60 = .ok (.iconst 0, 1) := dk_3 (dk_at dksX0_mornings_2 14 rfl rfl)
theorem dX0_mornings_61 : decode cX0_mornings 61 = .ok (.goto 22, 3) := dk_167 0 22 (dk_at dksX0_mornings_2 15 rfl rfl)
theorem dX0_mornings_64 : decode cX0_mornings 64 = .ok (.sipush 999, 3) := dk_17 3 231 (dk_at dksX0_mornings_2 18 rfl rfl)
theorem dX0_mornings_67 : decode cX0_mornings 67 = .ok (.aload_n 0, 1) := dk_42 (dk_at dksX0_mornings_2 21 rfl rfl)
theorem dX0_mornings_68 : decode cX0_mornings 68 = .ok (.getfield 12, 3) := dk_180 0 12 (dk_at dksX0_mornings_3 0 rfl rfl)
theorem dX0_mornings_71 : decode cX0_mornings 71 = .ok (.getfield 149, 3) := dk_180 0 149 (dk_at dksX0_mornings_3 3 rfl rfl)
theorem dX0_mornings_74 : decode cX0_mornings 74 = .ok (.iconst 3, 1) := dk_6 (dk_at dksX0_mornings_3 6 rfl rfl)
theorem dX0_mornings_75 : decode cX0_mornings 75 = .ok (.iload_n 2, 1) := dk_28 (dk_at dksX0_mornings_3 7 rfl rfl)
theorem dX0_mornings_76 : decode cX0_mornings 76 = .ok (.iadd, 1) := dk_96 (dk_at dksX0_mornings_3 8 rfl rfl)
theorem dX0_mornings_77 : decode cX0_mornings 77 = .ok (.iaload, 1) := dk_46 (dk_at dksX0_mornings_3 9 rfl rfl)
theorem dX0_mornings_78 : decode cX0_mornings 78 = .ok (.iconst 1, 1) := dk_4 (dk_at dksX0_mornings_3 10 rfl rfl)
theorem dX0_mornings_79 : decode cX0_mornings 79 = .ok (.iadd, 1) := dk_96 (dk_at dksX0_mornings_3 11 rfl rfl)
theorem dX0_mornings_80 : decode cX0_mornings 80 = .ok (.invokestatic 225, 3) := dk_184 0 225 (dk_at dksX0_mornings_3 12 rfl rfl)
theorem dX0_mornings_83 : decode cX0_mornings 83 = .ok (.iastore, 1) := dk_79 (dk_at dksX0_mornings_3 15 rfl rfl)
theorem dX0_mornings_84 : decode cX0_mornings 84 = .ok (.iinc 2 1, 3) := dk_132 2 1 (dk_at dksX0_mornings_3 16 rfl rfl)
theorem dX0_mornings_87 : decode cX0_mornings 87 = .ok (.goto (-51), 3) := dk_167 255 205 (dk_at dksX0_mornings_3 19 rfl rfl)
theorem dX0_mornings_90 : decode cX0_mornings 90 = .ok (.aload_n 0, 1) := dk_42 (dk_at dksX0_mornings_3 22 rfl rfl)
theorem dX0_mornings_91 : decode cX0_mornings 91 = .ok (.getfield 12, 3) := dk_180 0 12 (dk_at dksX0_mornings_4 0 rfl rfl)
theorem dX0_mornings_94 : decode cX0_mornings 94 = .ok (.getfield 149, 3) := dk_180 0 149 (dk_at dksX0_mornings_4 3 rfl rfl)
theorem dX0_mornings_97 : decode cX0_mornings 97 = .ok (.iconst 0, 1) := dk_3 (dk_at dksX0_mornings_4 6 rfl rfl)
theorem dX0_mornings_98 : decode cX0_mornings 98 = .ok (.dup2, 1) := dk_92 (dk_at dksX0_mornings_4 7 rfl rfl)
theorem dX0_mornings_99 : decode cX0_mornings 99 = .ok (.iaload, 1) := dk_46 (dk_at dksX0_mornings_4 8 rfl rfl)
theorem dX0_mornings_100 : decode cX0_mornings 100 = .ok (.iload_n 1, 1) := dk_27 (dk_at dksX0_mornings_4 9 rfl rfl)
theorem dX0_mornings_101 : decode cX0_mornings 101 = .ok (.ixor, 1) := dk_130 (dk_at dksX0_mornings_4 10 rfl rfl)
theorem dX0_mornings_102 : decode cX0_mornings 102 = .ok (.iastore, 1) := dk_79 (dk_at dksX0_mornings_4 11 rfl rfl)
theorem dX0_mornings_103 : decode cX0_mornings 103 = .ok (.aload_n 0, 1) := dk_42 (dk_at dksX0_mornings_4 12 rfl rfl)
theorem dX0_mornings_104 : decode cX0_mornings 104 = .ok (.getfield 12, 3) := dk_180 0 12 (dk_at dksX0_mornings_4 13 rfl rfl)
theorem dX0_mornings_107 : decode cX0_mornings 107 = .ok (.getfield 149, 3) := dk_180 0 149 (dk_at dksX0_mornings_4 16 rfl rfl)
theorem dX0_mornings_110 : decode cX0_mornings 110 = .ok (.iconst 1, 1) := dk_4 (dk_at dksX0_mornings_4 19 rfl rfl)
theorem dX0_mornings_111 : decode cX0_mornings 111 = .ok (.dup2, 1) := dk_92 (dk_at dksX0_mornings_4 20 rfl rfl)
theorem dX0_mornings_112 : decode cX0_mornings 112 = .ok (.iaload, 1) := dk_46 (dk_at dksX0_mornings_4 21 rfl rfl)
theorem dX0_mornings_113 : decode cX0_mornings 113 = .ok (.iconst 1, 1) := dk_4 (dk_at dksX0_mornings_4 22 rfl rfl)
theorem dX0_mornings_114 : decode cX0_mornings 114 = .ok (.iadd, 1) := dk_96 (dk_at dksX0_mornings_4 23 rfl rfl)
theorem dX0_mornings_115 : decode cX0_mornings 115 = .ok (.iastore, 1) := dk_79 (dk_at dksX0_mornings_5 0 rfl rfl)
theorem dX0_mornings_116 : decode cX0_mornings 116 = .ok (.return_, 1) := dk_177 (dk_at dksX0_mornings_5 1 rfl rfl)
def dkwX0_changes_7 : List UInt8 := [27, 182, 0, 186, 79, 25, 5, 42, 180, 0, 30, 185, 0, 189, 2, 0, 172]
abbrev dktX0_changes_7 : List UInt8 := dkwX0_changes_7 ++ []
def dkwX0_changes_6 : List UInt8 := [167, 0, 4, 3, 79, 42, 180, 0, 30, 16, 6, 42, 27, 182, 0, 180, 79, 42, 180, 0, 30, 16, 7, 42]
abbrev dktX0_changes_6 : List UInt8 := dkwX0_changes_6 ++ dktX0_changes_7
def dkwX0_changes_5 : List UInt8 := [42, 180, 0, 30, 7, 21, 4, 79, 42, 180, 0, 30, 8, 18, 185, 27, 184, 0, 77, 153, 0, 7, 4]
abbrev dktX0_changes_5 : List UInt8 := dkwX0_changes_5 ++ dktX0_changes_6
def dkwX0_changes_4 : List UInt8 := [4, 167, 0, 4, 3, 172, 42, 182, 0, 183, 42, 180, 0, 30, 5, 27, 79, 42, 180, 0, 30, 6, 29, 79]
abbrev dktX0_changes_4 : List UInt8 := dkwX0_changes_4 ++ dktX0_changes_5
def dkwX0_changes_3 : List UInt8 := [164, 0, 7, 4, 167, 0, 25, 3, 167, 0, 21, 42, 27, 182, 0, 180, 158, 0, 12, 21, 4, 158, 0, 7]
abbrev dktX0_changes_3 : List UInt8 := dkwX0_changes_3 ++ dktX0_changes_4
def dkwX0_changes_2 : List UInt8 := [167, 0, 10, 42, 182, 0, 168, 180, 0, 177, 58, 5, 25, 5, 199, 0, 40, 28, 153, 0, 17, 29, 16, 9]
abbrev dktX0_changes_2 : List UInt8 := dkwX0_changes_2 ++ dktX0_changes_3
def dkwX0_changes_1 : List UInt8 := [180, 0, 12, 180, 0, 149, 6, 27, 96, 46, 54, 4, 28, 153, 0, 13, 42, 182, 0, 168, 180, 0, 171]
abbrev dktX0_changes_1 : List UInt8 := dkwX0_changes_1 ++ dktX0_changes_2
def dkwX0_changes_0 : List UInt8 := [42, 180, 0, 12, 27, 182, 0, 165, 61, 42, 180, 0, 12, 180, 0, 149, 16, 29, 27, 96, 46, 62, 42]
abbrev dktX0_changes_0 : List UInt8 := dkwX0_changes_0 ++ dktX0_changes_1
theorem dksX0_changes_0 : cX0_changes.data.toList.drop 0 = dktX0_changes_0 := by decide +kernel
theorem dksX0_changes_1 : cX0_changes.data.toList.drop 23 = dktX0_changes_1 := dk_seg dksX0_changes_0 23 rfl rfl
theorem dksX0_changes_2 : cX0_changes.data.toList.drop 46 = dktX0_changes_2 := dk_seg dksX0_changes_1 23 rfl rfl
theorem dksX0_changes_3 : cX0_changes.data.toList.drop 70 = dktX0_changes_3 := dk_seg dksX0_changes_2 24 rfl rfl
theorem dksX0_changes_4 : cX0_changes.data.toList.drop 94 = dktX0_changes_4 := dk_seg dksX0_changes_3 24 rfl rfl
theorem dksX0_changes_5 : cX0_changes.data.toList.drop 118 = dktX0_changes_5 := dk_seg dksX0_changes_4 24 rfl rfl
theorem dksX0_changes_6 : cX0_changes.data.toList.drop 141 = dktX0_changes_6 := dk_seg dksX0_changes_5 23 rfl rfl
theorem dksX0_changes_7 : cX0_changes.data.toList.drop 165 = dktX0_changes_7 := dk_seg dksX0_changes_6 24 rfl rfl
theorem dX0_changes_0 : decode cX0_changes 0 = .ok (.aload_n 0, 1) := dk_42 (dk_at dksX0_changes_0 0 rfl rfl)
theorem dX0_changes_1 : decode cX0_changes 1 = .ok (.getfield 12, 3) := dk_180 0 12 (dk_at dksX0_changes_0 1 rfl rfl)
theorem dX0_changes_4 : decode cX0_changes 4 = .ok (.iload_n 1, 1) := dk_27 (dk_at dksX0_changes_0 4 rfl rfl)
theorem dX0_changes_5 : decode cX0_changes 5 = .ok (.invokevirtual 165, 3) := dk_182 0 165 (dk_at dksX0_changes_0 5 rfl rfl)
theorem dX0_changes_8 : decode cX0_changes 8 = .ok (.istore_n 2, 1) := dk_61 (dk_at dksX0_changes_0 8 rfl rfl)
theorem dX0_changes_9 : decode cX0_changes 9 = .ok (.aload_n 0, 1) := dk_42 (dk_at dksX0_changes_0 9 rfl rfl)
theorem dX0_changes_10 : decode cX0_changes 10 = .ok (.getfield 12, 3) := dk_180 0 12 (dk_at dksX0_changes_0 10 rfl rfl)
theorem dX0_changes_13 : decode cX0_changes 13 = .ok (.getfield 149, 3) := dk_180 0 149 (dk_at dksX0_changes_0 13 rfl rfl)
theorem dX0_changes_16 : decode cX0_changes 16 = .ok (.bipush 29, 2) := dk_16 29 (dk_at dksX0_changes_0 16 rfl rfl)
theorem dX0_changes_18 : decode cX0_changes 18 = .ok (.iload_n 1, 1) := dk_27 (dk_at dksX0_changes_0 18 rfl rfl)
theorem dX0_changes_19 : decode cX0_changes 19 = .ok (.iadd, 1) := dk_96 (dk_at dksX0_changes_0 19 rfl rfl)
theorem dX0_changes_20 : decode cX0_changes 20 = .ok (.iaload, 1) := dk_46 (dk_at dksX0_changes_0 20 rfl rfl)
theorem dX0_changes_21 : decode cX0_changes 21 = .ok (.istore_n 3, 1) := dk_62 (dk_at dksX0_changes_0 21 rfl rfl)
theorem dX0_changes_22 : decode cX0_changes 22 = .ok (.aload_n 0, 1) := dk_42 (dk_at dksX0_changes_0 22 rfl rfl)
theorem dX0_changes_23 : decode cX0_changes 23 = .ok (.getfield 12, 3) := dk_180 0 12 (dk_at dksX0_changes_1 0 rfl rfl)
theorem dX0_changes_26 : decode cX0_changes 26 = .ok (.getfield 149, 3) := dk_180 0 149 (dk_at dksX0_changes_1 3 rfl rfl)
theorem dX0_changes_29 : decode cX0_changes 29 = .ok (.iconst 3, 1) := dk_6 (dk_at dksX0_changes_1 6 rfl rfl)
theorem dX0_changes_30 : decode cX0_changes 30 = .ok (.iload_n 1, 1) := dk_27 (dk_at dksX0_changes_1 7 rfl rfl)
theorem dX0_changes_31 : decode cX0_changes 31 = .ok (.iadd, 1) := dk_96 (dk_at dksX0_changes_1 8 rfl rfl)
theorem dX0_changes_32 : decode cX0_changes 32 = .ok (.iaload, 1) := dk_46 (dk_at dksX0_changes_1 9 rfl rfl)
theorem dX0_changes_33 : decode cX0_changes 33 = .ok (.istore 4, 2) := dk_54 4 (dk_at dksX0_changes_1 10 rfl rfl)
theorem dX0_changes_35 : decode cX0_changes 35 = .ok (.iload_n 2, 1) := dk_28 (dk_at dksX0_changes_1 12 rfl rfl)
theorem dX0_changes_36 : decode cX0_changes 36 = .ok (.ifCond .eq 13, 3) := dk_153 0 13 (dk_at dksX0_changes_1 13 rfl rfl)
theorem dX0_changes_39 : decode cX0_changes 39 = .ok (.aload_n 0, 1) := dk_42 (dk_at dksX0_changes_1 16 rfl rfl)
theorem dX0_changes_40 : decode cX0_changes 40 = .ok (.invokevirtual 168, 3) := dk_182 0 168 (dk_at dksX0_changes_1 17 rfl rfl)
theorem dX0_changes_43 : decode cX0_changes 43 = .ok (.getfield 171, 3) := dk_180 0 171 (dk_at dksX0_changes_1 20 rfl rfl)
theorem dX0_changes_46 : decode cX0_changes 46 = .ok (.goto 10, 3) := dk_167 0 10 (dk_at dksX0_changes_2 0 rfl rfl)
theorem dX0_changes_49 : decode cX0_changes 49 = .ok (.aload_n 0, 1) := dk_42 (dk_at dksX0_changes_2 3 rfl rfl)
theorem dX0_changes_50 : decode cX0_changes 50 = .ok (.invokevirtual 168, 3) := dk_182 0 168 (dk_at dksX0_changes_2 4 rfl rfl)
theorem dX0_changes_53 : decode cX0_changes 53 = .ok (.getfield 177, 3) := dk_180 0 177 (dk_at dksX0_changes_2 7 rfl rfl)
theorem dX0_changes_56 : decode cX0_changes 56 = .ok (.astore 5, 2) := dk_58 5 (dk_at dksX0_changes_2 10 rfl rfl)
theorem dX0_changes_58 : decode cX0_changes 58 = .ok (.aload 5, 2) := dk_25 5 (dk_at dksX0_changes_2 12 rfl rfl)
theorem dX0_changes_60 : decode cX0_changes 60 = .ok (.ifnonnull 40, 3) := dk_199 0 40 (dk_at dksX0_changes_2 14 rfl rfl)
theorem dX0_changes_63 : decode cX0_changes 63 = .ok (.iload_n 2, 1) := dk_28 (dk_at dksX0_changes_2 17 rfl rfl)
theorem dX0_changes_64 : decode cX0_changes 64 = .ok (.ifCond .eq 17, 3) := dk_153 0 17 (dk_at dksX0_changes_2 18 rfl rfl)
theorem dX0_changes_67 : decode cX0_changes 67 = .ok (.iload_n 3, 1) := dk_29 (dk_at dksX0_changes_2 21 rfl rfl)
theorem dX0_changes_68 : decode cX0_changes 68 = .ok (.bipush 9, 2) := dk_16 9 (dk_at dksX0_changes_2 22 rfl rfl)
theorem dX0_changes_70 : decode cX0_changes 70 = .ok (.if_icmp .le 7, 3) := dk_164 0 7 (dk_at dksX0_changes_3 0 rfl rfl)
theorem dX0_changes_73 : decode cX0_changes 73 = .ok (.iconst 1, 1) := dk_4 (dk_at dksX0_changes_3 3 rfl rfl)
theorem dX0_changes_74 : decode cX0_changes 74 = .ok (.goto 25, 3) := dk_167 0 25 (dk_at dksX0_changes_3 4 rfl rfl)
theorem dX0_changes_77 : decode cX0_changes 77 = .ok (.iconst 0, 1) := dk_3 (dk_at dksX0_changes_3 7 rfl rfl)
theorem dX0_changes_78 : decode cX0_changes 78 = .ok (.goto 21, 3) := dk_167 0 21 (dk_at dksX0_changes_3 8 rfl rfl)
theorem dX0_changes_81 : decode cX0_changes 81 = .ok (.aload_n 0, 1) := dk_42 (dk_at dksX0_changes_3 11 rfl rfl)
theorem dX0_changes_82 : decode cX0_changes 82 = .ok (.iload_n 1, 1) := dk_27 (dk_at dksX0_changes_3 12 rfl rfl)
theorem dX0_changes_83 : decode cX0_changes 83 = .ok (.invokevirtual 180, 3) := dk_182 0 180 (dk_at dksX0_changes_3 13 rfl rfl)
theorem dX0_changes_86 : decode cX0_changes 86 = .ok (.ifCond .le 12, 3) := dk_158 0 12 (dk_at dksX0_changes_3 16 rfl rfl)
theorem dX0_changes_89 : decode cX0_changes 89 = .ok (.iload 4, 2) := dk_21 4 (dk_at dksX0_changes_3 19 rfl rfl)
theorem dX0_changes_91 : decode cX0_changes 91 = .ok (.ifCond .le 7, 3) := dk_158 0 7 (dk_at dksX0_changes_3 21 rfl rfl)
theorem dX0_changes_94 : decode cX0_changes 94 = .ok (.iconst 1, 1) := dk_4 (dk_at dksX0_changes_4 0 rfl rfl)
theorem dX0_changes_95 : decode cX0_changes 95 = .ok (.goto 4, 3) := dk_167 0 4 (dk_at dksX0_changes_4 1 rfl rfl)
theorem dX0_changes_98 : decode cX0_changes 98 = .ok (.iconst 0, 1) := dk_3 (dk_at dksX0_changes_4 4 rfl rfl)
theorem dX0_changes_99 : decode cX0_changes 99 = .ok (.ireturn, 1) := dk_172 (dk_at dksX0_changes_4 5 rfl rfl)
theorem dX0_changes_100 : decode cX0_changes 100 = .ok (.aload_n 0, 1) := dk_42 (dk_at dksX0_changes_4 6 rfl rfl)
theorem dX0_changes_101 : decode cX0_changes 101 = .ok (.invokevirtual 183, 3) := dk_182 0 183 (dk_at dksX0_changes_4 7 rfl rfl)
theorem dX0_changes_104 : decode cX0_changes 104 = .ok (.aload_n 0, 1) := dk_42 (dk_at dksX0_changes_4 10 rfl rfl)
theorem dX0_changes_105 : decode cX0_changes 105 = .ok (.getfield 30, 3) := dk_180 0 30 (dk_at dksX0_changes_4 11 rfl rfl)
theorem dX0_changes_108 : decode cX0_changes 108 = .ok (.iconst 2, 1) := dk_5 (dk_at dksX0_changes_4 14 rfl rfl)
theorem dX0_changes_109 : decode cX0_changes 109 = .ok (.iload_n 1, 1) := dk_27 (dk_at dksX0_changes_4 15 rfl rfl)
theorem dX0_changes_110 : decode cX0_changes 110 = .ok (.iastore, 1) := dk_79 (dk_at dksX0_changes_4 16 rfl rfl)
theorem dX0_changes_111 : decode cX0_changes 111 = .ok (.aload_n 0, 1) := dk_42 (dk_at dksX0_changes_4 17 rfl rfl)
theorem dX0_changes_112 : decode cX0_changes 112 = .ok (.getfield 30, 3) := dk_180 0 30 (dk_at dksX0_changes_4 18 rfl rfl)
theorem dX0_changes_115 : decode cX0_changes 115 = .ok (.iconst 3, 1) := dk_6 (dk_at dksX0_changes_4 21 rfl rfl)
theorem dX0_changes_116 : decode cX0_changes 116 = .ok (.iload_n 3, 1) := dk_29 (dk_at dksX0_changes_4 22 rfl rfl)
theorem dX0_changes_117 : decode cX0_changes 117 = .ok (.iastore, 1) := dk_79 (dk_at dksX0_changes_4 23 rfl rfl)
theorem dX0_changes_118 : decode cX0_changes 118 = .ok (.aload_n 0, 1) := dk_42 (dk_at dksX0_changes_5 0 rfl rfl)
theorem dX0_changes_119 : decode cX0_changes 119 = .ok (.getfield 30, 3) := dk_180 0 30 (dk_at dksX0_changes_5 1 rfl rfl)
theorem dX0_changes_122 : decode cX0_changes 122 = .ok (.iconst 4, 1) := dk_7 (dk_at dksX0_changes_5 4 rfl rfl)
theorem dX0_changes_123 : decode cX0_changes 123 = .ok (.iload 4, 2) := dk_21 4 (dk_at dksX0_changes_5 5 rfl rfl)
theorem dX0_changes_125 : decode cX0_changes 125 = .ok (.iastore, 1) := dk_79 (dk_at dksX0_changes_5 7 rfl rfl)
theorem dX0_changes_126 : decode cX0_changes 126 = .ok (.aload_n 0, 1) := dk_42 (dk_at dksX0_changes_5 8 rfl rfl)
theorem dX0_changes_127 : decode cX0_changes 127 = .ok (.getfield 30, 3) := dk_180 0 30 (dk_at dksX0_changes_5 9 rfl rfl)
theorem dX0_changes_130 : decode cX0_changes 130 = .ok (.iconst 5, 1) := dk_8 (dk_at dksX0_changes_5 12 rfl rfl)
theorem dX0_changes_131 : decode cX0_changes 131 = .ok (.ldc 185, 2) := dk_18 185 (dk_at dksX0_changes_5 13 rfl rfl)
theorem dX0_changes_133 : decode cX0_changes 133 = .ok (.iload_n 1, 1) := dk_27 (dk_at dksX0_changes_5 15 rfl rfl)
theorem dX0_changes_134 : decode cX0_changes 134 = .ok (.invokestatic 77, 3) := dk_184 0 77 (dk_at dksX0_changes_5 16 rfl rfl)
theorem dX0_changes_137 : decode cX0_changes 137 = .ok (.ifCond .eq 7, 3) := dk_153 0 7 (dk_at dksX0_changes_5 19 rfl rfl)
theorem dX0_changes_140 : decode cX0_changes 140 = .ok (.iconst 1, 1) := dk_4 (dk_at dksX0_changes_5 22 rfl rfl)
theorem dX0_changes_141 : decode cX0_changes 141 = .ok (.goto 4, 3) := dk_167 0 4 (dk_at dksX0_changes_6 0 rfl rfl)
theorem dX0_changes_144 : decode cX0_changes 144 = .ok (.iconst 0, 1) := dk_3 (dk_at dksX0_changes_6 3 rfl rfl)
theorem dX0_changes_145 : decode cX0_changes 145 = .ok (.iastore, 1) := dk_79 (dk_at dksX0_changes_6 4 rfl rfl)
theorem dX0_changes_146 : decode cX0_changes 146 = .ok (.aload_n 0, 1) := dk_42 (dk_at dksX0_changes_6 5 rfl rfl)
theorem dX0_changes_147 : decode cX0_changes 147 = .ok (.getfield 30, 3) := dk_180 0 30 (dk_at dksX0_changes_6 6 rfl rfl)
theorem dX0_changes_150 : decode cX0_changes 150 = .ok (.bipush 6, 2) := dk_16 6 (dk_at dksX0_changes_6 9 rfl rfl)
theorem dX0_changes_152 : decode cX0_changes 152 = .ok (.aload_n 0, 1) := dk_42 (dk_at dksX0_changes_6 11 rfl rfl)
theorem dX0_changes_153 : decode cX0_changes 153 = .ok (.iload_n 1, 1) := dk_27 (dk_at dksX0_changes_6 12 rfl rfl)
theorem dX0_changes_154 : decode cX0_changes 154 = .ok (.invokevirtual 180, 3) := dk_182 0 180 (dk_at dksX0_changes_6 13 rfl rfl)
theorem dX0_changes_157 : decode cX0_changes 157 = .ok (.iastore, 1) := dk_79 (dk_at dksX0_changes_6 16 rfl rfl)
theorem dX0_changes_158 : decode cX0_changes 158 = .ok (.aload_n 0, 1) := dk_42 (dk_at dksX0_changes_6 17 rfl rfl)
theorem dX0_changes_159 : decode cX0_changes 159 = .ok (.getfield 30, 3) := dk_180 0 30 (dk_at dksX0_changes_6 18 rfl rfl)
theorem dX0_changes_162 : decode cX0_changes 162 = .ok (.bipush 7, 2) := dk_16 7 (dk_at dksX0_changes_6 21 rfl rfl)
theorem dX0_changes_164 : decode cX0_changes 164 = .ok (.aload_n 0, 1) := dk_42 (dk_at dksX0_changes_6 23 rfl rfl)
theorem dX0_changes_165 : decode cX0_changes 165 = .ok (.iload_n 1, 1) := dk_27 (dk_at dksX0_changes_7 0 rfl rfl)
theorem dX0_changes_166 : decode cX0_changes 166 = .ok (.invokevirtual 186, 3) := dk_182 0 186 (dk_at dksX0_changes_7 1 rfl rfl)
theorem dX0_changes_169 : decode cX0_changes 169 = .ok (.iastore, 1) := dk_79 (dk_at dksX0_changes_7 4 rfl rfl)
theorem dX0_changes_170 : decode cX0_changes 170 = .ok (.aload 5, 2) := dk_25 5 (dk_at dksX0_changes_7 5 rfl rfl)
theorem dX0_changes_172 : decode cX0_changes 172 = .ok (.aload_n 0, 1) := dk_42 (dk_at dksX0_changes_7 7 rfl rfl)
theorem dX0_changes_173 : decode cX0_changes 173 = .ok (.getfield 30, 3) := dk_180 0 30 (dk_at dksX0_changes_7 8 rfl rfl)
theorem dX0_changes_176 : decode cX0_changes 176 = .ok (.invokeinterface 189 2, 5) := by decide +kernel
theorem dX0_changes_181 : decode cX0_changes 181 = .ok (.ireturn, 1) := dk_172 (dk_at dksX0_changes_7 16 rfl rfl)
def dkwX0_rules_1 : List UInt8 := [180, 0, 123, 42, 180, 0, 12, 180, 0, 66, 6, 46, 50, 176]
abbrev dktX0_rules_1 : List UInt8 := dkwX0_rules_1 ++ []
def dkwX0_rules_0 : List UInt8 := [42, 180, 0, 12, 180, 0, 66, 6, 46, 2, 160, 0, 9, 178, 0, 145, 167, 0, 20, 42, 180, 0, 12]
abbrev dktX0_rules_0 : List UInt8 := dkwX0_rules_0 ++ dktX0_rules_1
theorem dksX0_rules_0 : cX0_rules.data.toList.drop 0 = dktX0_rules_0 := by decide +kernel
theorem dksX0_rules_1 : cX0_rules.data.toList.drop 23 = dktX0_rules_1 := dk_seg dksX0_rules_0 23 rfl rfl
theorem dX0_rules_0 : decode cX0_rules 0 = .ok (.aload_n 0, 1) := dk_42 (dk_at dksX0_rules_0 0 rfl rfl)
theorem dX0_rules_1 : decode cX0_rules 1 = .ok (.getfield 12, 3) := dk_180 0 12 (dk_at dksX0_rules_0 1 rfl rfl)
theorem dX0_rules_4 : decode cX0_rules 4 = .ok (.getfield 66, 3) := dk_180 0 66 (dk_at dksX0_rules_0 4 rfl rfl)
theorem dX0_rules_7 : decode cX0_rules 7 = .ok (.iconst 3, 1) := dk_6 (dk_at dksX0_rules_0 7 rfl rfl)
theorem dX0_rules_8 : decode cX0_rules 8 = .ok (.iaload, 1) := dk_46 (dk_at dksX0_rules_0 8 rfl rfl)
theorem dX0_rules_9 : decode cX0_rules 9 = .ok (.iconst (-1), 1) := dk_2 (dk_at dksX0_rules_0 9 rfl rfl)
theorem dX0_rules_10 : decode cX0_rules 10 = .ok (.if_icmp .ne 9, 3) := dk_160 0 9 (dk_at dksX0_rules_0 10 rfl rfl)
theorem dX0_rules_13 : decode cX0_rules 13 = .ok (.getstatic 145, 3) := dk_178 0 145 (dk_at dksX0_rules_0 13 rfl rfl)
theorem dX0_rules_16 : decode cX0_rules 16 = .ok (.goto 20, 3) := dk_167 0 20 (dk_at dksX0_rules_0 16 rfl rfl)
theorem dX0_rules_19 : decode cX0_rules 19 = .ok (.aload_n 0, 1) := dk_42 (dk_at dksX0_rules_0 19 rfl rfl)
theorem dX0_rules_20 : decode cX0_rules 20 = .ok (.getfield 12, 3) := dk_180 0 12 (dk_at dksX0_rules_0 20 rfl rfl)
theorem dX0_rules_23 : decode cX0_rules 23 = .ok (.getfield 123, 3) := dk_180 0 123 (dk_at dksX0_rules_1 0 rfl rfl)
theorem dX0_rules_26 : decode cX0_rules 26 = .ok (.aload_n 0, 1) := dk_42 (dk_at dksX0_rules_1 3 rfl rfl)
theorem dX0_rules_27 : decode cX0_rules 27 = .ok (.getfield 12, 3) := dk_180 0 12 (dk_at dksX0_rules_1 4 rfl rfl)
theorem dX0_rules_30 : decode cX0_rules 30 = .ok (.getfield 66, 3) := dk_180 0 66 (dk_at dksX0_rules_1 7 rfl rfl)
theorem dX0_rules_33 : decode cX0_rules 33 = .ok (.iconst 3, 1) := dk_6 (dk_at dksX0_rules_1 10 rfl rfl)
theorem dX0_rules_34 : decode cX0_rules 34 = .ok (.iaload, 1) := dk_46 (dk_at dksX0_rules_1 11 rfl rfl)
theorem dX0_rules_35 : decode cX0_rules 35 = .ok (.aaload, 1) := dk_50 (dk_at dksX0_rules_1 12 rfl rfl)
theorem dX0_rules_36 : decode cX0_rules 36 = .ok (.areturn, 1) := dk_176 (dk_at dksX0_rules_1 13 rfl rfl)
def dkwX0_tiedOf_0 : List UInt8 := [42, 180, 0, 12, 180, 0, 74, 27, 46, 42, 180, 0, 12, 180, 0, 149, 3, 46, 126, 184, 0, 152, 172]
abbrev dktX0_tiedOf_0 : List UInt8 := dkwX0_tiedOf_0 ++ []
theorem dksX0_tiedOf_0 : cX0_tiedOf.data.toList.drop 0 = dktX0_tiedOf_0 := by decide +kernel
theorem dX0_tiedOf_0 : decode cX0_tiedOf 0 = .ok (.aload_n 0, 1) := dk_42 (dk_at dksX0_tiedOf_0 0 rfl rfl)
theorem dX0_tiedOf_1 : decode cX0_tiedOf 1 = .ok (.getfield 12, 3) := dk_180 0 12 (dk_at dksX0_tiedOf_0 1 rfl rfl)
theorem dX0_tiedOf_4 : decode cX0_tiedOf 4 = .ok (.getfield 74, 3) := dk_180 0 74 (dk_at dksX0_tiedOf_0 4 rfl rfl)
theorem dX0_tiedOf_7 : decode cX0_tiedOf 7 = .ok (.iload_n 1, 1) := dk_27 (dk_at dksX0_tiedOf_0 7 rfl rfl)
theorem dX0_tiedOf_8 : decode cX0_tiedOf 8 = .ok (.iaload, 1) := dk_46 (dk_at dksX0_tiedOf_0 8 rfl rfl)
theorem dX0_tiedOf_9 : decode cX0_tiedOf 9 = .ok (.aload_n 0, 1) := dk_42 (dk_at dksX0_tiedOf_0 9 rfl rfl)
theorem dX0_tiedOf_10 : decode cX0_tiedOf 10 = .ok (.getfield 12, 3) := dk_180 0 12 (dk_at dksX0_tiedOf_0 10 rfl rfl)
theorem dX0_tiedOf_13 : decode cX0_tiedOf 13 = .ok (.getfield 149, 3) := dk_180 0 149 (dk_at dksX0_tiedOf_0 13 rfl rfl)
theorem dX0_tiedOf_16 : decode cX0_tiedOf 16 = .ok (.iconst 0, 1) := dk_3 (dk_at dksX0_tiedOf_0 16 rfl rfl)
theorem dX0_tiedOf_17 : decode cX0_tiedOf 17 = .ok (.iaload, 1) := dk_46 (dk_at dksX0_tiedOf_0 17 rfl rfl)
theorem dX0_tiedOf_18 : decode cX0_tiedOf 18 = .ok (.iand, 1) := dk_126 (dk_at dksX0_tiedOf_0 18 rfl rfl)
theorem dX0_tiedOf_19 : decode cX0_tiedOf 19 = .ok (.invokestatic 152, 3) := dk_184 0 152 (dk_at dksX0_tiedOf_0 19 rfl rfl)
theorem dX0_tiedOf_22 : decode cX0_tiedOf 22 = .ok (.ireturn, 1) := dk_172 (dk_at dksX0_tiedOf_0 22 rfl rfl)
def dkwX0_names_1 : List UInt8 := [79, 177]
abbrev dktX0_names_1 : List UInt8 := dkwX0_names_1 ++ []
def dkwX0_names_0 : List UInt8 := [42, 180, 0, 30, 3, 42, 180, 0, 12, 180, 0, 149, 4, 46, 79, 42, 180, 0, 30, 4, 42, 182, 0, 158]
abbrev dktX0_names_0 : List UInt8 := dkwX0_names_0 ++ dktX0_names_1
theorem dksX0_names_0 : cX0_names.data.toList.drop 0 = dktX0_names_0 := by decide +kernel
theorem dksX0_names_1 : cX0_names.data.toList.drop 24 = dktX0_names_1 := dk_seg dksX0_names_0 24 rfl rfl
theorem dX0_names_0 : decode cX0_names 0 = .ok (.aload_n 0, 1) := dk_42 (dk_at dksX0_names_0 0 rfl rfl)
theorem dX0_names_1 : decode cX0_names 1 = .ok (.getfield 30, 3) := dk_180 0 30 (dk_at dksX0_names_0 1 rfl rfl)
theorem dX0_names_4 : decode cX0_names 4 = .ok (.iconst 0, 1) := dk_3 (dk_at dksX0_names_0 4 rfl rfl)
theorem dX0_names_5 : decode cX0_names 5 = .ok (.aload_n 0, 1) := dk_42 (dk_at dksX0_names_0 5 rfl rfl)
theorem dX0_names_6 : decode cX0_names 6 = .ok (.getfield 12, 3) := dk_180 0 12 (dk_at dksX0_names_0 6 rfl rfl)
theorem dX0_names_9 : decode cX0_names 9 = .ok (.getfield 149, 3) := dk_180 0 149 (dk_at dksX0_names_0 9 rfl rfl)
theorem dX0_names_12 : decode cX0_names 12 = .ok (.iconst 1, 1) := dk_4 (dk_at dksX0_names_0 12 rfl rfl)
theorem dX0_names_13 : decode cX0_names 13 = .ok (.iaload, 1) := dk_46 (dk_at dksX0_names_0 13 rfl rfl)
theorem dX0_names_14 : decode cX0_names 14 = .ok (.iastore, 1) := dk_79 (dk_at dksX0_names_0 14 rfl rfl)
theorem dX0_names_15 : decode cX0_names 15 = .ok (.aload_n 0, 1) := dk_42 (dk_at dksX0_names_0 15 rfl rfl)
theorem dX0_names_16 : decode cX0_names 16 = .ok (.getfield 30, 3) := dk_180 0 30 (dk_at dksX0_names_0 16 rfl rfl)
theorem dX0_names_19 : decode cX0_names 19 = .ok (.iconst 1, 1) := dk_4 (dk_at dksX0_names_0 19 rfl rfl)
theorem dX0_names_20 : decode cX0_names 20 = .ok (.aload_n 0, 1) := dk_42 (dk_at dksX0_names_0 20 rfl rfl)
theorem dX0_names_21 : decode cX0_names 21 = .ok (.invokevirtual 158, 3) := dk_182 0 158 (dk_at dksX0_names_0 21 rfl rfl)
theorem dX0_names_24 : decode cX0_names 24 = .ok (.iastore, 1) := dk_79 (dk_at dksX0_names_1 0 rfl rfl)
theorem dX0_names_25 : decode cX0_names 25 = .ok (.return_, 1) := dk_177 (dk_at dksX0_names_1 1 rfl rfl)
def dkwX0_outs_0 : List UInt8 := [42, 180, 0, 12, 180, 0, 149, 3, 46, 184, 0, 152, 172]
abbrev dktX0_outs_0 : List UInt8 := dkwX0_outs_0 ++ []
theorem dksX0_outs_0 : cX0_outs.data.toList.drop 0 = dktX0_outs_0 := by decide +kernel
theorem dX0_outs_0 : decode cX0_outs 0 = .ok (.aload_n 0, 1) := dk_42 (dk_at dksX0_outs_0 0 rfl rfl)
theorem dX0_outs_1 : decode cX0_outs 1 = .ok (.getfield 12, 3) := dk_180 0 12 (dk_at dksX0_outs_0 1 rfl rfl)
theorem dX0_outs_4 : decode cX0_outs 4 = .ok (.getfield 149, 3) := dk_180 0 149 (dk_at dksX0_outs_0 4 rfl rfl)
theorem dX0_outs_7 : decode cX0_outs 7 = .ok (.iconst 0, 1) := dk_3 (dk_at dksX0_outs_0 7 rfl rfl)
theorem dX0_outs_8 : decode cX0_outs 8 = .ok (.iaload, 1) := dk_46 (dk_at dksX0_outs_0 8 rfl rfl)
theorem dX0_outs_9 : decode cX0_outs 9 = .ok (.invokestatic 152, 3) := dk_184 0 152 (dk_at dksX0_outs_0 9 rfl rfl)
theorem dX0_outs_12 : decode cX0_outs 12 = .ok (.ireturn, 1) := dk_172 (dk_at dksX0_outs_0 12 rfl rfl)
def dkwX0_usesOf_2 : List UInt8 := [132, 3, 1, 167, 255, 213, 28, 172]
abbrev dktX0_usesOf_2 : List UInt8 := dkwX0_usesOf_2 ++ []
def dkwX0_usesOf_1 : List UInt8 := [180, 0, 81, 29, 50, 182, 0, 162, 27, 184, 0, 77, 153, 0, 7, 4, 167, 0, 4, 3, 96, 61]
abbrev dktX0_usesOf_1 : List UInt8 := dkwX0_usesOf_1 ++ dktX0_usesOf_2
def dkwX0_usesOf_0 : List UInt8 := [3, 61, 3, 62, 29, 42, 180, 0, 12, 180, 0, 66, 3, 46, 162, 0, 36, 28, 42, 180, 0, 12]
abbrev dktX0_usesOf_0 : List UInt8 := dkwX0_usesOf_0 ++ dktX0_usesOf_1
theorem dksX0_usesOf_0 : cX0_usesOf.data.toList.drop 0 = dktX0_usesOf_0 := by decide +kernel
theorem dksX0_usesOf_1 : cX0_usesOf.data.toList.drop 22 = dktX0_usesOf_1 := dk_seg dksX0_usesOf_0 22 rfl rfl
theorem dksX0_usesOf_2 : cX0_usesOf.data.toList.drop 44 = dktX0_usesOf_2 := dk_seg dksX0_usesOf_1 22 rfl rfl
theorem dX0_usesOf_0 : decode cX0_usesOf 0 = .ok (.iconst 0, 1) := dk_3 (dk_at dksX0_usesOf_0 0 rfl rfl)
theorem dX0_usesOf_1 : decode cX0_usesOf 1 = .ok (.istore_n 2, 1) := dk_61 (dk_at dksX0_usesOf_0 1 rfl rfl)
theorem dX0_usesOf_2 : decode cX0_usesOf 2 = .ok (.iconst 0, 1) := dk_3 (dk_at dksX0_usesOf_0 2 rfl rfl)
theorem dX0_usesOf_3 : decode cX0_usesOf 3 = .ok (.istore_n 3, 1) := dk_62 (dk_at dksX0_usesOf_0 3 rfl rfl)
theorem dX0_usesOf_4 : decode cX0_usesOf 4 = .ok (.iload_n 3, 1) := dk_29 (dk_at dksX0_usesOf_0 4 rfl rfl)
theorem dX0_usesOf_5 : decode cX0_usesOf 5 = .ok (.aload_n 0, 1) := dk_42 (dk_at dksX0_usesOf_0 5 rfl rfl)
theorem dX0_usesOf_6 : decode cX0_usesOf 6 = .ok (.getfield 12, 3) := dk_180 0 12 (dk_at dksX0_usesOf_0 6 rfl rfl)
theorem dX0_usesOf_9 : decode cX0_usesOf 9 = .ok (.getfield 66, 3) := dk_180 0 66 (dk_at dksX0_usesOf_0 9 rfl rfl)
theorem dX0_usesOf_12 : decode cX0_usesOf 12 = .ok (.iconst 0, 1) := dk_3 (dk_at dksX0_usesOf_0 12 rfl rfl)
theorem dX0_usesOf_13 : decode cX0_usesOf 13 = .ok (.iaload, 1) := dk_46 (dk_at dksX0_usesOf_0 13 rfl rfl)
theorem dX0_usesOf_14 : decode cX0_usesOf 14 = .ok (.if_icmp .ge 36, 3) := dk_162 0 36 (dk_at dksX0_usesOf_0 14 rfl rfl)
theorem dX0_usesOf_17 : decode cX0_usesOf 17 = .ok (.iload_n 2, 1) := dk_28 (dk_at dksX0_usesOf_0 17 rfl rfl)
theorem dX0_usesOf_18 : decode cX0_usesOf 18 = .ok (.aload_n 0, 1) := dk_42 (dk_at dksX0_usesOf_0 18 rfl rfl)
theorem dX0_usesOf_19 : decode cX0_usesOf 19 = .ok (.getfield 12, 3) := dk_180 0 12 (dk_at dksX0_usesOf_0 19 rfl rfl)
theorem dX0_usesOf_22 : decode cX0_usesOf 22 = .ok (.getfield 81, 3) := dk_180 0 81 (dk_at dksX0_usesOf_1 0 rfl rfl)
theorem dX0_usesOf_25 : decode cX0_usesOf 25 = .ok (.iload_n 3, 1) := dk_29 (dk_at dksX0_usesOf_1 3 rfl rfl)
theorem dX0_usesOf_26 : decode cX0_usesOf 26 = .ok (.aaload, 1) := dk_50 (dk_at dksX0_usesOf_1 4 rfl rfl)
theorem dX0_usesOf_27 : decode cX0_usesOf 27 = .ok (.invokevirtual 162, 3) := dk_182 0 162 (dk_at dksX0_usesOf_1 5 rfl rfl)
theorem dX0_usesOf_30 : decode cX0_usesOf 30 = .ok (.iload_n 1, 1) := dk_27 (dk_at dksX0_usesOf_1 8 rfl rfl)
theorem dX0_usesOf_31 : decode cX0_usesOf 31 = .ok (.invokestatic 77, 3) := dk_184 0 77 (dk_at dksX0_usesOf_1 9 rfl rfl)
theorem dX0_usesOf_34 : decode cX0_usesOf 34 = .ok (.ifCond .eq 7, 3) := dk_153 0 7 (dk_at dksX0_usesOf_1 12 rfl rfl)
theorem dX0_usesOf_37 : decode cX0_usesOf 37 = .ok (.iconst 1, 1) := dk_4 (dk_at dksX0_usesOf_1 15 rfl rfl)
theorem dX0_usesOf_38 : decode cX0_usesOf 38 = .ok (.goto 4, 3) := dk_167 0 4 (dk_at dksX0_usesOf_1 16 rfl rfl)
theorem dX0_usesOf_41 : decode cX0_usesOf 41 = .ok (.iconst 0, 1) := dk_3 (dk_at dksX0_usesOf_1 19 rfl rfl)
theorem dX0_usesOf_42 : decode cX0_usesOf 42 = .ok (.iadd, 1) := dk_96 (dk_at dksX0_usesOf_1 20 rfl rfl)
theorem dX0_usesOf_43 : decode cX0_usesOf 43 = .ok (.istore_n 2, 1) := dk_61 (dk_at dksX0_usesOf_1 21 rfl rfl)
theorem dX0_usesOf_44 : decode cX0_usesOf 44 = .ok (.iinc 3 1, 3) := dk_132 3 1 (dk_at dksX0_usesOf_2 0 rfl rfl)
theorem dX0_usesOf_47 : decode cX0_usesOf 47 = .ok (.goto (-43), 3) := dk_167 255 213 (dk_at dksX0_usesOf_2 3 rfl rfl)
theorem dX0_usesOf_50 : decode cX0_usesOf 50 = .ok (.iload_n 2, 1) := dk_28 (dk_at dksX0_usesOf_2 6 rfl rfl)
theorem dX0_usesOf_51 : decode cX0_usesOf 51 = .ok (.ireturn, 1) := dk_172 (dk_at dksX0_usesOf_2 7 rfl rfl)
def dkwX0_strike_1 : List UInt8 := [167, 0, 4, 2, 172]
abbrev dktX0_strike_1 : List UInt8 := dkwX0_strike_1 ++ []
def dkwX0_strike_0 : List UInt8 := [27, 184, 0, 237, 153, 0, 23, 42, 27, 42, 180, 0, 12, 180, 0, 149, 3, 46, 2, 130, 126, 182, 0, 240]
abbrev dktX0_strike_0 : List UInt8 := dkwX0_strike_0 ++ dktX0_strike_1
theorem dksX0_strike_0 : cX0_strike.data.toList.drop 0 = dktX0_strike_0 := by decide +kernel
theorem dksX0_strike_1 : cX0_strike.data.toList.drop 24 = dktX0_strike_1 := dk_seg dksX0_strike_0 24 rfl rfl
theorem dX0_strike_0 : decode cX0_strike 0 = .ok (.iload_n 1, 1) := dk_27 (dk_at dksX0_strike_0 0 rfl rfl)
theorem dX0_strike_1 : decode cX0_strike 1 = .ok (.invokestatic 237, 3) := dk_184 0 237 (dk_at dksX0_strike_0 1 rfl rfl)
theorem dX0_strike_4 : decode cX0_strike 4 = .ok (.ifCond .eq 23, 3) := dk_153 0 23 (dk_at dksX0_strike_0 4 rfl rfl)
theorem dX0_strike_7 : decode cX0_strike 7 = .ok (.aload_n 0, 1) := dk_42 (dk_at dksX0_strike_0 7 rfl rfl)
theorem dX0_strike_8 : decode cX0_strike 8 = .ok (.iload_n 1, 1) := dk_27 (dk_at dksX0_strike_0 8 rfl rfl)
theorem dX0_strike_9 : decode cX0_strike 9 = .ok (.aload_n 0, 1) := dk_42 (dk_at dksX0_strike_0 9 rfl rfl)
theorem dX0_strike_10 : decode cX0_strike 10 = .ok (.getfield 12, 3) := dk_180 0 12 (dk_at dksX0_strike_0 10 rfl rfl)
theorem dX0_strike_13 : decode cX0_strike 13 = .ok (.getfield 149, 3) := dk_180 0 149 (dk_at dksX0_strike_0 13 rfl rfl)
theorem dX0_strike_16 : decode cX0_strike 16 = .ok (.iconst 0, 1) := dk_3 (dk_at dksX0_strike_0 16 rfl rfl)
theorem dX0_strike_17 : decode cX0_strike 17 = .ok (.iaload, 1) := dk_46 (dk_at dksX0_strike_0 17 rfl rfl)
theorem dX0_strike_18 : decode cX0_strike 18 = .ok (.iconst (-1), 1) := dk_2 (dk_at dksX0_strike_0 18 rfl rfl)
theorem dX0_strike_19 : decode cX0_strike 19 = .ok (.ixor, 1) := dk_130 (dk_at dksX0_strike_0 19 rfl rfl)
theorem dX0_strike_20 : decode cX0_strike 20 = .ok (.iand, 1) := dk_126 (dk_at dksX0_strike_0 20 rfl rfl)
theorem dX0_strike_21 : decode cX0_strike 21 = .ok (.invokevirtual 240, 3) := dk_182 0 240 (dk_at dksX0_strike_0 21 rfl rfl)
theorem dX0_strike_24 : decode cX0_strike 24 = .ok (.goto 4, 3) := dk_167 0 4 (dk_at dksX0_strike_1 0 rfl rfl)
theorem dX0_strike_27 : decode cX0_strike 27 = .ok (.iconst (-1), 1) := dk_2 (dk_at dksX0_strike_1 3 rfl rfl)
theorem dX0_strike_28 : decode cX0_strike 28 = .ok (.ireturn, 1) := dk_172 (dk_at dksX0_strike_1 4 rfl rfl)
def dkwX0_isSet_0 : List UInt8 := [26, 4, 18, 69, 184, 0, 62, 172]
abbrev dktX0_isSet_0 : List UInt8 := dkwX0_isSet_0 ++ []
theorem dksX0_isSet_0 : cX0_isSet.data.toList.drop 0 = dktX0_isSet_0 := by decide +kernel
theorem dX0_isSet_0 : decode cX0_isSet 0 = .ok (.iload_n 0, 1) := dk_26 (dk_at dksX0_isSet_0 0 rfl rfl)
theorem dX0_isSet_1 : decode cX0_isSet 1 = .ok (.iconst 1, 1) := dk_4 (dk_at dksX0_isSet_0 1 rfl rfl)
theorem dX0_isSet_2 : decode cX0_isSet 2 = .ok (.ldc 69, 2) := dk_18 69 (dk_at dksX0_isSet_0 2 rfl rfl)
theorem dX0_isSet_4 : decode cX0_isSet 4 = .ok (.invokestatic 62, 3) := dk_184 0 62 (dk_at dksX0_isSet_0 4 rfl rfl)
theorem dX0_isSet_7 : decode cX0_isSet 7 = .ok (.ireturn, 1) := dk_172 (dk_at dksX0_isSet_0 7 rfl rfl)
def dkwX0_called_0 : List UInt8 := [27, 154, 0, 5, 2, 172, 42, 180, 0, 12, 182, 0, 228, 42, 27, 182, 0, 234, 27, 184, 0, 152, 172]
abbrev dktX0_called_0 : List UInt8 := dkwX0_called_0 ++ []
theorem dksX0_called_0 : cX0_called.data.toList.drop 0 = dktX0_called_0 := by decide +kernel
theorem dX0_called_0 : decode cX0_called 0 = .ok (.iload_n 1, 1) := dk_27 (dk_at dksX0_called_0 0 rfl rfl)
theorem dX0_called_1 : decode cX0_called 1 = .ok (.ifCond .ne 5, 3) := dk_154 0 5 (dk_at dksX0_called_0 1 rfl rfl)
theorem dX0_called_4 : decode cX0_called 4 = .ok (.iconst (-1), 1) := dk_2 (dk_at dksX0_called_0 4 rfl rfl)
theorem dX0_called_5 : decode cX0_called 5 = .ok (.ireturn, 1) := dk_172 (dk_at dksX0_called_0 5 rfl rfl)
theorem dX0_called_6 : decode cX0_called 6 = .ok (.aload_n 0, 1) := dk_42 (dk_at dksX0_called_0 6 rfl rfl)
theorem dX0_called_7 : decode cX0_called 7 = .ok (.getfield 12, 3) := dk_180 0 12 (dk_at dksX0_called_0 7 rfl rfl)
theorem dX0_called_10 : decode cX0_called 10 = .ok (.invokevirtual 228, 3) := dk_182 0 228 (dk_at dksX0_called_0 10 rfl rfl)
theorem dX0_called_13 : decode cX0_called 13 = .ok (.aload_n 0, 1) := dk_42 (dk_at dksX0_called_0 13 rfl rfl)
theorem dX0_called_14 : decode cX0_called 14 = .ok (.iload_n 1, 1) := dk_27 (dk_at dksX0_called_0 14 rfl rfl)
theorem dX0_called_15 : decode cX0_called 15 = .ok (.invokevirtual 234, 3) := dk_182 0 234 (dk_at dksX0_called_0 15 rfl rfl)
theorem dX0_called_18 : decode cX0_called 18 = .ok (.iload_n 1, 1) := dk_27 (dk_at dksX0_called_0 18 rfl rfl)
theorem dX0_called_19 : decode cX0_called 19 = .ok (.invokestatic 152, 3) := dk_184 0 152 (dk_at dksX0_called_0 19 rfl rfl)
theorem dX0_called_22 : decode cX0_called 22 = .ok (.ireturn, 1) := dk_172 (dk_at dksX0_called_0 22 rfl rfl)
def dkwX0_walks_2 : List UInt8 := [177]
abbrev dktX0_walks_2 : List UInt8 := dkwX0_walks_2 ++ []
def dkwX0_walks_1 : List UInt8 := [184, 0, 77, 153, 0, 15, 42, 180, 0, 12, 180, 0, 149, 6, 28, 96, 3, 79, 132, 2, 1, 167, 255, 227]
abbrev dktX0_walks_1 : List UInt8 := dkwX0_walks_1 ++ dktX0_walks_2
def dkwX0_walks_0 : List UInt8 := [42, 180, 0, 12, 180, 0, 149, 3, 92, 46, 27, 130, 79, 3, 61, 28, 16, 26, 162, 0, 29, 27, 28]
abbrev dktX0_walks_0 : List UInt8 := dkwX0_walks_0 ++ dktX0_walks_1
theorem dksX0_walks_0 : cX0_walks.data.toList.drop 0 = dktX0_walks_0 := by decide +kernel
theorem dksX0_walks_1 : cX0_walks.data.toList.drop 23 = dktX0_walks_1 := dk_seg dksX0_walks_0 23 rfl rfl
theorem dksX0_walks_2 : cX0_walks.data.toList.drop 47 = dktX0_walks_2 := dk_seg dksX0_walks_1 24 rfl rfl
theorem dX0_walks_0 : decode cX0_walks 0 = .ok (.aload_n 0, 1) := dk_42 (dk_at dksX0_walks_0 0 rfl rfl)
theorem dX0_walks_1 : decode cX0_walks 1 = .ok (.getfield 12, 3) := dk_180 0 12 (dk_at dksX0_walks_0 1 rfl rfl)
theorem dX0_walks_4 : decode cX0_walks 4 = .ok (.getfield 149, 3) := dk_180 0 149 (dk_at dksX0_walks_0 4 rfl rfl)
theorem dX0_walks_7 : decode cX0_walks 7 = .ok (.iconst 0, 1) := dk_3 (dk_at dksX0_walks_0 7 rfl rfl)
theorem dX0_walks_8 : decode cX0_walks 8 = .ok (.dup2, 1) := dk_92 (dk_at dksX0_walks_0 8 rfl rfl)
theorem dX0_walks_9 : decode cX0_walks 9 = .ok (.iaload, 1) := dk_46 (dk_at dksX0_walks_0 9 rfl rfl)
theorem dX0_walks_10 : decode cX0_walks 10 = .ok (.iload_n 1, 1) := dk_27 (dk_at dksX0_walks_0 10 rfl rfl)
theorem dX0_walks_11 : decode cX0_walks 11 = .ok (.ixor, 1) := dk_130 (dk_at dksX0_walks_0 11 rfl rfl)
theorem dX0_walks_12 : decode cX0_walks 12 = .ok (.iastore, 1) := dk_79 (dk_at dksX0_walks_0 12 rfl rfl)
theorem dX0_walks_13 : decode cX0_walks 13 = .ok (.iconst 0, 1) := dk_3 (dk_at dksX0_walks_0 13 rfl rfl)
theorem dX0_walks_14 : decode cX0_walks 14 = .ok (.istore_n 2, 1) := dk_61 (dk_at dksX0_walks_0 14 rfl rfl)
theorem dX0_walks_15 : decode cX0_walks 15 = .ok (.iload_n 2, 1) := dk_28 (dk_at dksX0_walks_0 15 rfl rfl)
theorem dX0_walks_16 : decode cX0_walks 16 = .ok (.bipush 26, 2) := dk_16 26 (dk_at dksX0_walks_0 16 rfl rfl)
theorem dX0_walks_18 : decode cX0_walks 18 = .ok (.if_icmp .ge 29, 3) := dk_162 0 29 (dk_at dksX0_walks_0 18 rfl rfl)
theorem dX0_walks_21 : decode cX0_walks 21 = .ok (.iload_n 1, 1) := dk_27 (dk_at dksX0_walks_0 21 rfl rfl)
theorem dX0_walks_22 : decode cX0_walks 22 = .ok (.iload_n 2, 1) := dk_28 (dk_at dksX0_walks_0 22 rfl rfl)
theorem dX0_walks_23 : decode cX0_walks 23 = .ok (.invokestatic 77, 3) := dk_184 0 77 (dk_at dksX0_walks_1 0 rfl rfl)
theorem dX0_walks_26 : decode cX0_walks 26 = .ok (.ifCond .eq 15, 3) := dk_153 0 15 (dk_at dksX0_walks_1 3 rfl rfl)
theorem dX0_walks_29 : decode cX0_walks 29 = .ok (.aload_n 0, 1) := dk_42 (dk_at dksX0_walks_1 6 rfl rfl)
theorem dX0_walks_30 : decode cX0_walks 30 = .ok (.getfield 12, 3) := dk_180 0 12 (dk_at dksX0_walks_1 7 rfl rfl)
theorem dX0_walks_33 : decode cX0_walks 33 = .ok (.getfield 149, 3) := dk_180 0 149 (dk_at dksX0_walks_1 10 rfl rfl)
theorem dX0_walks_36 : decode cX0_walks 36 = .ok (.iconst 3, 1) := dk_6 (dk_at dksX0_walks_1 13 rfl rfl)
theorem dX0_walks_37 : decode cX0_walks 37 = .ok (.iload_n 2, 1) := dk_28 (dk_at dksX0_walks_1 14 rfl rfl)
theorem dX0_walks_38 : decode cX0_walks 38 = .ok (.iadd, 1) := dk_96 (dk_at dksX0_walks_1 15 rfl rfl)
theorem dX0_walks_39 : decode cX0_walks 39 = .ok (.iconst 0, 1) := dk_3 (dk_at dksX0_walks_1 16 rfl rfl)
theorem dX0_walks_40 : decode cX0_walks 40 = .ok (.iastore, 1) := dk_79 (dk_at dksX0_walks_1 17 rfl rfl)
theorem dX0_walks_41 : decode cX0_walks 41 = .ok (.iinc 2 1, 3) := dk_132 2 1 (dk_at dksX0_walks_1 18 rfl rfl)
theorem dX0_walks_44 : decode cX0_walks 44 = .ok (.goto (-29), 3) := dk_167 255 227 (dk_at dksX0_walks_1 21 rfl rfl)
theorem dX0_walks_47 : decode cX0_walks 47 = .ok (.return_, 1) := dk_177 (dk_at dksX0_walks_2 0 rfl rfl)
def dkwX0_comeBack_1 : List UInt8 := [167, 0, 4, 2, 172]
abbrev dktX0_comeBack_1 : List UInt8 := dkwX0_comeBack_1 ++ []
def dkwX0_comeBack_0 : List UInt8 := [27, 184, 0, 237, 153, 0, 21, 42, 27, 42, 180, 0, 12, 180, 0, 149, 3, 46, 126, 182, 0, 240]
abbrev dktX0_comeBack_0 : List UInt8 := dkwX0_comeBack_0 ++ dktX0_comeBack_1
theorem dksX0_comeBack_0 : cX0_comeBack.data.toList.drop 0 = dktX0_comeBack_0 := by decide +kernel
theorem dksX0_comeBack_1 : cX0_comeBack.data.toList.drop 22 = dktX0_comeBack_1 := dk_seg dksX0_comeBack_0 22 rfl rfl
theorem dX0_comeBack_0 : decode cX0_comeBack 0 = .ok (.iload_n 1, 1) := dk_27 (dk_at dksX0_comeBack_0 0 rfl rfl)
theorem dX0_comeBack_1 : decode cX0_comeBack 1 = .ok (.invokestatic 237, 3) := dk_184 0 237 (dk_at dksX0_comeBack_0 1 rfl rfl)
theorem dX0_comeBack_4 : decode cX0_comeBack 4 = .ok (.ifCond .eq 21, 3) := dk_153 0 21 (dk_at dksX0_comeBack_0 4 rfl rfl)
theorem dX0_comeBack_7 : decode cX0_comeBack 7 = .ok (.aload_n 0, 1) := dk_42 (dk_at dksX0_comeBack_0 7 rfl rfl)
theorem dX0_comeBack_8 : decode cX0_comeBack 8 = .ok (.iload_n 1, 1) := dk_27 (dk_at dksX0_comeBack_0 8 rfl rfl)
theorem dX0_comeBack_9 : decode cX0_comeBack 9 = .ok (.aload_n 0, 1) := dk_42 (dk_at dksX0_comeBack_0 9 rfl rfl)
theorem dX0_comeBack_10 : decode cX0_comeBack 10 = .ok (.getfield 12, 3) := dk_180 0 12 (dk_at dksX0_comeBack_0 10 rfl rfl)
theorem dX0_comeBack_13 : decode cX0_comeBack 13 = .ok (.getfield 149, 3) := dk_180 0 149 (dk_at dksX0_comeBack_0 13 rfl rfl)
theorem dX0_comeBack_16 : decode cX0_comeBack 16 = .ok (.iconst 0, 1) := dk_3 (dk_at dksX0_comeBack_0 16 rfl rfl)
theorem dX0_comeBack_17 : decode cX0_comeBack 17 = .ok (.iaload, 1) := dk_46 (dk_at dksX0_comeBack_0 17 rfl rfl)
theorem dX0_comeBack_18 : decode cX0_comeBack 18 = .ok (.iand, 1) := dk_126 (dk_at dksX0_comeBack_0 18 rfl rfl)
theorem dX0_comeBack_19 : decode cX0_comeBack 19 = .ok (.invokevirtual 240, 3) := dk_182 0 240 (dk_at dksX0_comeBack_0 19 rfl rfl)
theorem dX0_comeBack_22 : decode cX0_comeBack 22 = .ok (.goto 4, 3) := dk_167 0 4 (dk_at dksX0_comeBack_1 0 rfl rfl)
theorem dX0_comeBack_25 : decode cX0_comeBack 25 = .ok (.iconst (-1), 1) := dk_2 (dk_at dksX0_comeBack_1 3 rfl rfl)
theorem dX0_comeBack_26 : decode cX0_comeBack 26 = .ok (.ireturn, 1) := dk_172 (dk_at dksX0_comeBack_1 4 rfl rfl)
def dkwX0_raise_2 : List UInt8 := [180, 0, 149, 16, 29, 27, 96, 28, 79, 4, 172]
abbrev dktX0_raise_2 : List UInt8 := dkwX0_raise_2 ++ []
def dkwX0_raise_1 : List UInt8 := [16, 29, 27, 96, 46, 28, 160, 0, 5, 3, 172, 42, 180, 0, 12, 182, 0, 228, 42, 180, 0, 12]
abbrev dktX0_raise_1 : List UInt8 := dkwX0_raise_1 ++ dktX0_raise_2
def dkwX0_raise_0 : List UInt8 := [27, 184, 0, 70, 153, 0, 29, 28, 3, 16, 99, 184, 0, 62, 153, 0, 19, 42, 180, 0, 12, 180, 0, 149]
abbrev dktX0_raise_0 : List UInt8 := dkwX0_raise_0 ++ dktX0_raise_1
theorem dksX0_raise_0 : cX0_raise.data.toList.drop 0 = dktX0_raise_0 := by decide +kernel
theorem dksX0_raise_1 : cX0_raise.data.toList.drop 24 = dktX0_raise_1 := dk_seg dksX0_raise_0 24 rfl rfl
theorem dksX0_raise_2 : cX0_raise.data.toList.drop 46 = dktX0_raise_2 := dk_seg dksX0_raise_1 22 rfl rfl
theorem dX0_raise_0 : decode cX0_raise 0 = .ok (.iload_n 1, 1) := dk_27 (dk_at dksX0_raise_0 0 rfl rfl)
theorem dX0_raise_1 : decode cX0_raise 1 = .ok (.invokestatic 70, 3) := dk_184 0 70 (dk_at dksX0_raise_0 1 rfl rfl)
theorem dX0_raise_4 : decode cX0_raise 4 = .ok (.ifCond .eq 29, 3) := dk_153 0 29 (dk_at dksX0_raise_0 4 rfl rfl)
theorem dX0_raise_7 : decode cX0_raise 7 = .ok (.iload_n 2, 1) := dk_28 (dk_at dksX0_raise_0 7 rfl rfl)
theorem dX0_raise_8 : decode cX0_raise 8 = .ok (.iconst 0, 1) := dk_3 (dk_at dksX0_raise_0 8 rfl rfl)
theorem dX0_raise_9 : decode cX0_raise 9 = .ok (.bipush 99, 2) := dk_16 99 (dk_at dksX0_raise_0 9 rfl rfl)
theorem dX0_raise_11 : decode cX0_raise 11 = .ok (.invokestatic 62, 3) := dk_184 0 62 (dk_at dksX0_raise_0 11 rfl rfl)
theorem dX0_raise_14 : decode cX0_raise 14 = .ok (.ifCond .eq 19, 3) := dk_153 0 19 (dk_at dksX0_raise_0 14 rfl rfl)
theorem dX0_raise_17 : decode cX0_raise 17 = .ok (.aload_n 0, 1) := dk_42 (dk_at dksX0_raise_0 17 rfl rfl)
theorem dX0_raise_18 : decode cX0_raise 18 = .ok (.getfield 12, 3) := dk_180 0 12 (dk_at dksX0_raise_0 18 rfl rfl)
theorem dX0_raise_21 : decode cX0_raise 21 = .ok (.getfield 149, 3) := dk_180 0 149 (dk_at dksX0_raise_0 21 rfl rfl)
theorem dX0_raise_24 : decode cX0_raise 24 = .ok (.bipush 29, 2) := dk_16 29 (dk_at dksX0_raise_1 0 rfl rfl)
theorem dX0_raise_26 : decode cX0_raise 26 = .ok (.iload_n 1, 1) := dk_27 (dk_at dksX0_raise_1 2 rfl rfl)
theorem dX0_raise_27 : decode cX0_raise 27 = .ok (.iadd, 1) := dk_96 (dk_at dksX0_raise_1 3 rfl rfl)
theorem dX0_raise_28 : decode cX0_raise 28 = .ok (.iaload, 1) := dk_46 (dk_at dksX0_raise_1 4 rfl rfl)
theorem dX0_raise_29 : decode cX0_raise 29 = .ok (.iload_n 2, 1) := dk_28 (dk_at dksX0_raise_1 5 rfl rfl)
theorem dX0_raise_30 : decode cX0_raise 30 = .ok (.if_icmp .ne 5, 3) := dk_160 0 5 (dk_at dksX0_raise_1 6 rfl rfl)
theorem dX0_raise_33 : decode cX0_raise 33 = .ok (.iconst 0, 1) := dk_3 (dk_at dksX0_raise_1 9 rfl rfl)
theorem dX0_raise_34 : decode cX0_raise 34 = .ok (.ireturn, 1) := dk_172 (dk_at dksX0_raise_1 10 rfl rfl)
theorem dX0_raise_35 : decode cX0_raise 35 = .ok (.aload_n 0, 1) := dk_42 (dk_at dksX0_raise_1 11 rfl rfl)
theorem dX0_raise_36 : decode cX0_raise 36 = .ok (.getfield 12, 3) := dk_180 0 12 (dk_at dksX0_raise_1 12 rfl rfl)
theorem dX0_raise_39 : decode cX0_raise 39 = .ok (.invokevirtual 228, 3) := dk_182 0 228 (dk_at dksX0_raise_1 15 rfl rfl)
theorem dX0_raise_42 : decode cX0_raise 42 = .ok (.aload_n 0, 1) := dk_42 (dk_at dksX0_raise_1 18 rfl rfl)
theorem dX0_raise_43 : decode cX0_raise 43 = .ok (.getfield 12, 3) := dk_180 0 12 (dk_at dksX0_raise_1 19 rfl rfl)
theorem dX0_raise_46 : decode cX0_raise 46 = .ok (.getfield 149, 3) := dk_180 0 149 (dk_at dksX0_raise_2 0 rfl rfl)
theorem dX0_raise_49 : decode cX0_raise 49 = .ok (.bipush 29, 2) := dk_16 29 (dk_at dksX0_raise_2 3 rfl rfl)
theorem dX0_raise_51 : decode cX0_raise 51 = .ok (.iload_n 1, 1) := dk_27 (dk_at dksX0_raise_2 5 rfl rfl)
theorem dX0_raise_52 : decode cX0_raise 52 = .ok (.iadd, 1) := dk_96 (dk_at dksX0_raise_2 6 rfl rfl)
theorem dX0_raise_53 : decode cX0_raise 53 = .ok (.iload_n 2, 1) := dk_28 (dk_at dksX0_raise_2 7 rfl rfl)
theorem dX0_raise_54 : decode cX0_raise 54 = .ok (.iastore, 1) := dk_79 (dk_at dksX0_raise_2 8 rfl rfl)
theorem dX0_raise_55 : decode cX0_raise 55 = .ok (.iconst 1, 1) := dk_4 (dk_at dksX0_raise_2 9 rfl rfl)
theorem dX0_raise_56 : decode cX0_raise 56 = .ok (.ireturn, 1) := dk_172 (dk_at dksX0_raise_2 10 rfl rfl)
def dkwX0_sign_2 : List UInt8 := [180, 0, 149, 16, 55, 27, 96, 28, 79, 4, 172]
abbrev dktX0_sign_2 : List UInt8 := dkwX0_sign_2 ++ []
def dkwX0_sign_1 : List UInt8 := [16, 55, 27, 96, 46, 28, 160, 0, 5, 3, 172, 42, 180, 0, 12, 182, 0, 228, 42, 180, 0, 12]
abbrev dktX0_sign_1 : List UInt8 := dkwX0_sign_1 ++ dktX0_sign_2
def dkwX0_sign_0 : List UInt8 := [27, 184, 0, 70, 153, 0, 29, 28, 2, 16, 9, 184, 0, 62, 153, 0, 19, 42, 180, 0, 12, 180, 0, 149]
abbrev dktX0_sign_0 : List UInt8 := dkwX0_sign_0 ++ dktX0_sign_1
theorem dksX0_sign_0 : cX0_sign.data.toList.drop 0 = dktX0_sign_0 := by decide +kernel
theorem dksX0_sign_1 : cX0_sign.data.toList.drop 24 = dktX0_sign_1 := dk_seg dksX0_sign_0 24 rfl rfl
theorem dksX0_sign_2 : cX0_sign.data.toList.drop 46 = dktX0_sign_2 := dk_seg dksX0_sign_1 22 rfl rfl
theorem dX0_sign_0 : decode cX0_sign 0 = .ok (.iload_n 1, 1) := dk_27 (dk_at dksX0_sign_0 0 rfl rfl)
theorem dX0_sign_1 : decode cX0_sign 1 = .ok (.invokestatic 70, 3) := dk_184 0 70 (dk_at dksX0_sign_0 1 rfl rfl)
theorem dX0_sign_4 : decode cX0_sign 4 = .ok (.ifCond .eq 29, 3) := dk_153 0 29 (dk_at dksX0_sign_0 4 rfl rfl)
theorem dX0_sign_7 : decode cX0_sign 7 = .ok (.iload_n 2, 1) := dk_28 (dk_at dksX0_sign_0 7 rfl rfl)
theorem dX0_sign_8 : decode cX0_sign 8 = .ok (.iconst (-1), 1) := dk_2 (dk_at dksX0_sign_0 8 rfl rfl)
theorem dX0_sign_9 : decode cX0_sign 9 = .ok (.bipush 9, 2) := dk_16 9 (dk_at dksX0_sign_0 9 rfl rfl)
theorem dX0_sign_11 : decode cX0_sign 11 = .ok (.invokestatic 62, 3) := dk_184 0 62 (dk_at dksX0_sign_0 11 rfl rfl)
theorem dX0_sign_14 : decode cX0_sign 14 = .ok (.ifCond .eq 19, 3) := dk_153 0 19 (dk_at dksX0_sign_0 14 rfl rfl)
theorem dX0_sign_17 : decode cX0_sign 17 = .ok (.aload_n 0, 1) := dk_42 (dk_at dksX0_sign_0 17 rfl rfl)
theorem dX0_sign_18 : decode cX0_sign 18 = .ok (.getfield 12, 3) := dk_180 0 12 (dk_at dksX0_sign_0 18 rfl rfl)
theorem dX0_sign_21 : decode cX0_sign 21 = .ok (.getfield 149, 3) := dk_180 0 149 (dk_at dksX0_sign_0 21 rfl rfl)
theorem dX0_sign_24 : decode cX0_sign 24 = .ok (.bipush 55, 2) := dk_16 55 (dk_at dksX0_sign_1 0 rfl rfl)
theorem dX0_sign_26 : decode cX0_sign 26 = .ok (.iload_n 1, 1) := dk_27 (dk_at dksX0_sign_1 2 rfl rfl)
theorem dX0_sign_27 : decode cX0_sign 27 = .ok (.iadd, 1) := dk_96 (dk_at dksX0_sign_1 3 rfl rfl)
theorem dX0_sign_28 : decode cX0_sign 28 = .ok (.iaload, 1) := dk_46 (dk_at dksX0_sign_1 4 rfl rfl)
theorem dX0_sign_29 : decode cX0_sign 29 = .ok (.iload_n 2, 1) := dk_28 (dk_at dksX0_sign_1 5 rfl rfl)
theorem dX0_sign_30 : decode cX0_sign 30 = .ok (.if_icmp .ne 5, 3) := dk_160 0 5 (dk_at dksX0_sign_1 6 rfl rfl)
theorem dX0_sign_33 : decode cX0_sign 33 = .ok (.iconst 0, 1) := dk_3 (dk_at dksX0_sign_1 9 rfl rfl)
theorem dX0_sign_34 : decode cX0_sign 34 = .ok (.ireturn, 1) := dk_172 (dk_at dksX0_sign_1 10 rfl rfl)
theorem dX0_sign_35 : decode cX0_sign 35 = .ok (.aload_n 0, 1) := dk_42 (dk_at dksX0_sign_1 11 rfl rfl)
theorem dX0_sign_36 : decode cX0_sign 36 = .ok (.getfield 12, 3) := dk_180 0 12 (dk_at dksX0_sign_1 12 rfl rfl)
theorem dX0_sign_39 : decode cX0_sign 39 = .ok (.invokevirtual 228, 3) := dk_182 0 228 (dk_at dksX0_sign_1 15 rfl rfl)
theorem dX0_sign_42 : decode cX0_sign 42 = .ok (.aload_n 0, 1) := dk_42 (dk_at dksX0_sign_1 18 rfl rfl)
theorem dX0_sign_43 : decode cX0_sign 43 = .ok (.getfield 12, 3) := dk_180 0 12 (dk_at dksX0_sign_1 19 rfl rfl)
theorem dX0_sign_46 : decode cX0_sign 46 = .ok (.getfield 149, 3) := dk_180 0 149 (dk_at dksX0_sign_2 0 rfl rfl)
theorem dX0_sign_49 : decode cX0_sign 49 = .ok (.bipush 55, 2) := dk_16 55 (dk_at dksX0_sign_2 3 rfl rfl)
theorem dX0_sign_51 : decode cX0_sign 51 = .ok (.iload_n 1, 1) := dk_27 (dk_at dksX0_sign_2 5 rfl rfl)
theorem dX0_sign_52 : decode cX0_sign 52 = .ok (.iadd, 1) := dk_96 (dk_at dksX0_sign_2 6 rfl rfl)
theorem dX0_sign_53 : decode cX0_sign 53 = .ok (.iload_n 2, 1) := dk_28 (dk_at dksX0_sign_2 7 rfl rfl)
theorem dX0_sign_54 : decode cX0_sign 54 = .ok (.iastore, 1) := dk_79 (dk_at dksX0_sign_2 8 rfl rfl)
theorem dX0_sign_55 : decode cX0_sign 55 = .ok (.iconst 1, 1) := dk_4 (dk_at dksX0_sign_2 9 rfl rfl)
theorem dX0_sign_56 : decode cX0_sign 56 = .ok (.ireturn, 1) := dk_172 (dk_at dksX0_sign_2 10 rfl rfl)
def dkwX0_contract_6 : List UInt8 := [180, 0, 12, 180, 0, 149, 16, 81, 92, 46, 4, 96, 79, 28, 172]
abbrev dktX0_contract_6 : List UInt8 := dkwX0_contract_6 ++ []
def dkwX0_contract_5 : List UInt8 := [180, 0, 12, 180, 0, 149, 29, 6, 96, 42, 180, 0, 12, 180, 0, 108, 27, 50, 190, 184, 0, 252, 42]
abbrev dktX0_contract_5 : List UInt8 := dkwX0_contract_5 ++ dktX0_contract_6
def dkwX0_contract_4 : List UInt8 := [180, 0, 149, 29, 5, 96, 42, 180, 0, 12, 180, 0, 108, 27, 50, 190, 79, 42, 180, 0, 34, 3, 42]
abbrev dktX0_contract_4 : List UInt8 := dkwX0_contract_4 ++ dktX0_contract_5
def dkwX0_contract_3 : List UInt8 := [180, 0, 12, 180, 0, 149, 29, 4, 96, 42, 180, 0, 12, 180, 0, 149, 4, 46, 79, 42, 180, 0, 12]
abbrev dktX0_contract_3 : List UInt8 := dkwX0_contract_3 ++ dktX0_contract_4
def dkwX0_contract_2 : List UInt8 := [182, 0, 228, 16, 82, 16, 11, 28, 104, 96, 62, 42, 180, 0, 12, 180, 0, 149, 29, 27, 79, 42]
abbrev dktX0_contract_2 : List UInt8 := dkwX0_contract_2 ++ dktX0_contract_3
def dkwX0_contract_1 : List UInt8 := [159, 0, 18, 42, 27, 42, 180, 0, 12, 182, 0, 246, 182, 0, 249, 154, 0, 5, 2, 172, 42, 180, 0, 12]
abbrev dktX0_contract_1 : List UInt8 := dkwX0_contract_1 ++ dktX0_contract_2
def dkwX0_contract_0 : List UInt8 := [42, 180, 0, 12, 180, 0, 149, 16, 81, 46, 61, 42, 27, 182, 0, 243, 153, 0, 24, 28, 16, 10]
abbrev dktX0_contract_0 : List UInt8 := dkwX0_contract_0 ++ dktX0_contract_1
theorem dksX0_contract_0 : cX0_contract.data.toList.drop 0 = dktX0_contract_0 := by decide +kernel
theorem dksX0_contract_1 : cX0_contract.data.toList.drop 22 = dktX0_contract_1 := dk_seg dksX0_contract_0 22 rfl rfl
theorem dksX0_contract_2 : cX0_contract.data.toList.drop 46 = dktX0_contract_2 := dk_seg dksX0_contract_1 24 rfl rfl
theorem dksX0_contract_3 : cX0_contract.data.toList.drop 68 = dktX0_contract_3 := dk_seg dksX0_contract_2 22 rfl rfl
theorem dksX0_contract_4 : cX0_contract.data.toList.drop 91 = dktX0_contract_4 := dk_seg dksX0_contract_3 23 rfl rfl
theorem dksX0_contract_5 : cX0_contract.data.toList.drop 114 = dktX0_contract_5 := dk_seg dksX0_contract_4 23 rfl rfl
theorem dksX0_contract_6 : cX0_contract.data.toList.drop 137 = dktX0_contract_6 := dk_seg dksX0_contract_5 23 rfl rfl
theorem dX0_contract_0 : decode cX0_contract 0 = .ok (.aload_n 0, 1) := dk_42 (dk_at dksX0_contract_0 0 rfl rfl)
theorem dX0_contract_1 : decode cX0_contract 1 = .ok (.getfield 12, 3) := dk_180 0 12 (dk_at dksX0_contract_0 1 rfl rfl)
theorem dX0_contract_4 : decode cX0_contract 4 = .ok (.getfield 149, 3) := dk_180 0 149 (dk_at dksX0_contract_0 4 rfl rfl)
theorem dX0_contract_7 : decode cX0_contract 7 = .ok (.bipush 81, 2) := dk_16 81 (dk_at dksX0_contract_0 7 rfl rfl)
theorem dX0_contract_9 : decode cX0_contract 9 = .ok (.iaload, 1) := dk_46 (dk_at dksX0_contract_0 9 rfl rfl)
theorem dX0_contract_10 : decode cX0_contract 10 = .ok (.istore_n 2, 1) := dk_61 (dk_at dksX0_contract_0 10 rfl rfl)
theorem dX0_contract_11 : decode cX0_contract 11 = .ok (.aload_n 0, 1) := dk_42 (dk_at dksX0_contract_0 11 rfl rfl)
theorem dX0_contract_12 : decode cX0_contract 12 = .ok (.iload_n 1, 1) := dk_27 (dk_at dksX0_contract_0 12 rfl rfl)
theorem dX0_contract_13 : decode cX0_contract 13 = .ok (.invokevirtual 243, 3) := dk_182 0 243 (dk_at dksX0_contract_0 13 rfl rfl)
theorem dX0_contract_16 : decode cX0_contract 16 = .ok (.ifCond .eq 24, 3) := dk_153 0 24 (dk_at dksX0_contract_0 16 rfl rfl)
theorem dX0_contract_19 : decode cX0_contract 19 = .ok (.iload_n 2, 1) := dk_28 (dk_at dksX0_contract_0 19 rfl rfl)
theorem dX0_contract_20 : decode cX0_contract 20 = .ok (.bipush 10, 2) := dk_16 10 (dk_at dksX0_contract_0 20 rfl rfl)
theorem dX0_contract_22 : decode cX0_contract 22 = .ok (.if_icmp .eq 18, 3) := dk_159 0 18 (dk_at dksX0_contract_1 0 rfl rfl)
theorem dX0_contract_25 : decode cX0_contract 25 = .ok (.aload_n 0, 1) := dk_42 (dk_at dksX0_contract_1 3 rfl rfl)
theorem dX0_contract_26 : decode cX0_contract 26 = .ok (.iload_n 1, 1) := dk_27 (dk_at dksX0_contract_1 4 rfl rfl)
theorem dX0_contract_27 : decode cX0_contract 27 = .ok (.aload_n 0, 1) := dk_42 (dk_at dksX0_contract_1 5 rfl rfl)
theorem dX0_contract_28 : decode cX0_contract 28 = .ok (.getfield 12, 3) := dk_180 0 12 (dk_at dksX0_contract_1 6 rfl rfl)
theorem dX0_contract_31 : decode cX0_contract 31 = .ok (.invokevirtual 246, 3) := dk_182 0 246 (dk_at dksX0_contract_1 9 rfl rfl)
theorem dX0_contract_34 : decode cX0_contract 34 = .ok (.invokevirtual 249, 3) := dk_182 0 249 (dk_at dksX0_contract_1 12 rfl rfl)
theorem dX0_contract_37 : decode cX0_contract 37 = .ok (.ifCond .ne 5, 3) := dk_154 0 5 (dk_at dksX0_contract_1 15 rfl rfl)
theorem dX0_contract_40 : decode cX0_contract 40 = .ok (.iconst (-1), 1) := dk_2 (dk_at dksX0_contract_1 18 rfl rfl)
theorem dX0_contract_41 : decode cX0_contract 41 = .ok (.ireturn, 1) := dk_172 (dk_at dksX0_contract_1 19 rfl rfl)
theorem dX0_contract_42 : decode cX0_contract 42 = .ok (.aload_n 0, 1) := dk_42 (dk_at dksX0_contract_1 20 rfl rfl)
theorem dX0_contract_43 : decode cX0_contract 43 = .ok (.getfield 12, 3) := dk_180 0 12 (dk_at dksX0_contract_1 21 rfl rfl)
theorem dX0_contract_46 : decode cX0_contract 46 = .ok (.invokevirtual 228, 3) := dk_182 0 228 (dk_at dksX0_contract_2 0 rfl rfl)
theorem dX0_contract_49 : decode cX0_contract 49 = .ok (.bipush 82, 2) := dk_16 82 (dk_at dksX0_contract_2 3 rfl rfl)
theorem dX0_contract_51 : decode cX0_contract 51 = .ok (.bipush 11, 2) := dk_16 11 (dk_at dksX0_contract_2 5 rfl rfl)
theorem dX0_contract_53 : decode cX0_contract 53 = .ok (.iload_n 2, 1) := dk_28 (dk_at dksX0_contract_2 7 rfl rfl)
theorem dX0_contract_54 : decode cX0_contract 54 = .ok (.imul, 1) := dk_104 (dk_at dksX0_contract_2 8 rfl rfl)
theorem dX0_contract_55 : decode cX0_contract 55 = .ok (.iadd, 1) := dk_96 (dk_at dksX0_contract_2 9 rfl rfl)
theorem dX0_contract_56 : decode cX0_contract 56 = .ok (.istore_n 3, 1) := dk_62 (dk_at dksX0_contract_2 10 rfl rfl)
theorem dX0_contract_57 : decode cX0_contract 57 = .ok (.aload_n 0, 1) := dk_42 (dk_at dksX0_contract_2 11 rfl rfl)
theorem dX0_contract_58 : decode cX0_contract 58 = .ok (.getfield 12, 3) := dk_180 0 12 (dk_at dksX0_contract_2 12 rfl rfl)
theorem dX0_contract_61 : decode cX0_contract 61 = .ok (.getfield 149, 3) := dk_180 0 149 (dk_at dksX0_contract_2 15 rfl rfl)
theorem dX0_contract_64 : decode cX0_contract 64 = .ok (.iload_n 3, 1) := dk_29 (dk_at dksX0_contract_2 18 rfl rfl)
theorem dX0_contract_65 : decode cX0_contract 65 = .ok (.iload_n 1, 1) := dk_27 (dk_at dksX0_contract_2 19 rfl rfl)
theorem dX0_contract_66 : decode cX0_contract 66 = .ok (.iastore, 1) := dk_79 (dk_at dksX0_contract_2 20 rfl rfl)
theorem dX0_contract_67 : decode cX0_contract 67 = .ok (.aload_n 0, 1) := dk_42 (dk_at dksX0_contract_2 21 rfl rfl)
theorem dX0_contract_68 : decode cX0_contract 68 = .ok (.getfield 12, 3) := dk_180 0 12 (dk_at dksX0_contract_3 0 rfl rfl)
theorem dX0_contract_71 : decode cX0_contract 71 = .ok (.getfield 149, 3) := dk_180 0 149 (dk_at dksX0_contract_3 3 rfl rfl)
theorem dX0_contract_74 : decode cX0_contract 74 = .ok (.iload_n 3, 1) := dk_29 (dk_at dksX0_contract_3 6 rfl rfl)
theorem dX0_contract_75 : decode cX0_contract 75 = .ok (.iconst 1, 1) := dk_4 (dk_at dksX0_contract_3 7 rfl rfl)
theorem dX0_contract_76 : decode cX0_contract 76 = .ok (.iadd, 1) := dk_96 (dk_at dksX0_contract_3 8 rfl rfl)
theorem dX0_contract_77 : decode cX0_contract 77 = .ok (.aload_n 0, 1) := dk_42 (dk_at dksX0_contract_3 9 rfl rfl)
theorem dX0_contract_78 : decode cX0_contract 78 = .ok (.getfield 12, 3) := dk_180 0 12 (dk_at dksX0_contract_3 10 rfl rfl)
theorem dX0_contract_81 : decode cX0_contract 81 = .ok (.getfield 149, 3) := dk_180 0 149 (dk_at dksX0_contract_3 13 rfl rfl)
theorem dX0_contract_84 : decode cX0_contract 84 = .ok (.iconst 1, 1) := dk_4 (dk_at dksX0_contract_3 16 rfl rfl)
theorem dX0_contract_85 : decode cX0_contract 85 = .ok (.iaload, 1) := dk_46 (dk_at dksX0_contract_3 17 rfl rfl)
theorem dX0_contract_86 : decode cX0_contract 86 = .ok (.iastore, 1) := dk_79 (dk_at dksX0_contract_3 18 rfl rfl)
theorem dX0_contract_87 : decode cX0_contract 87 = .ok (.aload_n 0, 1) := dk_42 (dk_at dksX0_contract_3 19 rfl rfl)
theorem dX0_contract_88 : decode cX0_contract 88 = .ok (.getfield 12, 3) := dk_180 0 12 (dk_at dksX0_contract_3 20 rfl rfl)
theorem dX0_contract_91 : decode cX0_contract 91 = .ok (.getfield 149, 3) := dk_180 0 149 (dk_at dksX0_contract_4 0 rfl rfl)
theorem dX0_contract_94 : decode cX0_contract 94 = .ok (.iload_n 3, 1) := dk_29 (dk_at dksX0_contract_4 3 rfl rfl)
theorem dX0_contract_95 : decode cX0_contract 95 = .ok (.iconst 2, 1) := dk_5 (dk_at dksX0_contract_4 4 rfl rfl)
theorem dX0_contract_96 : decode cX0_contract 96 = .ok (.iadd, 1) := dk_96 (dk_at dksX0_contract_4 5 rfl rfl)
theorem dX0_contract_97 : decode cX0_contract 97 = .ok (.aload_n 0, 1) := dk_42 (dk_at dksX0_contract_4 6 rfl rfl)
theorem dX0_contract_98 : decode cX0_contract 98 = .ok (.getfield 12, 3) := dk_180 0 12 (dk_at dksX0_contract_4 7 rfl rfl)
theorem dX0_contract_101 : decode cX0_contract 101 = .ok (.getfield 108, 3) := dk_180 0 108 (dk_at dksX0_contract_4 10 rfl rfl)
theorem dX0_contract_104 : decode cX0_contract 104 = .ok (.iload_n 1, 1) := dk_27 (dk_at dksX0_contract_4 13 rfl rfl)
theorem dX0_contract_105 : decode cX0_contract 105 = .ok (.aaload, 1) := dk_50 (dk_at dksX0_contract_4 14 rfl rfl)
theorem dX0_contract_106 : decode cX0_contract 106 = .ok (.arraylength, 1) := dk_190 (dk_at dksX0_contract_4 15 rfl rfl)
theorem dX0_contract_107 : decode cX0_contract 107 = .ok (.iastore, 1) := dk_79 (dk_at dksX0_contract_4 16 rfl rfl)
theorem dX0_contract_108 : decode cX0_contract 108 = .ok (.aload_n 0, 1) := dk_42 (dk_at dksX0_contract_4 17 rfl rfl)
theorem dX0_contract_109 : decode cX0_contract 109 = .ok (.getfield 34, 3) := dk_180 0 34 (dk_at dksX0_contract_4 18 rfl rfl)
theorem dX0_contract_112 : decode cX0_contract 112 = .ok (.iconst 0, 1) := dk_3 (dk_at dksX0_contract_4 21 rfl rfl)
theorem dX0_contract_113 : decode cX0_contract 113 = .ok (.aload_n 0, 1) := dk_42 (dk_at dksX0_contract_4 22 rfl rfl)
theorem dX0_contract_114 : decode cX0_contract 114 = .ok (.getfield 12, 3) := dk_180 0 12 (dk_at dksX0_contract_5 0 rfl rfl)
theorem dX0_contract_117 : decode cX0_contract 117 = .ok (.getfield 149, 3) := dk_180 0 149 (dk_at dksX0_contract_5 3 rfl rfl)
theorem dX0_contract_120 : decode cX0_contract 120 = .ok (.iload_n 3, 1) := dk_29 (dk_at dksX0_contract_5 6 rfl rfl)
theorem dX0_contract_121 : decode cX0_contract 121 = .ok (.iconst 3, 1) := dk_6 (dk_at dksX0_contract_5 7 rfl rfl)
theorem dX0_contract_122 : decode cX0_contract 122 = .ok (.iadd, 1) := dk_96 (dk_at dksX0_contract_5 8 rfl rfl)
theorem dX0_contract_123 : decode cX0_contract 123 = .ok (.aload_n 0, 1) := dk_42 (dk_at dksX0_contract_5 9 rfl rfl)
theorem dX0_contract_124 : decode cX0_contract 124 = .ok (.getfield 12, 3) := dk_180 0 12 (dk_at dksX0_contract_5 10 rfl rfl)
theorem dX0_contract_127 : decode cX0_contract 127 = .ok (.getfield 108, 3) := dk_180 0 108 (dk_at dksX0_contract_5 13 rfl rfl)
theorem dX0_contract_130 : decode cX0_contract 130 = .ok (.iload_n 1, 1) := dk_27 (dk_at dksX0_contract_5 16 rfl rfl)
theorem dX0_contract_131 : decode cX0_contract 131 = .ok (.aaload, 1) := dk_50 (dk_at dksX0_contract_5 17 rfl rfl)
theorem dX0_contract_132 : decode cX0_contract 132 = .ok (.arraylength, 1) := dk_190 (dk_at dksX0_contract_5 18 rfl rfl)
theorem dX0_contract_133 : decode cX0_contract 133 = .ok (.invokestatic 252, 3) := dk_184 0 252 (dk_at dksX0_contract_5 19 rfl rfl)
theorem dX0_contract_136 : decode cX0_contract 136 = .ok (.aload_n 0, 1) := dk_42 (dk_at dksX0_contract_5 22 rfl rfl)
theorem dX0_contract_137 : decode cX0_contract 137 = .ok (.getfield 12, 3) := dk_180 0 12 (dk_at dksX0_contract_6 0 rfl rfl)
theorem dX0_contract_140 : decode cX0_contract 140 = .ok (.getfield 149, 3) := dk_180 0 149 (dk_at dksX0_contract_6 3 rfl rfl)
theorem dX0_contract_143 : decode cX0_contract 143 = .ok (.bipush 81, 2) := dk_16 81 (dk_at dksX0_contract_6 6 rfl rfl)
theorem dX0_contract_145 : decode cX0_contract 145 = .ok (.dup2, 1) := dk_92 (dk_at dksX0_contract_6 8 rfl rfl)
theorem dX0_contract_146 : decode cX0_contract 146 = .ok (.iaload, 1) := dk_46 (dk_at dksX0_contract_6 9 rfl rfl)
theorem dX0_contract_147 : decode cX0_contract 147 = .ok (.iconst 1, 1) := dk_4 (dk_at dksX0_contract_6 10 rfl rfl)
theorem dX0_contract_148 : decode cX0_contract 148 = .ok (.iadd, 1) := dk_96 (dk_at dksX0_contract_6 11 rfl rfl)
theorem dX0_contract_149 : decode cX0_contract 149 = .ok (.iastore, 1) := dk_79 (dk_at dksX0_contract_6 12 rfl rfl)
theorem dX0_contract_150 : decode cX0_contract 150 = .ok (.iload_n 2, 1) := dk_28 (dk_at dksX0_contract_6 13 rfl rfl)
theorem dX0_contract_151 : decode cX0_contract 151 = .ok (.ireturn, 1) := dk_172 (dk_at dksX0_contract_6 14 rfl rfl)
def dkwX0_isSaying_0 : List UInt8 := [27, 3, 42, 180, 0, 12, 180, 0, 66, 4, 46, 4, 100, 184, 0, 62, 172]
abbrev dktX0_isSaying_0 : List UInt8 := dkwX0_isSaying_0 ++ []
theorem dksX0_isSaying_0 : cX0_isSaying.data.toList.drop 0 = dktX0_isSaying_0 := by decide +kernel
theorem dX0_isSaying_0 : decode cX0_isSaying 0 = .ok (.iload_n 1, 1) := dk_27 (dk_at dksX0_isSaying_0 0 rfl rfl)
theorem dX0_isSaying_1 : decode cX0_isSaying 1 = .ok (.iconst 0, 1) := dk_3 (dk_at dksX0_isSaying_0 1 rfl rfl)
theorem dX0_isSaying_2 : decode cX0_isSaying 2 = .ok (.aload_n 0, 1) := dk_42 (dk_at dksX0_isSaying_0 2 rfl rfl)
theorem dX0_isSaying_3 : decode cX0_isSaying 3 = .ok (.getfield 12, 3) := dk_180 0 12 (dk_at dksX0_isSaying_0 3 rfl rfl)
theorem dX0_isSaying_6 : decode cX0_isSaying 6 = .ok (.getfield 66, 3) := dk_180 0 66 (dk_at dksX0_isSaying_0 6 rfl rfl)
theorem dX0_isSaying_9 : decode cX0_isSaying 9 = .ok (.iconst 1, 1) := dk_4 (dk_at dksX0_isSaying_0 9 rfl rfl)
theorem dX0_isSaying_10 : decode cX0_isSaying 10 = .ok (.iaload, 1) := dk_46 (dk_at dksX0_isSaying_0 10 rfl rfl)
theorem dX0_isSaying_11 : decode cX0_isSaying 11 = .ok (.iconst 1, 1) := dk_4 (dk_at dksX0_isSaying_0 11 rfl rfl)
theorem dX0_isSaying_12 : decode cX0_isSaying 12 = .ok (.isub, 1) := dk_100 (dk_at dksX0_isSaying_0 12 rfl rfl)
theorem dX0_isSaying_13 : decode cX0_isSaying 13 = .ok (.invokestatic 62, 3) := dk_184 0 62 (dk_at dksX0_isSaying_0 13 rfl rfl)
theorem dX0_isSaying_16 : decode cX0_isSaying 16 = .ok (.ireturn, 1) := dk_172 (dk_at dksX0_isSaying_0 16 rfl rfl)
def dkwX0_says_2 : List UInt8 := [172, 132, 4, 1, 167, 255, 217, 4, 172]
abbrev dktX0_says_2 : List UInt8 := dkwX0_says_2 ++ []
def dkwX0_says_1 : List UInt8 := [21, 4, 42, 45, 21, 4, 46, 28, 182, 1, 95, 79, 42, 180, 0, 34, 21, 4, 46, 2, 160, 0, 5, 3]
abbrev dktX0_says_1 : List UInt8 := dkwX0_says_1 ++ dktX0_says_2
def dkwX0_says_0 : List UInt8 := [42, 180, 0, 12, 180, 0, 108, 27, 50, 78, 3, 54, 4, 21, 4, 45, 190, 162, 0, 38, 42, 180, 0, 34]
abbrev dktX0_says_0 : List UInt8 := dkwX0_says_0 ++ dktX0_says_1
theorem dksX0_says_0 : cX0_says.data.toList.drop 0 = dktX0_says_0 := by decide +kernel
theorem dksX0_says_1 : cX0_says.data.toList.drop 24 = dktX0_says_1 := dk_seg dksX0_says_0 24 rfl rfl
theorem dksX0_says_2 : cX0_says.data.toList.drop 48 = dktX0_says_2 := dk_seg dksX0_says_1 24 rfl rfl
theorem dX0_says_0 : decode cX0_says 0 = .ok (.aload_n 0, 1) := dk_42 (dk_at dksX0_says_0 0 rfl rfl)
theorem dX0_says_1 : decode cX0_says 1 = .ok (.getfield 12, 3) := dk_180 0 12 (dk_at dksX0_says_0 1 rfl rfl)
theorem dX0_says_4 : decode cX0_says 4 = .ok (.getfield 108, 3) := dk_180 0 108 (dk_at dksX0_says_0 4 rfl rfl)
theorem dX0_says_7 : decode cX0_says 7 = .ok (.iload_n 1, 1) := dk_27 (dk_at dksX0_says_0 7 rfl rfl)
theorem dX0_says_8 : decode cX0_says 8 = .ok (.aaload, 1) := dk_50 (dk_at dksX0_says_0 8 rfl rfl)
theorem dX0_says_9 : decode cX0_says 9 = .ok (.astore_n 3, 1) := dk_78 (dk_at dksX0_says_0 9 rfl rfl)
theorem dX0_says_10 : decode cX0_says 10 = .ok (.iconst 0, 1) := dk_3 (dk_at dksX0_says_0 10 rfl rfl)
theorem dX0_says_11 : decode cX0_says 11 = .ok (.istore 4, 2) := dk_54 4 (dk_at dksX0_says_0 11 rfl rfl)
theorem dX0_says_13 : decode cX0_says 13 = .ok (.iload 4, 2) := dk_21 4 (dk_at dksX0_says_0 13 rfl rfl)
theorem dX0_says_15 : decode cX0_says 15 = .ok (.aload_n 3, 1) := dk_45 (dk_at dksX0_says_0 15 rfl rfl)
theorem dX0_says_16 : decode cX0_says 16 = .ok (.arraylength, 1) := dk_190 (dk_at dksX0_says_0 16 rfl rfl)
theorem dX0_says_17 : decode cX0_says 17 = .ok (.if_icmp .ge 38, 3) := dk_162 0 38 (dk_at dksX0_says_0 17 rfl rfl)
theorem dX0_says_20 : decode cX0_says 20 = .ok (.aload_n 0, 1) := dk_42 (dk_at dksX0_says_0 20 rfl rfl)
theorem dX0_says_21 : decode cX0_says 21 = .ok (.getfield 34, 3) := dk_180 0 34 (dk_at dksX0_says_0 21 rfl rfl)
theorem dX0_says_24 : decode cX0_says 24 = .ok (.iload 4, 2) := dk_21 4 (dk_at dksX0_says_1 0 rfl rfl)
theorem dX0_says_26 : decode cX0_says 26 = .ok (.aload_n 0, 1) := dk_42 (dk_at dksX0_says_1 2 rfl rfl)
theorem dX0_says_27 : decode cX0_says 27 = .ok (.aload_n 3, 1) := dk_45 (dk_at dksX0_says_1 3 rfl rfl)
theorem dX0_says_28 : decode cX0_says 28 = .ok (.iload 4, 2) := dk_21 4 (dk_at dksX0_says_1 4 rfl rfl)
theorem dX0_says_30 : decode cX0_says 30 = .ok (.iaload, 1) := dk_46 (dk_at dksX0_says_1 6 rfl rfl)
theorem dX0_says_31 : decode cX0_says 31 = .ok (.iload_n 2, 1) := dk_28 (dk_at dksX0_says_1 7 rfl rfl)
theorem dX0_says_32 : decode cX0_says 32 = .ok (.invokevirtual 351, 3) := dk_182 1 95 (dk_at dksX0_says_1 8 rfl rfl)
theorem dX0_says_35 : decode cX0_says 35 = .ok (.iastore, 1) := dk_79 (dk_at dksX0_says_1 11 rfl rfl)
theorem dX0_says_36 : decode cX0_says 36 = .ok (.aload_n 0, 1) := dk_42 (dk_at dksX0_says_1 12 rfl rfl)
theorem dX0_says_37 : decode cX0_says 37 = .ok (.getfield 34, 3) := dk_180 0 34 (dk_at dksX0_says_1 13 rfl rfl)
theorem dX0_says_40 : decode cX0_says 40 = .ok (.iload 4, 2) := dk_21 4 (dk_at dksX0_says_1 16 rfl rfl)
theorem dX0_says_42 : decode cX0_says 42 = .ok (.iaload, 1) := dk_46 (dk_at dksX0_says_1 18 rfl rfl)
theorem dX0_says_43 : decode cX0_says 43 = .ok (.iconst (-1), 1) := dk_2 (dk_at dksX0_says_1 19 rfl rfl)
theorem dX0_says_44 : decode cX0_says 44 = .ok (.if_icmp .ne 5, 3) := dk_160 0 5 (dk_at dksX0_says_1 20 rfl rfl)
theorem dX0_says_47 : decode cX0_says 47 = .ok (.iconst 0, 1) := dk_3 (dk_at dksX0_says_1 23 rfl rfl)
theorem dX0_says_48 : decode cX0_says 48 = .ok (.ireturn, 1) := dk_172 (dk_at dksX0_says_2 0 rfl rfl)
theorem dX0_says_49 : decode cX0_says 49 = .ok (.iinc 4 1, 3) := dk_132 4 1 (dk_at dksX0_says_2 1 rfl rfl)
theorem dX0_says_52 : decode cX0_says 52 = .ok (.goto (-39), 3) := dk_167 255 217 (dk_at dksX0_says_2 4 rfl rfl)
theorem dX0_says_55 : decode cX0_says 55 = .ok (.iconst 1, 1) := dk_4 (dk_at dksX0_says_2 7 rfl rfl)
theorem dX0_says_56 : decode cX0_says 56 = .ok (.ireturn, 1) := dk_172 (dk_at dksX0_says_2 8 rfl rfl)
def dkwX0_wordFor_3 : List UInt8 := [29, 50, 182, 0, 199, 162, 0, 6, 21, 4, 62, 132, 4, 1, 167, 255, 176, 29, 172]
abbrev dktX0_wordFor_3 : List UInt8 := dkwX0_wordFor_3 ++ []
def dkwX0_wordFor_2 : List UInt8 := [2, 159, 0, 31, 42, 180, 0, 12, 180, 0, 81, 21, 4, 50, 182, 0, 199, 42, 180, 0, 12, 180, 0, 81]
abbrev dktX0_wordFor_2 : List UInt8 := dkwX0_wordFor_2 ++ dktX0_wordFor_3
def dkwX0_wordFor_1 : List UInt8 := [180, 0, 81, 21, 4, 50, 182, 0, 202, 27, 160, 0, 49, 42, 21, 4, 28, 182, 1, 89, 153, 0, 39, 29]
abbrev dktX0_wordFor_1 : List UInt8 := dkwX0_wordFor_1 ++ dktX0_wordFor_2
def dkwX0_wordFor_0 : List UInt8 := [2, 62, 3, 54, 4, 21, 4, 42, 180, 0, 12, 180, 0, 66, 3, 46, 162, 0, 72, 42, 180, 0, 12]
abbrev dktX0_wordFor_0 : List UInt8 := dkwX0_wordFor_0 ++ dktX0_wordFor_1
theorem dksX0_wordFor_0 : cX0_wordFor.data.toList.drop 0 = dktX0_wordFor_0 := by decide +kernel
theorem dksX0_wordFor_1 : cX0_wordFor.data.toList.drop 23 = dktX0_wordFor_1 := dk_seg dksX0_wordFor_0 23 rfl rfl
theorem dksX0_wordFor_2 : cX0_wordFor.data.toList.drop 47 = dktX0_wordFor_2 := dk_seg dksX0_wordFor_1 24 rfl rfl
theorem dksX0_wordFor_3 : cX0_wordFor.data.toList.drop 71 = dktX0_wordFor_3 := dk_seg dksX0_wordFor_2 24 rfl rfl
theorem dX0_wordFor_0 : decode cX0_wordFor 0 = .ok (.iconst (-1), 1) := dk_2 (dk_at dksX0_wordFor_0 0 rfl rfl)
theorem dX0_wordFor_1 : decode cX0_wordFor 1 = .ok (.istore_n 3, 1) := dk_62 (dk_at dksX0_wordFor_0 1 rfl rfl)
theorem dX0_wordFor_2 : decode cX0_wordFor 2 = .ok (.iconst 0, 1) := dk_3 (dk_at dksX0_wordFor_0 2 rfl rfl)
theorem dX0_wordFor_3 : decode cX0_wordFor 3 = .ok (.istore 4, 2) := dk_54 4 (dk_at dksX0_wordFor_0 3 rfl rfl)
theorem dX0_wordFor_5 : decode cX0_wordFor 5 = .ok (.iload 4, 2) := dk_21 4 (dk_at dksX0_wordFor_0 5 rfl rfl)
theorem dX0_wordFor_7 : decode cX0_wordFor 7 = .ok (.aload_n 0, 1) := dk_42 (dk_at dksX0_wordFor_0 7 rfl rfl)
theorem dX0_wordFor_8 : decode cX0_wordFor 8 = .ok (.getfield 12, 3) := dk_180 0 12 (dk_at dksX0_wordFor_0 8 rfl rfl)
theorem dX0_wordFor_11 : decode cX0_wordFor 11 = .ok (.getfield 66, 3) := dk_180 0 66 (dk_at dksX0_wordFor_0 11 rfl rfl)
theorem dX0_wordFor_14 : decode cX0_wordFor 14 = .ok (.iconst 0, 1) := dk_3 (dk_at dksX0_wordFor_0 14 rfl rfl)
theorem dX0_wordFor_15 : decode cX0_wordFor 15 = .ok (.iaload, 1) := dk_46 (dk_at dksX0_wordFor_0 15 rfl rfl)
theorem dX0_wordFor_16 : decode cX0_wordFor 16 = .ok (.if_icmp .ge 72, 3) := dk_162 0 72 (dk_at dksX0_wordFor_0 16 rfl rfl)
theorem dX0_wordFor_19 : decode cX0_wordFor 19 = .ok (.aload_n 0, 1) := dk_42 (dk_at dksX0_wordFor_0 19 rfl rfl)
theorem dX0_wordFor_20 : decode cX0_wordFor 20 = .ok (.getfield 12, 3) := dk_180 0 12 (dk_at dksX0_wordFor_0 20 rfl rfl)
theorem dX0_wordFor_23 : decode cX0_wordFor 23 = .ok (.getfield 81, 3) := dk_180 0 81 (dk_at dksX0_wordFor_1 0 rfl rfl)
theorem dX0_wordFor_26 : decode cX0_wordFor 26 = .ok (.iload 4, 2) := dk_21 4 (dk_at dksX0_wordFor_1 3 rfl rfl)
theorem dX0_wordFor_28 : decode cX0_wordFor 28 = .ok (.aaload, 1) := dk_50 (dk_at dksX0_wordFor_1 5 rfl rfl)
theorem dX0_wordFor_29 : decode cX0_wordFor 29 = .ok (.invokevirtual 202, 3) := dk_182 0 202 (dk_at dksX0_wordFor_1 6 rfl rfl)
theorem dX0_wordFor_32 : decode cX0_wordFor 32 = .ok (.iload_n 1, 1) := dk_27 (dk_at dksX0_wordFor_1 9 rfl rfl)
theorem dX0_wordFor_33 : decode cX0_wordFor 33 = .ok (.if_icmp .ne 49, 3) := dk_160 0 49 (dk_at dksX0_wordFor_1 10 rfl rfl)
theorem dX0_wordFor_36 : decode cX0_wordFor 36 = .ok (.aload_n 0, 1) := dk_42 (dk_at dksX0_wordFor_1 13 rfl rfl)
theorem dX0_wordFor_37 : decode cX0_wordFor 37 = .ok (.iload 4, 2) := dk_21 4 (dk_at dksX0_wordFor_1 14 rfl rfl)
theorem dX0_wordFor_39 : decode cX0_wordFor 39 = .ok (.iload_n 2, 1) := dk_28 (dk_at dksX0_wordFor_1 16 rfl rfl)
theorem dX0_wordFor_40 : decode cX0_wordFor 40 = .ok (.invokevirtual 345, 3) := dk_182 1 89 (dk_at dksX0_wordFor_1 17 rfl rfl)
theorem dX0_wordFor_43 : decode cX0_wordFor 43 = .ok (.ifCond .eq 39, 3) := dk_153 0 39 (dk_at dksX0_wordFor_1 20 rfl rfl)
theorem dX0_wordFor_46 : decode cX0_wordFor 46 = .ok (.iload_n 3, 1) := dk_29 (dk_at dksX0_wordFor_1 23 rfl rfl)
theorem dX0_wordFor_47 : decode cX0_wordFor 47 = .ok (.iconst (-1), 1) := dk_2 (dk_at dksX0_wordFor_2 0 rfl rfl)
theorem dX0_wordFor_48 : decode cX0_wordFor 48 = .ok (.if_icmp .eq 31, 3) := dk_159 0 31 (dk_at dksX0_wordFor_2 1 rfl rfl)
theorem dX0_wordFor_51 : decode cX0_wordFor 51 = .ok (.aload_n 0, 1) := dk_42 (dk_at dksX0_wordFor_2 4 rfl rfl)
theorem dX0_wordFor_52 : decode cX0_wordFor 52 = .ok (.getfield 12, 3) := dk_180 0 12 (dk_at dksX0_wordFor_2 5 rfl rfl)
theorem dX0_wordFor_55 : decode cX0_wordFor 55 = .ok (.getfield 81, 3) := dk_180 0 81 (dk_at dksX0_wordFor_2 8 rfl rfl)
theorem dX0_wordFor_58 : decode cX0_wordFor 58 = .ok (.iload 4, 2) := dk_21 4 (dk_at dksX0_wordFor_2 11 rfl rfl)
theorem dX0_wordFor_60 : decode cX0_wordFor 60 = .ok (.aaload, 1) := dk_50 (dk_at dksX0_wordFor_2 13 rfl rfl)
theorem dX0_wordFor_61 : decode cX0_wordFor 61 = .ok (.invokevirtual 199, 3) := dk_182 0 199 (dk_at dksX0_wordFor_2 14 rfl rfl)
theorem dX0_wordFor_64 : decode cX0_wordFor 64 = .ok (.aload_n 0, 1) := dk_42 (dk_at dksX0_wordFor_2 17 rfl rfl)
theorem dX0_wordFor_65 : decode cX0_wordFor 65 = .ok (.getfield 12, 3) := dk_180 0 12 (dk_at dksX0_wordFor_2 18 rfl rfl)
theorem dX0_wordFor_68 : decode cX0_wordFor 68 = .ok (.getfield 81, 3) := dk_180 0 81 (dk_at dksX0_wordFor_2 21 rfl rfl)
theorem dX0_wordFor_71 : decode cX0_wordFor 71 = .ok (.iload_n 3, 1) := dk_29 (dk_at dksX0_wordFor_3 0 rfl rfl)
theorem dX0_wordFor_72 : decode cX0_wordFor 72 = .ok (.aaload, 1) := dk_50 (dk_at dksX0_wordFor_3 1 rfl rfl)
theorem dX0_wordFor_73 : decode cX0_wordFor 73 = .ok (.invokevirtual 199, 3) := dk_182 0 199 (dk_at dksX0_wordFor_3 2 rfl rfl)
theorem dX0_wordFor_76 : decode cX0_wordFor 76 = .ok (.if_icmp .ge 6, 3) := dk_162 0 6 (dk_at dksX0_wordFor_3 5 rfl rfl)
theorem dX0_wordFor_79 : decode cX0_wordFor 79 = .ok (.iload 4, 2) := dk_21 4 (dk_at dksX0_wordFor_3 8 rfl rfl)
theorem dX0_wordFor_81 : decode cX0_wordFor 81 = .ok (.istore_n 3, 1) := dk_62 (dk_at dksX0_wordFor_3 10 rfl rfl)
theorem dX0_wordFor_82 : decode cX0_wordFor 82 = .ok (.iinc 4 1, 3) := dk_132 4 1 (dk_at dksX0_wordFor_3 11 rfl rfl)
theorem dX0_wordFor_85 : decode cX0_wordFor 85 = .ok (.goto (-80), 3) := dk_167 255 176 (dk_at dksX0_wordFor_3 14 rfl rfl)
theorem dX0_wordFor_88 : decode cX0_wordFor 88 = .ok (.iload_n 3, 1) := dk_29 (dk_at dksX0_wordFor_3 17 rfl rfl)
theorem dX0_wordFor_89 : decode cX0_wordFor 89 = .ok (.ireturn, 1) := dk_172 (dk_at dksX0_wordFor_3 18 rfl rfl)
def dkwX0_can_0 : List UInt8 := [42, 180, 0, 12, 180, 0, 81, 27, 50, 182, 0, 162, 28, 126, 154, 0, 7, 4, 167, 0, 4, 3, 172]
abbrev dktX0_can_0 : List UInt8 := dkwX0_can_0 ++ []
theorem dksX0_can_0 : cX0_can.data.toList.drop 0 = dktX0_can_0 := by decide +kernel
theorem dX0_can_0 : decode cX0_can 0 = .ok (.aload_n 0, 1) := dk_42 (dk_at dksX0_can_0 0 rfl rfl)
theorem dX0_can_1 : decode cX0_can 1 = .ok (.getfield 12, 3) := dk_180 0 12 (dk_at dksX0_can_0 1 rfl rfl)
theorem dX0_can_4 : decode cX0_can 4 = .ok (.getfield 81, 3) := dk_180 0 81 (dk_at dksX0_can_0 4 rfl rfl)
theorem dX0_can_7 : decode cX0_can 7 = .ok (.iload_n 1, 1) := dk_27 (dk_at dksX0_can_0 7 rfl rfl)
theorem dX0_can_8 : decode cX0_can 8 = .ok (.aaload, 1) := dk_50 (dk_at dksX0_can_0 8 rfl rfl)
theorem dX0_can_9 : decode cX0_can 9 = .ok (.invokevirtual 162, 3) := dk_182 0 162 (dk_at dksX0_can_0 9 rfl rfl)
theorem dX0_can_12 : decode cX0_can 12 = .ok (.iload_n 2, 1) := dk_28 (dk_at dksX0_can_0 12 rfl rfl)
theorem dX0_can_13 : decode cX0_can 13 = .ok (.iand, 1) := dk_126 (dk_at dksX0_can_0 13 rfl rfl)
theorem dX0_can_14 : decode cX0_can 14 = .ok (.ifCond .ne 7, 3) := dk_154 0 7 (dk_at dksX0_can_0 14 rfl rfl)
theorem dX0_can_17 : decode cX0_can 17 = .ok (.iconst 1, 1) := dk_4 (dk_at dksX0_can_0 17 rfl rfl)
theorem dX0_can_18 : decode cX0_can 18 = .ok (.goto 4, 3) := dk_167 0 4 (dk_at dksX0_can_0 18 rfl rfl)
theorem dX0_can_21 : decode cX0_can 21 = .ok (.iconst 0, 1) := dk_3 (dk_at dksX0_can_0 21 rfl rfl)
theorem dX0_can_22 : decode cX0_can 22 = .ok (.ireturn, 1) := dk_172 (dk_at dksX0_can_0 22 rfl rfl)
def dkwX0_played_2 : List UInt8 := [154, 0, 15, 44, 29, 182, 1, 61, 192, 1, 15, 182, 1, 69, 172, 132, 3, 1, 167, 255, 218, 2, 172]
abbrev dktX0_played_2 : List UInt8 := dkwX0_played_2 ++ []
def dkwX0_played_1 : List UInt8 := [3, 62, 29, 44, 182, 1, 56, 162, 0, 36, 42, 44, 29, 182, 1, 61, 192, 1, 15, 182, 1, 65]
abbrev dktX0_played_1 : List UInt8 := dkwX0_played_1 ++ dktX0_played_2
def dkwX0_played_0 : List UInt8 := [42, 27, 182, 0, 142, 154, 0, 6, 16, 254, 172, 42, 180, 0, 12, 180, 0, 123, 27, 50, 180, 1, 52, 77]
abbrev dktX0_played_0 : List UInt8 := dkwX0_played_0 ++ dktX0_played_1
theorem dksX0_played_0 : cX0_played.data.toList.drop 0 = dktX0_played_0 := by decide +kernel
theorem dksX0_played_1 : cX0_played.data.toList.drop 24 = dktX0_played_1 := dk_seg dksX0_played_0 24 rfl rfl
theorem dksX0_played_2 : cX0_played.data.toList.drop 46 = dktX0_played_2 := dk_seg dksX0_played_1 22 rfl rfl
theorem dX0_played_0 : decode cX0_played 0 = .ok (.aload_n 0, 1) := dk_42 (dk_at dksX0_played_0 0 rfl rfl)
theorem dX0_played_1 : decode cX0_played 1 = .ok (.iload_n 1, 1) := dk_27 (dk_at dksX0_played_0 1 rfl rfl)
theorem dX0_played_2 : decode cX0_played 2 = .ok (.invokevirtual 142, 3) := dk_182 0 142 (dk_at dksX0_played_0 2 rfl rfl)
theorem dX0_played_5 : decode cX0_played 5 = .ok (.ifCond .ne 6, 3) := dk_154 0 6 (dk_at dksX0_played_0 5 rfl rfl)
theorem dX0_played_8 : decode cX0_played 8 = .ok (.bipush (-2), 2) := dk_16 254 (dk_at dksX0_played_0 8 rfl rfl)
theorem dX0_played_10 : decode cX0_played 10 = .ok (.ireturn, 1) := dk_172 (dk_at dksX0_played_0 10 rfl rfl)
theorem dX0_played_11 : decode cX0_played 11 = .ok (.aload_n 0, 1) := dk_42 (dk_at dksX0_played_0 11 rfl rfl)
theorem dX0_played_12 : decode cX0_played 12 = .ok (.getfield 12, 3) := dk_180 0 12 (dk_at dksX0_played_0 12 rfl rfl)
theorem dX0_played_15 : decode cX0_played 15 = .ok (.getfield 123, 3) := dk_180 0 123 (dk_at dksX0_played_0 15 rfl rfl)
theorem dX0_played_18 : decode cX0_played 18 = .ok (.iload_n 1, 1) := dk_27 (dk_at dksX0_played_0 18 rfl rfl)
theorem dX0_played_19 : decode cX0_played 19 = .ok (.aaload, 1) := dk_50 (dk_at dksX0_played_0 19 rfl rfl)
theorem dX0_played_20 : decode cX0_played 20 = .ok (.getfield 308, 3) := dk_180 1 52 (dk_at dksX0_played_0 20 rfl rfl)
theorem dX0_played_23 : decode cX0_played 23 = .ok (.astore_n 2, 1) := dk_77 (dk_at dksX0_played_0 23 rfl rfl)
theorem dX0_played_24 : decode cX0_played 24 = .ok (.iconst 0, 1) := dk_3 (dk_at dksX0_played_1 0 rfl rfl)
theorem dX0_played_25 : decode cX0_played 25 = .ok (.istore_n 3, 1) := dk_62 (dk_at dksX0_played_1 1 rfl rfl)
theorem dX0_played_26 : decode cX0_played 26 = .ok (.iload_n 3, 1) := dk_29 (dk_at dksX0_played_1 2 rfl rfl)
theorem dX0_played_27 : decode cX0_played 27 = .ok (.aload_n 2, 1) := dk_44 (dk_at dksX0_played_1 3 rfl rfl)
theorem dX0_played_28 : decode cX0_played 28 = .ok (.invokevirtual 312, 3) := dk_182 1 56 (dk_at dksX0_played_1 4 rfl rfl)
theorem dX0_played_31 : decode cX0_played 31 = .ok (.if_icmp .ge 36, 3) := dk_162 0 36 (dk_at dksX0_played_1 7 rfl rfl)
theorem dX0_played_34 : decode cX0_played 34 = .ok (.aload_n 0, 1) := dk_42 (dk_at dksX0_played_1 10 rfl rfl)
theorem dX0_played_35 : decode cX0_played 35 = .ok (.aload_n 2, 1) := dk_44 (dk_at dksX0_played_1 11 rfl rfl)
theorem dX0_played_36 : decode cX0_played 36 = .ok (.iload_n 3, 1) := dk_29 (dk_at dksX0_played_1 12 rfl rfl)
theorem dX0_played_37 : decode cX0_played 37 = .ok (.invokevirtual 317, 3) := dk_182 1 61 (dk_at dksX0_played_1 13 rfl rfl)
theorem dX0_played_40 : decode cX0_played 40 = .ok (.checkcast 271, 3) := dk_192 1 15 (dk_at dksX0_played_1 16 rfl rfl)
theorem dX0_played_43 : decode cX0_played 43 = .ok (.invokevirtual 321, 3) := dk_182 1 65 (dk_at dksX0_played_1 19 rfl rfl)
theorem dX0_played_46 : decode cX0_played 46 = .ok (.ifCond .ne 15, 3) := dk_154 0 15 (dk_at dksX0_played_2 0 rfl rfl)
theorem dX0_played_49 : decode cX0_played 49 = .ok (.aload_n 2, 1) := dk_44 (dk_at dksX0_played_2 3 rfl rfl)
theorem dX0_played_50 : decode cX0_played 50 = .ok (.iload_n 3, 1) := dk_29 (dk_at dksX0_played_2 4 rfl rfl)
theorem dX0_played_51 : decode cX0_played 51 = .ok (.invokevirtual 317, 3) := dk_182 1 61 (dk_at dksX0_played_2 5 rfl rfl)
theorem dX0_played_54 : decode cX0_played 54 = .ok (.checkcast 271, 3) := dk_192 1 15 (dk_at dksX0_played_2 8 rfl rfl)
theorem dX0_played_57 : decode cX0_played 57 = .ok (.invokevirtual 325, 3) := dk_182 1 69 (dk_at dksX0_played_2 11 rfl rfl)
theorem dX0_played_60 : decode cX0_played 60 = .ok (.ireturn, 1) := dk_172 (dk_at dksX0_played_2 14 rfl rfl)
theorem dX0_played_61 : decode cX0_played 61 = .ok (.iinc 3 1, 3) := dk_132 3 1 (dk_at dksX0_played_2 15 rfl rfl)
theorem dX0_played_64 : decode cX0_played 64 = .ok (.goto (-38), 3) := dk_167 255 218 (dk_at dksX0_played_2 18 rfl rfl)
theorem dX0_played_67 : decode cX0_played 67 = .ok (.iconst (-1), 1) := dk_2 (dk_at dksX0_played_2 21 rfl rfl)
theorem dX0_played_68 : decode cX0_played 68 = .ok (.ireturn, 1) := dk_172 (dk_at dksX0_played_2 22 rfl rfl)
def dkwX0_does_9 : List UInt8 := [172]
abbrev dktX0_does_9 : List UInt8 := dkwX0_does_9 ++ []
def dkwX0_does_8 : List UInt8 := [182, 1, 26, 182, 1, 47, 2, 159, 0, 7, 4, 167, 0, 4, 3, 172, 42, 43, 182, 1, 26, 182, 1, 50]
abbrev dktX0_does_8 : List UInt8 := dkwX0_does_8 ++ dktX0_does_9
def dkwX0_does_7 : List UInt8 := [182, 1, 43, 172, 42, 43, 182, 1, 19, 184, 1, 29, 3, 43, 182, 1, 26, 182, 1, 43, 172, 42, 43]
abbrev dktX0_does_7 : List UInt8 := dkwX0_does_7 ++ dktX0_does_8
def dkwX0_does_6 : List UInt8 := [2, 159, 0, 7, 4, 167, 0, 4, 3, 172, 42, 43, 182, 1, 19, 184, 1, 29, 4, 43, 182, 1, 26]
abbrev dktX0_does_6 : List UInt8 := dkwX0_does_6 ++ dktX0_does_7
def dkwX0_does_5 : List UInt8 := [182, 1, 37, 2, 159, 0, 7, 4, 167, 0, 4, 3, 172, 42, 43, 182, 1, 19, 184, 1, 29, 182, 1, 40]
abbrev dktX0_does_5 : List UInt8 := dkwX0_does_5 ++ dktX0_does_6
def dkwX0_does_4 : List UInt8 := [184, 1, 29, 43, 182, 1, 32, 184, 1, 29, 182, 1, 35, 172, 42, 43, 182, 1, 19, 184, 1, 29]
abbrev dktX0_does_4 : List UInt8 := dkwX0_does_4 ++ dktX0_does_5
def dkwX0_does_3 : List UInt8 := [172, 42, 43, 182, 1, 19, 182, 0, 112, 2, 159, 0, 7, 4, 167, 0, 4, 3, 172, 42, 43, 182, 1, 19]
abbrev dktX0_does_3 : List UInt8 := dkwX0_does_3 ++ dktX0_does_4
def dkwX0_does_2 : List UInt8 := [42, 43, 182, 1, 19, 184, 1, 22, 43, 182, 1, 26, 182, 0, 104, 2, 159, 0, 7, 4, 167, 0, 4, 3]
abbrev dktX0_does_2 : List UInt8 := dkwX0_does_2 ++ dktX0_does_3
def dkwX0_does_1 : List UInt8 := [170, 0, 0, 0, 0, 0, 0, 204, 0, 0, 0, 204, 0, 0, 0, 211, 0, 0, 0, 48, 0, 0, 0, 73, 0, 0, 0, 91, 0, 0, 0, 110, 0, 0, 0, 131, 0, 0, 0, 152, 0, 0, 0, 169, 0, 0, 0, 186]
abbrev dktX0_does_1 : List UInt8 := dkwX0_does_1 ++ dktX0_does_2
def dkwX0_does_0 : List UInt8 := [43, 182, 1, 14]
abbrev dktX0_does_0 : List UInt8 := dkwX0_does_0 ++ dktX0_does_1
theorem dksX0_does_0 : cX0_does.data.toList.drop 0 = dktX0_does_0 := by decide +kernel
theorem dksX0_does_1 : cX0_does.data.toList.drop 4 = dktX0_does_1 := dk_seg dksX0_does_0 4 rfl rfl
theorem dksX0_does_2 : cX0_does.data.toList.drop 52 = dktX0_does_2 := dk_seg dksX0_does_1 48 rfl rfl
theorem dksX0_does_3 : cX0_does.data.toList.drop 76 = dktX0_does_3 := dk_seg dksX0_does_2 24 rfl rfl
theorem dksX0_does_4 : cX0_does.data.toList.drop 100 = dktX0_does_4 := dk_seg dksX0_does_3 24 rfl rfl
theorem dksX0_does_5 : cX0_does.data.toList.drop 122 = dktX0_does_5 := dk_seg dksX0_does_4 22 rfl rfl
theorem dksX0_does_6 : cX0_does.data.toList.drop 146 = dktX0_does_6 := dk_seg dksX0_does_5 24 rfl rfl
theorem dksX0_does_7 : cX0_does.data.toList.drop 169 = dktX0_does_7 := dk_seg dksX0_does_6 23 rfl rfl
theorem dksX0_does_8 : cX0_does.data.toList.drop 192 = dktX0_does_8 := dk_seg dksX0_does_7 23 rfl rfl
theorem dksX0_does_9 : cX0_does.data.toList.drop 216 = dktX0_does_9 := dk_seg dksX0_does_8 24 rfl rfl
theorem dX0_does_0 : decode cX0_does 0 = .ok (.aload_n 1, 1) := dk_43 (dk_at dksX0_does_0 0 rfl rfl)
theorem dX0_does_1 : decode cX0_does 1 = .ok (.invokevirtual 270, 3) := dk_182 1 14 (dk_at dksX0_does_0 1 rfl rfl)
theorem dX0_does_4 : decode cX0_does 4 = .ok (.tableswitch 204 204 211 #[48, 73, 91, 110, 131, 152, 169, 186], 48) := by decide +kernel
theorem dX0_does_52 : decode cX0_does 52 = .ok (.aload_n 0, 1) := dk_42 (dk_at dksX0_does_2 0 rfl rfl)
theorem dX0_does_53 : decode cX0_does 53 = .ok (.aload_n 1, 1) := dk_43 (dk_at dksX0_does_2 1 rfl rfl)
theorem dX0_does_54 : decode cX0_does 54 = .ok (.invokevirtual 275, 3) := dk_182 1 19 (dk_at dksX0_does_2 2 rfl rfl)
theorem dX0_does_57 : decode cX0_does 57 = .ok (.invokestatic 278, 3) := dk_184 1 22 (dk_at dksX0_does_2 5 rfl rfl)
theorem dX0_does_60 : decode cX0_does 60 = .ok (.aload_n 1, 1) := dk_43 (dk_at dksX0_does_2 8 rfl rfl)
theorem dX0_does_61 : decode cX0_does 61 = .ok (.invokevirtual 282, 3) := dk_182 1 26 (dk_at dksX0_does_2 9 rfl rfl)
theorem dX0_does_64 : decode cX0_does 64 = .ok (.invokevirtual 104, 3) := dk_182 0 104 (dk_at dksX0_does_2 12 rfl rfl)
theorem dX0_does_67 : decode cX0_does 67 = .ok (.iconst (-1), 1) := dk_2 (dk_at dksX0_does_2 15 rfl rfl)
theorem dX0_does_68 : decode cX0_does 68 = .ok (.if_icmp .eq 7, 3) := dk_159 0 7 (dk_at dksX0_does_2 16 rfl rfl)
theorem dX0_does_71 : decode cX0_does 71 = .ok (.iconst 1, 1) := dk_4 (dk_at dksX0_does_2 19 rfl rfl)
theorem dX0_does_72 : decode cX0_does 72 = .ok (.goto 4, 3) := dk_167 0 4 (dk_at dksX0_does_2 20 rfl rfl)
theorem dX0_does_75 : decode cX0_does 75 = .ok (.iconst 0, 1) := dk_3 (dk_at dksX0_does_2 23 rfl rfl)
theorem dX0_does_76 : decode cX0_does 76 = .ok (.ireturn, 1) := dk_172 (dk_at dksX0_does_3 0 rfl rfl)
theorem dX0_does_77 : decode cX0_does 77 = .ok (.aload_n 0, 1) := dk_42 (dk_at dksX0_does_3 1 rfl rfl)
theorem dX0_does_78 : decode cX0_does 78 = .ok (.aload_n 1, 1) := dk_43 (dk_at dksX0_does_3 2 rfl rfl)
theorem dX0_does_79 : decode cX0_does 79 = .ok (.invokevirtual 275, 3) := dk_182 1 19 (dk_at dksX0_does_3 3 rfl rfl)
theorem dX0_does_82 : decode cX0_does 82 = .ok (.invokevirtual 112, 3) := dk_182 0 112 (dk_at dksX0_does_3 6 rfl rfl)
theorem dX0_does_85 : decode cX0_does 85 = .ok (.iconst (-1), 1) := dk_2 (dk_at dksX0_does_3 9 rfl rfl)
theorem dX0_does_86 : decode cX0_does 86 = .ok (.if_icmp .eq 7, 3) := dk_159 0 7 (dk_at dksX0_does_3 10 rfl rfl)
theorem dX0_does_89 : decode cX0_does 89 = .ok (.iconst 1, 1) := dk_4 (dk_at dksX0_does_3 13 rfl rfl)
theorem dX0_does_90 : decode cX0_does 90 = .ok (.goto 4, 3) := dk_167 0 4 (dk_at dksX0_does_3 14 rfl rfl)
theorem dX0_does_93 : decode cX0_does 93 = .ok (.iconst 0, 1) := dk_3 (dk_at dksX0_does_3 17 rfl rfl)
theorem dX0_does_94 : decode cX0_does 94 = .ok (.ireturn, 1) := dk_172 (dk_at dksX0_does_3 18 rfl rfl)
theorem dX0_does_95 : decode cX0_does 95 = .ok (.aload_n 0, 1) := dk_42 (dk_at dksX0_does_3 19 rfl rfl)
theorem dX0_does_96 : decode cX0_does 96 = .ok (.aload_n 1, 1) := dk_43 (dk_at dksX0_does_3 20 rfl rfl)
theorem dX0_does_97 : decode cX0_does 97 = .ok (.invokevirtual 275, 3) := dk_182 1 19 (dk_at dksX0_does_3 21 rfl rfl)
theorem dX0_does_100 : decode cX0_does 100 = .ok (.invokestatic 285, 3) := dk_184 1 29 (dk_at dksX0_does_4 0 rfl rfl)
theorem dX0_does_103 : decode cX0_does 103 = .ok (.aload_n 1, 1) := dk_43 (dk_at dksX0_does_4 3 rfl rfl)
theorem dX0_does_104 : decode cX0_does 104 = .ok (.invokevirtual 288, 3) := dk_182 1 32 (dk_at dksX0_does_4 4 rfl rfl)
theorem dX0_does_107 : decode cX0_does 107 = .ok (.invokestatic 285, 3) := dk_184 1 29 (dk_at dksX0_does_4 7 rfl rfl)
theorem dX0_does_110 : decode cX0_does 110 = .ok (.invokevirtual 291, 3) := dk_182 1 35 (dk_at dksX0_does_4 10 rfl rfl)
theorem dX0_does_113 : decode cX0_does 113 = .ok (.ireturn, 1) := dk_172 (dk_at dksX0_does_4 13 rfl rfl)
theorem dX0_does_114 : decode cX0_does 114 = .ok (.aload_n 0, 1) := dk_42 (dk_at dksX0_does_4 14 rfl rfl)
theorem dX0_does_115 : decode cX0_does 115 = .ok (.aload_n 1, 1) := dk_43 (dk_at dksX0_does_4 15 rfl rfl)
theorem dX0_does_116 : decode cX0_does 116 = .ok (.invokevirtual 275, 3) := dk_182 1 19 (dk_at dksX0_does_4 16 rfl rfl)
theorem dX0_does_119 : decode cX0_does 119 = .ok (.invokestatic 285, 3) := dk_184 1 29 (dk_at dksX0_does_4 19 rfl rfl)
theorem dX0_does_122 : decode cX0_does 122 = .ok (.invokevirtual 293, 3) := dk_182 1 37 (dk_at dksX0_does_5 0 rfl rfl)
theorem dX0_does_125 : decode cX0_does 125 = .ok (.iconst (-1), 1) := dk_2 (dk_at dksX0_does_5 3 rfl rfl)
theorem dX0_does_126 : decode cX0_does 126 = .ok (.if_icmp .eq 7, 3) := dk_159 0 7 (dk_at dksX0_does_5 4 rfl rfl)
theorem dX0_does_129 : decode cX0_does 129 = .ok (.iconst 1, 1) := dk_4 (dk_at dksX0_does_5 7 rfl rfl)
theorem dX0_does_130 : decode cX0_does 130 = .ok (.goto 4, 3) := dk_167 0 4 (dk_at dksX0_does_5 8 rfl rfl)
theorem dX0_does_133 : decode cX0_does 133 = .ok (.iconst 0, 1) := dk_3 (dk_at dksX0_does_5 11 rfl rfl)
theorem dX0_does_134 : decode cX0_does 134 = .ok (.ireturn, 1) := dk_172 (dk_at dksX0_does_5 12 rfl rfl)
theorem dX0_does_135 : decode cX0_does 135 = .ok (.aload_n 0, 1) := dk_42 (dk_at dksX0_does_5 13 rfl rfl)
theorem dX0_does_136 : decode cX0_does 136 = .ok (.aload_n 1, 1) := dk_43 (dk_at dksX0_does_5 14 rfl rfl)
theorem dX0_does_137 : decode cX0_does 137 = .ok (.invokevirtual 275, 3) := dk_182 1 19 (dk_at dksX0_does_5 15 rfl rfl)
theorem dX0_does_140 : decode cX0_does 140 = .ok (.invokestatic 285, 3) := dk_184 1 29 (dk_at dksX0_does_5 18 rfl rfl)
theorem dX0_does_143 : decode cX0_does 143 = .ok (.invokevirtual 296, 3) := dk_182 1 40 (dk_at dksX0_does_5 21 rfl rfl)
theorem dX0_does_146 : decode cX0_does 146 = .ok (.iconst (-1), 1) := dk_2 (dk_at dksX0_does_6 0 rfl rfl)
theorem dX0_does_147 : decode cX0_does 147 = .ok (.if_icmp .eq 7, 3) := dk_159 0 7 (dk_at dksX0_does_6 1 rfl rfl)
theorem dX0_does_150 : decode cX0_does 150 = .ok (.iconst 1, 1) := dk_4 (dk_at dksX0_does_6 4 rfl rfl)
theorem dX0_does_151 : decode cX0_does 151 = .ok (.goto 4, 3) := dk_167 0 4 (dk_at dksX0_does_6 5 rfl rfl)
theorem dX0_does_154 : decode cX0_does 154 = .ok (.iconst 0, 1) := dk_3 (dk_at dksX0_does_6 8 rfl rfl)
theorem dX0_does_155 : decode cX0_does 155 = .ok (.ireturn, 1) := dk_172 (dk_at dksX0_does_6 9 rfl rfl)
theorem dX0_does_156 : decode cX0_does 156 = .ok (.aload_n 0, 1) := dk_42 (dk_at dksX0_does_6 10 rfl rfl)
theorem dX0_does_157 : decode cX0_does 157 = .ok (.aload_n 1, 1) := dk_43 (dk_at dksX0_does_6 11 rfl rfl)
theorem dX0_does_158 : decode cX0_does 158 = .ok (.invokevirtual 275, 3) := dk_182 1 19 (dk_at dksX0_does_6 12 rfl rfl)
theorem dX0_does_161 : decode cX0_does 161 = .ok (.invokestatic 285, 3) := dk_184 1 29 (dk_at dksX0_does_6 15 rfl rfl)
theorem dX0_does_164 : decode cX0_does 164 = .ok (.iconst 1, 1) := dk_4 (dk_at dksX0_does_6 18 rfl rfl)
theorem dX0_does_165 : decode cX0_does 165 = .ok (.aload_n 1, 1) := dk_43 (dk_at dksX0_does_6 19 rfl rfl)
theorem dX0_does_166 : decode cX0_does 166 = .ok (.invokevirtual 282, 3) := dk_182 1 26 (dk_at dksX0_does_6 20 rfl rfl)
theorem dX0_does_169 : decode cX0_does 169 = .ok (.invokevirtual 299, 3) := dk_182 1 43 (dk_at dksX0_does_7 0 rfl rfl)
theorem dX0_does_172 : decode cX0_does 172 = .ok (.ireturn, 1) := dk_172 (dk_at dksX0_does_7 3 rfl rfl)
theorem dX0_does_173 : decode cX0_does 173 = .ok (.aload_n 0, 1) := dk_42 (dk_at dksX0_does_7 4 rfl rfl)
theorem dX0_does_174 : decode cX0_does 174 = .ok (.aload_n 1, 1) := dk_43 (dk_at dksX0_does_7 5 rfl rfl)
theorem dX0_does_175 : decode cX0_does 175 = .ok (.invokevirtual 275, 3) := dk_182 1 19 (dk_at dksX0_does_7 6 rfl rfl)
theorem dX0_does_178 : decode cX0_does 178 = .ok (.invokestatic 285, 3) := dk_184 1 29 (dk_at dksX0_does_7 9 rfl rfl)
theorem dX0_does_181 : decode cX0_does 181 = .ok (.iconst 0, 1) := dk_3 (dk_at dksX0_does_7 12 rfl rfl)
theorem dX0_does_182 : decode cX0_does 182 = .ok (.aload_n 1, 1) := dk_43 (dk_at dksX0_does_7 13 rfl rfl)
theorem dX0_does_183 : decode cX0_does 183 = .ok (.invokevirtual 282, 3) := dk_182 1 26 (dk_at dksX0_does_7 14 rfl rfl)
theorem dX0_does_186 : decode cX0_does 186 = .ok (.invokevirtual 299, 3) := dk_182 1 43 (dk_at dksX0_does_7 17 rfl rfl)
theorem dX0_does_189 : decode cX0_does 189 = .ok (.ireturn, 1) := dk_172 (dk_at dksX0_does_7 20 rfl rfl)
theorem dX0_does_190 : decode cX0_does 190 = .ok (.aload_n 0, 1) := dk_42 (dk_at dksX0_does_7 21 rfl rfl)
theorem dX0_does_191 : decode cX0_does 191 = .ok (.aload_n 1, 1) := dk_43 (dk_at dksX0_does_7 22 rfl rfl)
theorem dX0_does_192 : decode cX0_does 192 = .ok (.invokevirtual 282, 3) := dk_182 1 26 (dk_at dksX0_does_8 0 rfl rfl)
theorem dX0_does_195 : decode cX0_does 195 = .ok (.invokevirtual 303, 3) := dk_182 1 47 (dk_at dksX0_does_8 3 rfl rfl)
theorem dX0_does_198 : decode cX0_does 198 = .ok (.iconst (-1), 1) := dk_2 (dk_at dksX0_does_8 6 rfl rfl)
theorem dX0_does_199 : decode cX0_does 199 = .ok (.if_icmp .eq 7, 3) := dk_159 0 7 (dk_at dksX0_does_8 7 rfl rfl)
theorem dX0_does_202 : decode cX0_does 202 = .ok (.iconst 1, 1) := dk_4 (dk_at dksX0_does_8 10 rfl rfl)
theorem dX0_does_203 : decode cX0_does 203 = .ok (.goto 4, 3) := dk_167 0 4 (dk_at dksX0_does_8 11 rfl rfl)
theorem dX0_does_206 : decode cX0_does 206 = .ok (.iconst 0, 1) := dk_3 (dk_at dksX0_does_8 14 rfl rfl)
theorem dX0_does_207 : decode cX0_does 207 = .ok (.ireturn, 1) := dk_172 (dk_at dksX0_does_8 15 rfl rfl)
theorem dX0_does_208 : decode cX0_does 208 = .ok (.aload_n 0, 1) := dk_42 (dk_at dksX0_does_8 16 rfl rfl)
theorem dX0_does_209 : decode cX0_does 209 = .ok (.aload_n 1, 1) := dk_43 (dk_at dksX0_does_8 17 rfl rfl)
theorem dX0_does_210 : decode cX0_does 210 = .ok (.invokevirtual 282, 3) := dk_182 1 26 (dk_at dksX0_does_8 18 rfl rfl)
theorem dX0_does_213 : decode cX0_does 213 = .ok (.invokevirtual 306, 3) := dk_182 1 50 (dk_at dksX0_does_8 21 rfl rfl)
theorem dX0_does_216 : decode cX0_does 216 = .ok (.ireturn, 1) := dk_172 (dk_at dksX0_does_9 0 rfl rfl)
def dkwX0_fromNought_1 : List UInt8 := [132, 2, 1, 167, 255, 238, 43, 176]
abbrev dktX0_fromNought_1 : List UInt8 := dkwX0_fromNought_1 ++ []
def dkwX0_fromNought_0 : List UInt8 := [42, 190, 188, 10, 76, 3, 61, 28, 43, 190, 162, 0, 18, 43, 28, 42, 28, 46, 16, 97, 100, 79]
abbrev dktX0_fromNought_0 : List UInt8 := dkwX0_fromNought_0 ++ dktX0_fromNought_1
theorem dksX0_fromNought_0 : cX0_fromNought.data.toList.drop 0 = dktX0_fromNought_0 := by decide +kernel
theorem dksX0_fromNought_1 : cX0_fromNought.data.toList.drop 22 = dktX0_fromNought_1 := dk_seg dksX0_fromNought_0 22 rfl rfl
theorem dX0_fromNought_0 : decode cX0_fromNought 0 = .ok (.aload_n 0, 1) := dk_42 (dk_at dksX0_fromNought_0 0 rfl rfl)
theorem dX0_fromNought_1 : decode cX0_fromNought 1 = .ok (.arraylength, 1) := dk_190 (dk_at dksX0_fromNought_0 1 rfl rfl)
theorem dX0_fromNought_2 : decode cX0_fromNought 2 = .ok (.newarray .int, 2) := dk_188_10 (dk_at dksX0_fromNought_0 2 rfl rfl)
theorem dX0_fromNought_4 : decode cX0_fromNought 4 = .ok (.astore_n 1, 1) := dk_76 (dk_at dksX0_fromNought_0 4 rfl rfl)
theorem dX0_fromNought_5 : decode cX0_fromNought 5 = .ok (.iconst 0, 1) := dk_3 (dk_at dksX0_fromNought_0 5 rfl rfl)
theorem dX0_fromNought_6 : decode cX0_fromNought 6 = .ok (.istore_n 2, 1) := dk_61 (dk_at dksX0_fromNought_0 6 rfl rfl)
theorem dX0_fromNought_7 : decode cX0_fromNought 7 = .ok (.iload_n 2, 1) := dk_28 (dk_at dksX0_fromNought_0 7 rfl rfl)
theorem dX0_fromNought_8 : decode cX0_fromNought 8 = .ok (.aload_n 1, 1) := dk_43 (dk_at dksX0_fromNought_0 8 rfl rfl)
theorem dX0_fromNought_9 : decode cX0_fromNought 9 = .ok (.arraylength, 1) := dk_190 (dk_at dksX0_fromNought_0 9 rfl rfl)
theorem dX0_fromNought_10 : decode cX0_fromNought 10 = .ok (.if_icmp .ge 18, 3) := dk_162 0 18 (dk_at dksX0_fromNought_0 10 rfl rfl)
theorem dX0_fromNought_13 : decode cX0_fromNought 13 = .ok (.aload_n 1, 1) := dk_43 (dk_at dksX0_fromNought_0 13 rfl rfl)
theorem dX0_fromNought_14 : decode cX0_fromNought 14 = .ok (.iload_n 2, 1) := dk_28 (dk_at dksX0_fromNought_0 14 rfl rfl)
theorem dX0_fromNought_15 : decode cX0_fromNought 15 = .ok (.aload_n 0, 1) := dk_42 (dk_at dksX0_fromNought_0 15 rfl rfl)
theorem dX0_fromNought_16 : decode cX0_fromNought 16 = .ok (.iload_n 2, 1) := dk_28 (dk_at dksX0_fromNought_0 16 rfl rfl)
theorem dX0_fromNought_17 : decode cX0_fromNought 17 = .ok (.iaload, 1) := dk_46 (dk_at dksX0_fromNought_0 17 rfl rfl)
theorem dX0_fromNought_18 : decode cX0_fromNought 18 = .ok (.bipush 97, 2) := dk_16 97 (dk_at dksX0_fromNought_0 18 rfl rfl)
theorem dX0_fromNought_20 : decode cX0_fromNought 20 = .ok (.isub, 1) := dk_100 (dk_at dksX0_fromNought_0 20 rfl rfl)
theorem dX0_fromNought_21 : decode cX0_fromNought 21 = .ok (.iastore, 1) := dk_79 (dk_at dksX0_fromNought_0 21 rfl rfl)
theorem dX0_fromNought_22 : decode cX0_fromNought 22 = .ok (.iinc 2 1, 3) := dk_132 2 1 (dk_at dksX0_fromNought_1 0 rfl rfl)
theorem dX0_fromNought_25 : decode cX0_fromNought 25 = .ok (.goto (-18), 3) := dk_167 255 238 (dk_at dksX0_fromNought_1 3 rfl rfl)
theorem dX0_fromNought_28 : decode cX0_fromNought 28 = .ok (.aload_n 1, 1) := dk_43 (dk_at dksX0_fromNought_1 6 rfl rfl)
theorem dX0_fromNought_29 : decode cX0_fromNought 29 = .ok (.areturn, 1) := dk_176 (dk_at dksX0_fromNought_1 7 rfl rfl)
def dkwX0_bitsOf_1 : List UInt8 := [21, 5, 16, 97, 100, 120, 128, 60, 132, 4, 1, 167, 255, 231, 27, 172]
abbrev dktX0_bitsOf_1 : List UInt8 := dkwX0_bitsOf_1 ++ []
def dkwX0_bitsOf_0 : List UInt8 := [3, 60, 42, 77, 44, 190, 62, 3, 54, 4, 21, 4, 29, 162, 0, 25, 44, 21, 4, 46, 54, 5, 27, 4]
abbrev dktX0_bitsOf_0 : List UInt8 := dkwX0_bitsOf_0 ++ dktX0_bitsOf_1
theorem dksX0_bitsOf_0 : cX0_bitsOf.data.toList.drop 0 = dktX0_bitsOf_0 := by decide +kernel
theorem dksX0_bitsOf_1 : cX0_bitsOf.data.toList.drop 24 = dktX0_bitsOf_1 := dk_seg dksX0_bitsOf_0 24 rfl rfl
theorem dX0_bitsOf_0 : decode cX0_bitsOf 0 = .ok (.iconst 0, 1) := dk_3 (dk_at dksX0_bitsOf_0 0 rfl rfl)
theorem dX0_bitsOf_1 : decode cX0_bitsOf 1 = .ok (.istore_n 1, 1) := dk_60 (dk_at dksX0_bitsOf_0 1 rfl rfl)
theorem dX0_bitsOf_2 : decode cX0_bitsOf 2 = .ok (.aload_n 0, 1) := dk_42 (dk_at dksX0_bitsOf_0 2 rfl rfl)
theorem dX0_bitsOf_3 : decode cX0_bitsOf 3 = .ok (.astore_n 2, 1) := dk_77 (dk_at dksX0_bitsOf_0 3 rfl rfl)
theorem dX0_bitsOf_4 : decode cX0_bitsOf 4 = .ok (.aload_n 2, 1) := dk_44 (dk_at dksX0_bitsOf_0 4 rfl rfl)
theorem dX0_bitsOf_5 : decode cX0_bitsOf 5 = .ok (.arraylength, 1) := dk_190 (dk_at dksX0_bitsOf_0 5 rfl rfl)
theorem dX0_bitsOf_6 : decode cX0_bitsOf 6 = .ok (.istore_n 3, 1) := dk_62 (dk_at dksX0_bitsOf_0 6 rfl rfl)
theorem dX0_bitsOf_7 : decode cX0_bitsOf 7 = .ok (.iconst 0, 1) := dk_3 (dk_at dksX0_bitsOf_0 7 rfl rfl)
theorem dX0_bitsOf_8 : decode cX0_bitsOf 8 = .ok (.istore 4, 2) := dk_54 4 (dk_at dksX0_bitsOf_0 8 rfl rfl)
theorem dX0_bitsOf_10 : decode cX0_bitsOf 10 = .ok (.iload 4, 2) := dk_21 4 (dk_at dksX0_bitsOf_0 10 rfl rfl)
theorem dX0_bitsOf_12 : decode cX0_bitsOf 12 = .ok (.iload_n 3, 1) := dk_29 (dk_at dksX0_bitsOf_0 12 rfl rfl)
theorem dX0_bitsOf_13 : decode cX0_bitsOf 13 = .ok (.if_icmp .ge 25, 3) := dk_162 0 25 (dk_at dksX0_bitsOf_0 13 rfl rfl)
theorem dX0_bitsOf_16 : decode cX0_bitsOf 16 = .ok (.aload_n 2, 1) := dk_44 (dk_at dksX0_bitsOf_0 16 rfl rfl)
theorem dX0_bitsOf_17 : decode cX0_bitsOf 17 = .ok (.iload 4, 2) := dk_21 4 (dk_at dksX0_bitsOf_0 17 rfl rfl)
theorem dX0_bitsOf_19 : decode cX0_bitsOf 19 = .ok (.iaload, 1) := dk_46 (dk_at dksX0_bitsOf_0 19 rfl rfl)
theorem dX0_bitsOf_20 : decode cX0_bitsOf 20 = .ok (.istore 5, 2) := dk_54 5 (dk_at dksX0_bitsOf_0 20 rfl rfl)
theorem dX0_bitsOf_22 : decode cX0_bitsOf 22 = .ok (.iload_n 1, 1) := dk_27 (dk_at dksX0_bitsOf_0 22 rfl rfl)
theorem dX0_bitsOf_23 : decode cX0_bitsOf 23 = .ok (.iconst 1, 1) := dk_4 (dk_at dksX0_bitsOf_0 23 rfl rfl)
theorem dX0_bitsOf_24 : decode cX0_bitsOf 24 = .ok (.iload 5, 2) := dk_21 5 (dk_at dksX0_bitsOf_1 0 rfl rfl)
theorem dX0_bitsOf_26 : decode cX0_bitsOf 26 = .ok (.bipush 97, 2) := dk_16 97 (dk_at dksX0_bitsOf_1 2 rfl rfl)
theorem dX0_bitsOf_28 : decode cX0_bitsOf 28 = .ok (.isub, 1) := dk_100 (dk_at dksX0_bitsOf_1 4 rfl rfl)
theorem dX0_bitsOf_29 : decode cX0_bitsOf 29 = .ok (.ishl, 1) := dk_120 (dk_at dksX0_bitsOf_1 5 rfl rfl)
theorem dX0_bitsOf_30 : decode cX0_bitsOf 30 = .ok (.ior, 1) := dk_128 (dk_at dksX0_bitsOf_1 6 rfl rfl)
theorem dX0_bitsOf_31 : decode cX0_bitsOf 31 = .ok (.istore_n 1, 1) := dk_60 (dk_at dksX0_bitsOf_1 7 rfl rfl)
theorem dX0_bitsOf_32 : decode cX0_bitsOf 32 = .ok (.iinc 4 1, 3) := dk_132 4 1 (dk_at dksX0_bitsOf_1 8 rfl rfl)
theorem dX0_bitsOf_35 : decode cX0_bitsOf 35 = .ok (.goto (-25), 3) := dk_167 255 231 (dk_at dksX0_bitsOf_1 11 rfl rfl)
theorem dX0_bitsOf_38 : decode cX0_bitsOf 38 = .ok (.iload_n 1, 1) := dk_27 (dk_at dksX0_bitsOf_1 14 rfl rfl)
theorem dX0_bitsOf_39 : decode cX0_bitsOf 39 = .ok (.ireturn, 1) := dk_172 (dk_at dksX0_bitsOf_1 15 rfl rfl)
def dkwX0_ties_3 : List UInt8 := [167, 255, 193, 29, 172]
abbrev dktX0_ties_3 : List UInt8 := dkwX0_ties_3 ++ []
def dkwX0_ties_2 : List UInt8 := [182, 1, 2, 153, 0, 7, 4, 167, 0, 4, 3, 128, 62, 132, 5, 1, 167, 255, 209, 132, 4, 1]
abbrev dktX0_ties_2 : List UInt8 := dkwX0_ties_2 ++ dktX0_ties_3
def dkwX0_ties_1 : List UInt8 := [21, 4, 184, 0, 77, 153, 0, 27, 28, 21, 5, 184, 0, 77, 153, 0, 18, 42, 21, 4, 21, 5]
abbrev dktX0_ties_1 : List UInt8 := dkwX0_ties_1 ++ dktX0_ties_2
def dkwX0_ties_0 : List UInt8 := [3, 62, 3, 54, 4, 21, 4, 16, 26, 162, 0, 62, 3, 54, 5, 21, 5, 16, 26, 162, 0, 46, 29, 27]
abbrev dktX0_ties_0 : List UInt8 := dkwX0_ties_0 ++ dktX0_ties_1
theorem dksX0_ties_0 : cX0_ties.data.toList.drop 0 = dktX0_ties_0 := by decide +kernel
theorem dksX0_ties_1 : cX0_ties.data.toList.drop 24 = dktX0_ties_1 := dk_seg dksX0_ties_0 24 rfl rfl
theorem dksX0_ties_2 : cX0_ties.data.toList.drop 46 = dktX0_ties_2 := dk_seg dksX0_ties_1 22 rfl rfl
theorem dksX0_ties_3 : cX0_ties.data.toList.drop 68 = dktX0_ties_3 := dk_seg dksX0_ties_2 22 rfl rfl
theorem dX0_ties_0 : decode cX0_ties 0 = .ok (.iconst 0, 1) := dk_3 (dk_at dksX0_ties_0 0 rfl rfl)
theorem dX0_ties_1 : decode cX0_ties 1 = .ok (.istore_n 3, 1) := dk_62 (dk_at dksX0_ties_0 1 rfl rfl)
theorem dX0_ties_2 : decode cX0_ties 2 = .ok (.iconst 0, 1) := dk_3 (dk_at dksX0_ties_0 2 rfl rfl)
theorem dX0_ties_3 : decode cX0_ties 3 = .ok (.istore 4, 2) := dk_54 4 (dk_at dksX0_ties_0 3 rfl rfl)
theorem dX0_ties_5 : decode cX0_ties 5 = .ok (.iload 4, 2) := dk_21 4 (dk_at dksX0_ties_0 5 rfl rfl)
theorem dX0_ties_7 : decode cX0_ties 7 = .ok (.bipush 26, 2) := dk_16 26 (dk_at dksX0_ties_0 7 rfl rfl)
theorem dX0_ties_9 : decode cX0_ties 9 = .ok (.if_icmp .ge 62, 3) := dk_162 0 62 (dk_at dksX0_ties_0 9 rfl rfl)
theorem dX0_ties_12 : decode cX0_ties 12 = .ok (.iconst 0, 1) := dk_3 (dk_at dksX0_ties_0 12 rfl rfl)
theorem dX0_ties_13 : decode cX0_ties 13 = .ok (.istore 5, 2) := dk_54 5 (dk_at dksX0_ties_0 13 rfl rfl)
theorem dX0_ties_15 : decode cX0_ties 15 = .ok (.iload 5, 2) := dk_21 5 (dk_at dksX0_ties_0 15 rfl rfl)
theorem dX0_ties_17 : decode cX0_ties 17 = .ok (.bipush 26, 2) := dk_16 26 (dk_at dksX0_ties_0 17 rfl rfl)
theorem dX0_ties_19 : decode cX0_ties 19 = .ok (.if_icmp .ge 46, 3) := dk_162 0 46 (dk_at dksX0_ties_0 19 rfl rfl)
theorem dX0_ties_22 : decode cX0_ties 22 = .ok (.iload_n 3, 1) := dk_29 (dk_at dksX0_ties_0 22 rfl rfl)
theorem dX0_ties_23 : decode cX0_ties 23 = .ok (.iload_n 1, 1) := dk_27 (dk_at dksX0_ties_0 23 rfl rfl)
theorem dX0_ties_24 : decode cX0_ties 24 = .ok (.iload 4, 2) := dk_21 4 (dk_at dksX0_ties_1 0 rfl rfl)
theorem dX0_ties_26 : decode cX0_ties 26 = .ok (.invokestatic 77, 3) := dk_184 0 77 (dk_at dksX0_ties_1 2 rfl rfl)
theorem dX0_ties_29 : decode cX0_ties 29 = .ok (.ifCond .eq 27, 3) := dk_153 0 27 (dk_at dksX0_ties_1 5 rfl rfl)
theorem dX0_ties_32 : decode cX0_ties 32 = .ok (.iload_n 2, 1) := dk_28 (dk_at dksX0_ties_1 8 rfl rfl)
theorem dX0_ties_33 : decode cX0_ties 33 = .ok (.iload 5, 2) := dk_21 5 (dk_at dksX0_ties_1 9 rfl rfl)
theorem dX0_ties_35 : decode cX0_ties 35 = .ok (.invokestatic 77, 3) := dk_184 0 77 (dk_at dksX0_ties_1 11 rfl rfl)
theorem dX0_ties_38 : decode cX0_ties 38 = .ok (.ifCond .eq 18, 3) := dk_153 0 18 (dk_at dksX0_ties_1 14 rfl rfl)
theorem dX0_ties_41 : decode cX0_ties 41 = .ok (.aload_n 0, 1) := dk_42 (dk_at dksX0_ties_1 17 rfl rfl)
theorem dX0_ties_42 : decode cX0_ties 42 = .ok (.iload 4, 2) := dk_21 4 (dk_at dksX0_ties_1 18 rfl rfl)
theorem dX0_ties_44 : decode cX0_ties 44 = .ok (.iload 5, 2) := dk_21 5 (dk_at dksX0_ties_1 20 rfl rfl)
theorem dX0_ties_46 : decode cX0_ties 46 = .ok (.invokevirtual 258, 3) := dk_182 1 2 (dk_at dksX0_ties_2 0 rfl rfl)
theorem dX0_ties_49 : decode cX0_ties 49 = .ok (.ifCond .eq 7, 3) := dk_153 0 7 (dk_at dksX0_ties_2 3 rfl rfl)
theorem dX0_ties_52 : decode cX0_ties 52 = .ok (.iconst 1, 1) := dk_4 (dk_at dksX0_ties_2 6 rfl rfl)
theorem dX0_ties_53 : decode cX0_ties 53 = .ok (.goto 4, 3) := dk_167 0 4 (dk_at dksX0_ties_2 7 rfl rfl)
theorem dX0_ties_56 : decode cX0_ties 56 = .ok (.iconst 0, 1) := dk_3 (dk_at dksX0_ties_2 10 rfl rfl)
theorem dX0_ties_57 : decode cX0_ties 57 = .ok (.ior, 1) := dk_128 (dk_at dksX0_ties_2 11 rfl rfl)
theorem dX0_ties_58 : decode cX0_ties 58 = .ok (.istore_n 3, 1) := dk_62 (dk_at dksX0_ties_2 12 rfl rfl)
theorem dX0_ties_59 : decode cX0_ties 59 = .ok (.iinc 5 1, 3) := dk_132 5 1 (dk_at dksX0_ties_2 13 rfl rfl)
theorem dX0_ties_62 : decode cX0_ties 62 = .ok (.goto (-47), 3) := dk_167 255 209 (dk_at dksX0_ties_2 16 rfl rfl)
theorem dX0_ties_65 : decode cX0_ties 65 = .ok (.iinc 4 1, 3) := dk_132 4 1 (dk_at dksX0_ties_2 19 rfl rfl)
theorem dX0_ties_68 : decode cX0_ties 68 = .ok (.goto (-63), 3) := dk_167 255 193 (dk_at dksX0_ties_3 0 rfl rfl)
theorem dX0_ties_71 : decode cX0_ties 71 = .ok (.iload_n 3, 1) := dk_29 (dk_at dksX0_ties_3 3 rfl rfl)
theorem dX0_ties_72 : decode cX0_ties 72 = .ok (.ireturn, 1) := dk_172 (dk_at dksX0_ties_3 4 rfl rfl)
def dkwX0_each_3 : List UInt8 := [167, 255, 192, 21, 4, 172]
abbrev dktX0_each_3 : List UInt8 := dkwX0_each_3 ++ []
def dkwX0_each_2 : List UInt8 := [184, 0, 225, 182, 1, 5, 167, 0, 10, 42, 21, 5, 29, 182, 1, 8, 128, 54, 4, 132, 5, 1]
abbrev dktX0_each_2 : List UInt8 := dkwX0_each_2 ++ dktX0_each_3
def dkwX0_each_1 : List UInt8 := [28, 153, 0, 32, 42, 21, 5, 16, 99, 42, 180, 0, 12, 180, 0, 149, 16, 29, 21, 5, 96, 46, 29, 96]
abbrev dktX0_each_1 : List UInt8 := dkwX0_each_1 ++ dktX0_each_2
def dkwX0_each_0 : List UInt8 := [3, 54, 4, 3, 54, 5, 21, 5, 16, 26, 162, 0, 63, 27, 21, 5, 184, 0, 77, 153, 0, 48, 21, 4]
abbrev dktX0_each_0 : List UInt8 := dkwX0_each_0 ++ dktX0_each_1
theorem dksX0_each_0 : cX0_each.data.toList.drop 0 = dktX0_each_0 := by decide +kernel
theorem dksX0_each_1 : cX0_each.data.toList.drop 24 = dktX0_each_1 := dk_seg dksX0_each_0 24 rfl rfl
theorem dksX0_each_2 : cX0_each.data.toList.drop 48 = dktX0_each_2 := dk_seg dksX0_each_1 24 rfl rfl
theorem dksX0_each_3 : cX0_each.data.toList.drop 70 = dktX0_each_3 := dk_seg dksX0_each_2 22 rfl rfl
theorem dX0_each_0 : decode cX0_each 0 = .ok (.iconst 0, 1) := dk_3 (dk_at dksX0_each_0 0 rfl rfl)
theorem dX0_each_1 : decode cX0_each 1 = .ok (.istore 4, 2) := dk_54 4 (dk_at dksX0_each_0 1 rfl rfl)
theorem dX0_each_3 : decode cX0_each 3 = .ok (.iconst 0, 1) := dk_3 (dk_at dksX0_each_0 3 rfl rfl)
theorem dX0_each_4 : decode cX0_each 4 = .ok (.istore 5, 2) := dk_54 5 (dk_at dksX0_each_0 4 rfl rfl)
theorem dX0_each_6 : decode cX0_each 6 = .ok (.iload 5, 2) := dk_21 5 (dk_at dksX0_each_0 6 rfl rfl)
theorem dX0_each_8 : decode cX0_each 8 = .ok (.bipush 26, 2) := dk_16 26 (dk_at dksX0_each_0 8 rfl rfl)
theorem dX0_each_10 : decode cX0_each 10 = .ok (.if_icmp .ge 63, 3) := dk_162 0 63 (dk_at dksX0_each_0 10 rfl rfl)
theorem dX0_each_13 : decode cX0_each 13 = .ok (.iload_n 1, 1) := dk_27 (dk_at dksX0_each_0 13 rfl rfl)
theorem dX0_each_14 : decode cX0_each 14 = .ok (.iload 5, 2) := dk_21 5 (dk_at dksX0_each_0 14 rfl rfl)
theorem dX0_each_16 : decode cX0_each 16 = .ok (.invokestatic 77, 3) := dk_184 0 77 (dk_at dksX0_each_0 16 rfl rfl)
theorem dX0_each_19 : decode cX0_each 19 = .ok (.ifCond .eq 48, 3) := dk_153 0 48 (dk_at dksX0_each_0 19 rfl rfl)
theorem dX0_each_22 : decode cX0_each 22 = .ok (.iload 4, 2) := dk_21 4 (dk_at dksX0_each_0 22 rfl rfl)
theorem dX0_each_24 : decode cX0_each 24 = .ok (.iload_n 2, 1) := dk_28 (dk_at dksX0_each_1 0 rfl rfl)
theorem dX0_each_25 : decode cX0_each 25 = .ok (.ifCond .eq 32, 3) := dk_153 0 32 (dk_at dksX0_each_1 1 rfl rfl)
theorem dX0_each_28 : decode cX0_each 28 = .ok (.aload_n 0, 1) := dk_42 (dk_at dksX0_each_1 4 rfl rfl)
theorem dX0_each_29 : decode cX0_each 29 = .ok (.iload 5, 2) := dk_21 5 (dk_at dksX0_each_1 5 rfl rfl)
theorem dX0_each_31 : decode cX0_each 31 = .ok (.bipush 99, 2) := dk_16 99 (dk_at dksX0_each_1 7 rfl rfl)
theorem dX0_each_33 : decode cX0_each 33 = .ok (.aload_n 0, 1) := dk_42 (dk_at dksX0_each_1 9 rfl rfl)
theorem dX0_each_34 : decode cX0_each 34 = .ok (.getfield 12, 3) := dk_180 0 12 (dk_at dksX0_each_1 10 rfl rfl)
theorem dX0_each_37 : decode cX0_each 37 = .ok (.getfield 149, 3) := dk_180 0 149 (dk_at dksX0_each_1 13 rfl rfl)
theorem dX0_each_40 : decode cX0_each 40 = .ok (.bipush 29, 2) := dk_16 29 (dk_at dksX0_each_1 16 rfl rfl)
theorem dX0_each_42 : decode cX0_each 42 = .ok (.iload 5, 2) := dk_21 5 (dk_at dksX0_each_1 18 rfl rfl)
theorem dX0_each_44 : decode cX0_each 44 = .ok (.iadd, 1) := dk_96 (dk_at dksX0_each_1 20 rfl rfl)
theorem dX0_each_45 : decode cX0_each 45 = .ok (.iaload, 1) := dk_46 (dk_at dksX0_each_1 21 rfl rfl)
theorem dX0_each_46 : decode cX0_each 46 = .ok (.iload_n 3, 1) := dk_29 (dk_at dksX0_each_1 22 rfl rfl)
theorem dX0_each_47 : decode cX0_each 47 = .ok (.iadd, 1) := dk_96 (dk_at dksX0_each_1 23 rfl rfl)
theorem dX0_each_48 : decode cX0_each 48 = .ok (.invokestatic 225, 3) := dk_184 0 225 (dk_at dksX0_each_2 0 rfl rfl)
theorem dX0_each_51 : decode cX0_each 51 = .ok (.invokevirtual 261, 3) := dk_182 1 5 (dk_at dksX0_each_2 3 rfl rfl)
theorem dX0_each_54 : decode cX0_each 54 = .ok (.goto 10, 3) := dk_167 0 10 (dk_at dksX0_each_2 6 rfl rfl)
theorem dX0_each_57 : decode cX0_each 57 = .ok (.aload_n 0, 1) := dk_42 (dk_at dksX0_each_2 9 rfl rfl)
theorem dX0_each_58 : decode cX0_each 58 = .ok (.iload 5, 2) := dk_21 5 (dk_at dksX0_each_2 10 rfl rfl)
theorem dX0_each_60 : decode cX0_each 60 = .ok (.iload_n 3, 1) := dk_29 (dk_at dksX0_each_2 12 rfl rfl)
theorem dX0_each_61 : decode cX0_each 61 = .ok (.invokevirtual 264, 3) := dk_182 1 8 (dk_at dksX0_each_2 13 rfl rfl)
theorem dX0_each_64 : decode cX0_each 64 = .ok (.ior, 1) := dk_128 (dk_at dksX0_each_2 16 rfl rfl)
theorem dX0_each_65 : decode cX0_each 65 = .ok (.istore 4, 2) := dk_54 4 (dk_at dksX0_each_2 17 rfl rfl)
theorem dX0_each_67 : decode cX0_each 67 = .ok (.iinc 5 1, 3) := dk_132 5 1 (dk_at dksX0_each_2 19 rfl rfl)
theorem dX0_each_70 : decode cX0_each 70 = .ok (.goto (-64), 3) := dk_167 255 192 (dk_at dksX0_each_3 0 rfl rfl)
theorem dX0_each_73 : decode cX0_each 73 = .ok (.iload 4, 2) := dk_21 4 (dk_at dksX0_each_3 3 rfl rfl)
theorem dX0_each_75 : decode cX0_each 75 = .ok (.ireturn, 1) := dk_172 (dk_at dksX0_each_3 5 rfl rfl)
def dkwX0_mornings_2_1 : List UInt8 := [182, 1, 11, 87, 28, 27, 160, 0, 7, 4, 167, 0, 4, 3, 172]
abbrev dktX0_mornings_2_1 : List UInt8 := dkwX0_mornings_2_1 ++ []
def dkwX0_mornings_2_0 : List UInt8 := [27, 17, 3, 231, 42, 180, 0, 12, 180, 0, 149, 4, 46, 100, 184, 0, 225, 61, 28, 158, 0, 9, 42, 28]
abbrev dktX0_mornings_2_0 : List UInt8 := dkwX0_mornings_2_0 ++ dktX0_mornings_2_1
theorem dksX0_mornings_2_0 : cX0_mornings_2.data.toList.drop 0 = dktX0_mornings_2_0 := by decide +kernel
theorem dksX0_mornings_2_1 : cX0_mornings_2.data.toList.drop 24 = dktX0_mornings_2_1 := dk_seg dksX0_mornings_2_0 24 rfl rfl
theorem dX0_mornings_2_0 : decode cX0_mornings_2 0 = .ok (.iload_n 1, 1) := dk_27 (dk_at dksX0_mornings_2_0 0 rfl rfl)
theorem dX0_mornings_2_1 : decode cX0_mornings_2 1 = .ok (.sipush 999, 3) := dk_17 3 231 (dk_at dksX0_mornings_2_0 1 rfl rfl)
theorem dX0_mornings_2_4 : decode cX0_mornings_2 4 = .ok (.aload_n 0, 1) := dk_42 (dk_at dksX0_mornings_2_0 4 rfl rfl)
theorem dX0_mornings_2_5 : decode cX0_mornings_2 5 = .ok (.getfield 12, 3) := dk_180 0 12 (dk_at dksX0_mornings_2_0 5 rfl rfl)
theorem dX0_mornings_2_8 : decode cX0_mornings_2 8 = .ok (.getfield 149, 3) := dk_180 0 149 (dk_at dksX0_mornings_2_0 8 rfl rfl)
theorem dX0_mornings_2_11 : decode cX0_mornings_2 11 = .ok (.iconst 1, 1) := dk_4 (dk_at dksX0_mornings_2_0 11 rfl rfl)
theorem dX0_mornings_2_12 : decode cX0_mornings_2 12 = .ok (.iaload, 1) := dk_46 (dk_at dksX0_mornings_2_0 12 rfl rfl)
theorem dX0_mornings_2_13 : decode cX0_mornings_2 13 = .ok (.isub, 1) := dk_100 (dk_at dksX0_mornings_2_0 13 rfl rfl)
theorem dX0_mornings_2_14 : decode cX0_mornings_2 14 = .ok (.invokestatic 225, 3) := dk_184 0 225 (dk_at dksX0_mornings_2_0 14 rfl rfl)
theorem dX0_mornings_2_17 : decode cX0_mornings_2 17 = .ok (.istore_n 2, 1) := dk_61 (dk_at dksX0_mornings_2_0 17 rfl rfl)
theorem dX0_mornings_2_18 : decode cX0_mornings_2 18 = .ok (.iload_n 2, 1) := dk_28 (dk_at dksX0_mornings_2_0 18 rfl rfl)
theorem dX0_mornings_2_19 : decode cX0_mornings_2 19 = .ok (.ifCond .le 9, 3) := dk_158 0 9 (dk_at dksX0_mornings_2_0 19 rfl rfl)
theorem dX0_mornings_2_22 : decode cX0_mornings_2 22 = .ok (.aload_n 0, 1) := dk_42 (dk_at dksX0_mornings_2_0 22 rfl rfl)
theorem dX0_mornings_2_23 : decode cX0_mornings_2 23 = .ok (.iload_n 2, 1) := dk_28 (dk_at dksX0_mornings_2_0 23 rfl rfl)
theorem dX0_mornings_2_24 : decode cX0_mornings_2 24 = .ok (.invokevirtual 267, 3) := dk_182 1 11 (dk_at dksX0_mornings_2_1 0 rfl rfl)
theorem dX0_mornings_2_27 : decode cX0_mornings_2 27 = .ok (.pop, 1) := dk_87 (dk_at dksX0_mornings_2_1 3 rfl rfl)
theorem dX0_mornings_2_28 : decode cX0_mornings_2 28 = .ok (.iload_n 2, 1) := dk_28 (dk_at dksX0_mornings_2_1 4 rfl rfl)
theorem dX0_mornings_2_29 : decode cX0_mornings_2 29 = .ok (.iload_n 1, 1) := dk_27 (dk_at dksX0_mornings_2_1 5 rfl rfl)
theorem dX0_mornings_2_30 : decode cX0_mornings_2 30 = .ok (.if_icmp .ne 7, 3) := dk_160 0 7 (dk_at dksX0_mornings_2_1 6 rfl rfl)
theorem dX0_mornings_2_33 : decode cX0_mornings_2 33 = .ok (.iconst 1, 1) := dk_4 (dk_at dksX0_mornings_2_1 9 rfl rfl)
theorem dX0_mornings_2_34 : decode cX0_mornings_2 34 = .ok (.goto 4, 3) := dk_167 0 4 (dk_at dksX0_mornings_2_1 10 rfl rfl)
theorem dX0_mornings_2_37 : decode cX0_mornings_2 37 = .ok (.iconst 0, 1) := dk_3 (dk_at dksX0_mornings_2_1 13 rfl rfl)
theorem dX0_mornings_2_38 : decode cX0_mornings_2 38 = .ok (.ireturn, 1) := dk_172 (dk_at dksX0_mornings_2_1 14 rfl rfl)
def dkwX0_year_4 : List UInt8 := [42, 182, 0, 158, 172]
abbrev dktX0_year_4 : List UInt8 := dkwX0_year_4 ++ []
def dkwX0_year_3 : List UInt8 := [21, 4, 42, 180, 0, 12, 180, 0, 149, 5, 46, 182, 1, 75, 42, 182, 1, 72, 132, 3, 1, 167, 255, 211]
abbrev dktX0_year_3 : List UInt8 := dkwX0_year_3 ++ dktX0_year_4
def dkwX0_year_2 : List UInt8 := [28, 162, 0, 46, 42, 180, 0, 12, 180, 0, 149, 5, 46, 16, 26, 112, 54, 4, 42, 182, 1, 72, 42]
abbrev dktX0_year_2 : List UInt8 := dkwX0_year_2 ++ dktX0_year_3
def dkwX0_year_1 : List UInt8 := [180, 0, 12, 182, 0, 228, 42, 180, 0, 12, 180, 0, 149, 5, 27, 8, 104, 16, 17, 96, 79, 3, 62, 29]
abbrev dktX0_year_1 : List UInt8 := dkwX0_year_1 ++ dktX0_year_2
def dkwX0_year_0 : List UInt8 := [27, 3, 17, 39, 15, 184, 0, 62, 153, 0, 13, 28, 4, 16, 40, 184, 0, 62, 154, 0, 5, 2, 172, 42]
abbrev dktX0_year_0 : List UInt8 := dkwX0_year_0 ++ dktX0_year_1
theorem dksX0_year_0 : cX0_year.data.toList.drop 0 = dktX0_year_0 := by decide +kernel
theorem dksX0_year_1 : cX0_year.data.toList.drop 24 = dktX0_year_1 := dk_seg dksX0_year_0 24 rfl rfl
theorem dksX0_year_2 : cX0_year.data.toList.drop 48 = dktX0_year_2 := dk_seg dksX0_year_1 24 rfl rfl
theorem dksX0_year_3 : cX0_year.data.toList.drop 71 = dktX0_year_3 := dk_seg dksX0_year_2 23 rfl rfl
theorem dksX0_year_4 : cX0_year.data.toList.drop 95 = dktX0_year_4 := dk_seg dksX0_year_3 24 rfl rfl
theorem dX0_year_0 : decode cX0_year 0 = .ok (.iload_n 1, 1) := dk_27 (dk_at dksX0_year_0 0 rfl rfl)
theorem dX0_year_1 : decode cX0_year 1 = .ok (.iconst 0, 1) := dk_3 (dk_at dksX0_year_0 1 rfl rfl)
theorem dX0_year_2 : decode cX0_year 2 = .ok (.sipush 9999, 3) := dk_17 39 15 (dk_at dksX0_year_0 2 rfl rfl)
theorem dX0_year_5 : decode cX0_year 5 = .ok (.invokestatic 62, 3) := dk_184 0 62 (dk_at dksX0_year_0 5 rfl rfl)
theorem dX0_year_8 : decode cX0_year 8 = .ok (.ifCond .eq 13, 3) := dk_153 0 13 (dk_at dksX0_year_0 8 rfl rfl)
theorem dX0_year_11 : decode cX0_year 11 = .ok (.iload_n 2, 1) := dk_28 (dk_at dksX0_year_0 11 rfl rfl)
theorem dX0_year_12 : decode cX0_year 12 = .ok (.iconst 1, 1) := dk_4 (dk_at dksX0_year_0 12 rfl rfl)
theorem dX0_year_13 : decode cX0_year 13 = .ok (.bipush 40, 2) := dk_16 40 (dk_at dksX0_year_0 13 rfl rfl)
theorem dX0_year_15 : decode cX0_year 15 = .ok (.invokestatic 62, 3) := dk_184 0 62 (dk_at dksX0_year_0 15 rfl rfl)
theorem dX0_year_18 : decode cX0_year 18 = .ok (.ifCond .ne 5, 3) := dk_154 0 5 (dk_at dksX0_year_0 18 rfl rfl)
theorem dX0_year_21 : decode cX0_year 21 = .ok (.iconst (-1), 1) := dk_2 (dk_at dksX0_year_0 21 rfl rfl)
theorem dX0_year_22 : decode cX0_year 22 = .ok (.ireturn, 1) := dk_172 (dk_at dksX0_year_0 22 rfl rfl)
theorem dX0_year_23 : decode cX0_year 23 = .ok (.aload_n 0, 1) := dk_42 (dk_at dksX0_year_0 23 rfl rfl)
theorem dX0_year_24 : decode cX0_year 24 = .ok (.getfield 12, 3) := dk_180 0 12 (dk_at dksX0_year_1 0 rfl rfl)
theorem dX0_year_27 : decode cX0_year 27 = .ok (.invokevirtual 228, 3) := dk_182 0 228 (dk_at dksX0_year_1 3 rfl rfl)
theorem dX0_year_30 : decode cX0_year 30 = .ok (.aload_n 0, 1) := dk_42 (dk_at dksX0_year_1 6 rfl rfl)
theorem dX0_year_31 : decode cX0_year 31 = .ok (.getfield 12, 3) := dk_180 0 12 (dk_at dksX0_year_1 7 rfl rfl)
theorem dX0_year_34 : decode cX0_year 34 = .ok (.getfield 149, 3) := dk_180 0 149 (dk_at dksX0_year_1 10 rfl rfl)
theorem dX0_year_37 : decode cX0_year 37 = .ok (.iconst 2, 1) := dk_5 (dk_at dksX0_year_1 13 rfl rfl)
theorem dX0_year_38 : decode cX0_year 38 = .ok (.iload_n 1, 1) := dk_27 (dk_at dksX0_year_1 14 rfl rfl)
theorem dX0_year_39 : decode cX0_year 39 = .ok (.iconst 5, 1) := dk_8 (dk_at dksX0_year_1 15 rfl rfl)
theorem dX0_year_40 : decode cX0_year 40 = .ok (.imul, 1) := dk_104 (dk_at dksX0_year_1 16 rfl rfl)
theorem dX0_year_41 : decode cX0_year 41 = .ok (.bipush 17, 2) := dk_16 17 (dk_at dksX0_year_1 17 rfl rfl)
theorem dX0_year_43 : decode cX0_year 43 = .ok (.iadd, 1) := dk_96 (dk_at dksX0_year_1 19 rfl rfl)
theorem dX0_year_44 : decode cX0_year 44 = .ok (.iastore, 1) := dk_79 (dk_at dksX0_year_1 20 rfl rfl)
theorem dX0_year_45 : decode cX0_year 45 = .ok (.iconst 0, 1) := dk_3 (dk_at dksX0_year_1 21 rfl rfl)
theorem dX0_year_46 : decode cX0_year 46 = .ok (.istore_n 3, 1) := dk_62 (dk_at dksX0_year_1 22 rfl rfl)
theorem dX0_year_47 : decode cX0_year 47 = .ok (.iload_n 3, 1) := dk_29 (dk_at dksX0_year_1 23 rfl rfl)
theorem dX0_year_48 : decode cX0_year 48 = .ok (.iload_n 2, 1) := dk_28 (dk_at dksX0_year_2 0 rfl rfl)
theorem dX0_year_49 : decode cX0_year 49 = .ok (.if_icmp .ge 46, 3) := dk_162 0 46 (dk_at dksX0_year_2 1 rfl rfl)
theorem dX0_year_52 : decode cX0_year 52 = .ok (.aload_n 0, 1) := dk_42 (dk_at dksX0_year_2 4 rfl rfl)
theorem dX0_year_53 : decode cX0_year 53 = .ok (.getfield 12, 3) := dk_180 0 12 (dk_at dksX0_year_2 5 rfl rfl)
theorem dX0_year_56 : decode cX0_year 56 = .ok (.getfield 149, 3) := dk_180 0 149 (dk_at dksX0_year_2 8 rfl rfl)
theorem dX0_year_59 : decode cX0_year 59 = .ok (.iconst 2, 1) := dk_5 (dk_at dksX0_year_2 11 rfl rfl)
theorem dX0_year_60 : decode cX0_year 60 = .ok (.iaload, 1) := dk_46 (dk_at dksX0_year_2 12 rfl rfl)
theorem dX0_year_61 : decode cX0_year 61 = .ok (.bipush 26, 2) := dk_16 26 (dk_at dksX0_year_2 13 rfl rfl)
theorem dX0_year_63 : decode cX0_year 63 = .ok (.irem, 1) := dk_112 (dk_at dksX0_year_2 15 rfl rfl)
theorem dX0_year_64 : decode cX0_year 64 = .ok (.istore 4, 2) := dk_54 4 (dk_at dksX0_year_2 16 rfl rfl)
theorem dX0_year_66 : decode cX0_year 66 = .ok (.aload_n 0, 1) := dk_42 (dk_at dksX0_year_2 18 rfl rfl)
theorem dX0_year_67 : decode cX0_year 67 = .ok (.invokevirtual 328, 3) := dk_182 1 72 (dk_at dksX0_year_2 19 rfl rfl)
theorem dX0_year_70 : decode cX0_year 70 = .ok (.aload_n 0, 1) := dk_42 (dk_at dksX0_year_2 22 rfl rfl)
theorem dX0_year_71 : decode cX0_year 71 = .ok (.iload 4, 2) := dk_21 4 (dk_at dksX0_year_3 0 rfl rfl)
theorem dX0_year_73 : decode cX0_year 73 = .ok (.aload_n 0, 1) := dk_42 (dk_at dksX0_year_3 2 rfl rfl)
theorem dX0_year_74 : decode cX0_year 74 = .ok (.getfield 12, 3) := dk_180 0 12 (dk_at dksX0_year_3 3 rfl rfl)
theorem dX0_year_77 : decode cX0_year 77 = .ok (.getfield 149, 3) := dk_180 0 149 (dk_at dksX0_year_3 6 rfl rfl)
theorem dX0_year_80 : decode cX0_year 80 = .ok (.iconst 2, 1) := dk_5 (dk_at dksX0_year_3 9 rfl rfl)
theorem dX0_year_81 : decode cX0_year 81 = .ok (.iaload, 1) := dk_46 (dk_at dksX0_year_3 10 rfl rfl)
theorem dX0_year_82 : decode cX0_year 82 = .ok (.invokevirtual 331, 3) := dk_182 1 75 (dk_at dksX0_year_3 11 rfl rfl)
theorem dX0_year_85 : decode cX0_year 85 = .ok (.aload_n 0, 1) := dk_42 (dk_at dksX0_year_3 14 rfl rfl)
theorem dX0_year_86 : decode cX0_year 86 = .ok (.invokevirtual 328, 3) := dk_182 1 72 (dk_at dksX0_year_3 15 rfl rfl)
theorem dX0_year_89 : decode cX0_year 89 = .ok (.iinc 3 1, 3) := dk_132 3 1 (dk_at dksX0_year_3 18 rfl rfl)
theorem dX0_year_92 : decode cX0_year 92 = .ok (.goto (-45), 3) := dk_167 255 211 (dk_at dksX0_year_3 21 rfl rfl)
theorem dX0_year_95 : decode cX0_year 95 = .ok (.aload_n 0, 1) := dk_42 (dk_at dksX0_year_4 0 rfl rfl)
theorem dX0_year_96 : decode cX0_year 96 = .ok (.invokevirtual 158, 3) := dk_182 0 158 (dk_at dksX0_year_4 1 rfl rfl)
theorem dX0_year_99 : decode cX0_year 99 = .ok (.ireturn, 1) := dk_172 (dk_at dksX0_year_4 4 rfl rfl)
def dkwX0_draws_1 : List UInt8 := [17, 117, 187, 112, 79, 177]
abbrev dktX0_draws_1 : List UInt8 := dkwX0_draws_1 ++ []
def dkwX0_draws_0 : List UInt8 := [42, 180, 0, 12, 180, 0, 149, 5, 42, 180, 0, 12, 180, 0, 149, 5, 46, 17, 0, 211, 104, 16, 97, 96]
abbrev dktX0_draws_0 : List UInt8 := dkwX0_draws_0 ++ dktX0_draws_1
theorem dksX0_draws_0 : cX0_draws.data.toList.drop 0 = dktX0_draws_0 := by decide +kernel
theorem dksX0_draws_1 : cX0_draws.data.toList.drop 24 = dktX0_draws_1 := dk_seg dksX0_draws_0 24 rfl rfl
theorem dX0_draws_0 : decode cX0_draws 0 = .ok (.aload_n 0, 1) := dk_42 (dk_at dksX0_draws_0 0 rfl rfl)
theorem dX0_draws_1 : decode cX0_draws 1 = .ok (.getfield 12, 3) := dk_180 0 12 (dk_at dksX0_draws_0 1 rfl rfl)
theorem dX0_draws_4 : decode cX0_draws 4 = .ok (.getfield 149, 3) := dk_180 0 149 (dk_at dksX0_draws_0 4 rfl rfl)
theorem dX0_draws_7 : decode cX0_draws 7 = .ok (.iconst 2, 1) := dk_5 (dk_at dksX0_draws_0 7 rfl rfl)
theorem dX0_draws_8 : decode cX0_draws 8 = .ok (.aload_n 0, 1) := dk_42 (dk_at dksX0_draws_0 8 rfl rfl)
theorem dX0_draws_9 : decode cX0_draws 9 = .ok (.getfield 12, 3) := dk_180 0 12 (dk_at dksX0_draws_0 9 rfl rfl)
theorem dX0_draws_12 : decode cX0_draws 12 = .ok (.getfield 149, 3) := dk_180 0 149 (dk_at dksX0_draws_0 12 rfl rfl)
theorem dX0_draws_15 : decode cX0_draws 15 = .ok (.iconst 2, 1) := dk_5 (dk_at dksX0_draws_0 15 rfl rfl)
theorem dX0_draws_16 : decode cX0_draws 16 = .ok (.iaload, 1) := dk_46 (dk_at dksX0_draws_0 16 rfl rfl)
theorem dX0_draws_17 : decode cX0_draws 17 = .ok (.sipush 211, 3) := dk_17 0 211 (dk_at dksX0_draws_0 17 rfl rfl)
theorem dX0_draws_20 : decode cX0_draws 20 = .ok (.imul, 1) := dk_104 (dk_at dksX0_draws_0 20 rfl rfl)
theorem dX0_draws_21 : decode cX0_draws 21 = .ok (.bipush 97, 2) := dk_16 97 (dk_at dksX0_draws_0 21 rfl rfl)
theorem dX0_draws_23 : decode cX0_draws 23 = .ok (.iadd, 1) := dk_96 (dk_at dksX0_draws_0 23 rfl rfl)
theorem dX0_draws_24 : decode cX0_draws 24 = .ok (.sipush 30139, 3) := dk_17 117 187 (dk_at dksX0_draws_1 0 rfl rfl)
theorem dX0_draws_27 : decode cX0_draws 27 = .ok (.irem, 1) := dk_112 (dk_at dksX0_draws_1 3 rfl rfl)
theorem dX0_draws_28 : decode cX0_draws 28 = .ok (.iastore, 1) := dk_79 (dk_at dksX0_draws_1 4 rfl rfl)
theorem dX0_draws_29 : decode cX0_draws 29 = .ok (.return_, 1) := dk_177 (dk_at dksX0_draws_1 5 rfl rfl)
def dkwX0_happens_5 : List UInt8 := [4, 46, 17, 3, 231, 162, 0, 7, 42, 182, 0, 231, 177]
abbrev dktX0_happens_5 : List UInt8 := dkwX0_happens_5 ++ []
def dkwX0_happens_4 : List UInt8 := [180, 0, 149, 16, 55, 27, 96, 28, 16, 11, 112, 4, 100, 79, 167, 0, 22, 42, 180, 0, 12, 180, 0, 149]
abbrev dktX0_happens_4 : List UInt8 := dkwX0_happens_4 ++ dktX0_happens_5
def dkwX0_happens_3 : List UInt8 := [46, 4, 96, 184, 0, 225, 79, 167, 0, 53, 42, 4, 27, 120, 182, 0, 234, 167, 0, 43, 42, 180, 0, 12]
abbrev dktX0_happens_3 : List UInt8 := dkwX0_happens_3 ++ dktX0_happens_4
def dkwX0_happens_2 : List UInt8 := [42, 180, 0, 12, 180, 0, 149, 16, 29, 27, 96, 16, 99, 42, 180, 0, 12, 180, 0, 149, 16, 29, 27, 96]
abbrev dktX0_happens_2 : List UInt8 := dkwX0_happens_2 ++ dktX0_happens_3
def dkwX0_happens_1 : List UInt8 := [170, 0, 0, 0, 90, 0, 0, 0, 0, 0, 0, 0, 2, 0, 0, 0, 25, 0, 0, 0, 59, 0, 0, 0, 69]
abbrev dktX0_happens_1 : List UInt8 := dkwX0_happens_1 ++ dktX0_happens_2
def dkwX0_happens_0 : List UInt8 := [28, 7, 112]
abbrev dktX0_happens_0 : List UInt8 := dkwX0_happens_0 ++ dktX0_happens_1
theorem dksX0_happens_0 : cX0_happens.data.toList.drop 0 = dktX0_happens_0 := by decide +kernel
theorem dksX0_happens_1 : cX0_happens.data.toList.drop 3 = dktX0_happens_1 := dk_seg dksX0_happens_0 3 rfl rfl
theorem dksX0_happens_2 : cX0_happens.data.toList.drop 28 = dktX0_happens_2 := dk_seg dksX0_happens_1 25 rfl rfl
theorem dksX0_happens_3 : cX0_happens.data.toList.drop 52 = dktX0_happens_3 := dk_seg dksX0_happens_2 24 rfl rfl
theorem dksX0_happens_4 : cX0_happens.data.toList.drop 76 = dktX0_happens_4 := dk_seg dksX0_happens_3 24 rfl rfl
theorem dksX0_happens_5 : cX0_happens.data.toList.drop 100 = dktX0_happens_5 := dk_seg dksX0_happens_4 24 rfl rfl
theorem dX0_happens_0 : decode cX0_happens 0 = .ok (.iload_n 2, 1) := dk_28 (dk_at dksX0_happens_0 0 rfl rfl)
theorem dX0_happens_1 : decode cX0_happens 1 = .ok (.iconst 4, 1) := dk_7 (dk_at dksX0_happens_0 1 rfl rfl)
theorem dX0_happens_2 : decode cX0_happens 2 = .ok (.irem, 1) := dk_112 (dk_at dksX0_happens_0 2 rfl rfl)
theorem dX0_happens_3 : decode cX0_happens 3 = .ok (.tableswitch 90 0 2 #[25, 59, 69], 25) := by decide +kernel
theorem dX0_happens_28 : decode cX0_happens 28 = .ok (.aload_n 0, 1) := dk_42 (dk_at dksX0_happens_2 0 rfl rfl)
theorem dX0_happens_29 : decode cX0_happens 29 = .ok (.getfield 12, 3) := dk_180 0 12 (dk_at dksX0_happens_2 1 rfl rfl)
theorem dX0_happens_32 : decode cX0_happens 32 = .ok (.getfield 149, 3) := dk_180 0 149 (dk_at dksX0_happens_2 4 rfl rfl)
theorem dX0_happens_35 : decode cX0_happens 35 = .ok (.bipush 29, 2) := dk_16 29 (dk_at dksX0_happens_2 7 rfl rfl)
theorem dX0_happens_37 : decode cX0_happens 37 = .ok (.iload_n 1, 1) := dk_27 (dk_at dksX0_happens_2 9 rfl rfl)
theorem dX0_happens_38 : decode cX0_happens 38 = .ok (.iadd, 1) := dk_96 (dk_at dksX0_happens_2 10 rfl rfl)
theorem dX0_happens_39 : decode cX0_happens 39 = .ok (.bipush 99, 2) := dk_16 99 (dk_at dksX0_happens_2 11 rfl rfl)
theorem dX0_happens_41 : decode cX0_happens 41 = .ok (.aload_n 0, 1) := dk_42 (dk_at dksX0_happens_2 13 rfl rfl)
theorem dX0_happens_42 : decode cX0_happens 42 = .ok (.getfield 12, 3) := dk_180 0 12 (dk_at dksX0_happens_2 14 rfl rfl)
theorem dX0_happens_45 : decode cX0_happens 45 = .ok (.getfield 149, 3) := dk_180 0 149 (dk_at dksX0_happens_2 17 rfl rfl)
theorem dX0_happens_48 : decode cX0_happens 48 = .ok (.bipush 29, 2) := dk_16 29 (dk_at dksX0_happens_2 20 rfl rfl)
theorem dX0_happens_50 : decode cX0_happens 50 = .ok (.iload_n 1, 1) := dk_27 (dk_at dksX0_happens_2 22 rfl rfl)
theorem dX0_happens_51 : decode cX0_happens 51 = .ok (.iadd, 1) := dk_96 (dk_at dksX0_happens_2 23 rfl rfl)
theorem dX0_happens_52 : decode cX0_happens 52 = .ok (.iaload, 1) := dk_46 (dk_at dksX0_happens_3 0 rfl rfl)
theorem dX0_happens_53 : decode cX0_happens 53 = .ok (.iconst 1, 1) := dk_4 (dk_at dksX0_happens_3 1 rfl rfl)
theorem dX0_happens_54 : decode cX0_happens 54 = .ok (.iadd, 1) := dk_96 (dk_at dksX0_happens_3 2 rfl rfl)
theorem dX0_happens_55 : decode cX0_happens 55 = .ok (.invokestatic 225, 3) := dk_184 0 225 (dk_at dksX0_happens_3 3 rfl rfl)
theorem dX0_happens_58 : decode cX0_happens 58 = .ok (.iastore, 1) := dk_79 (dk_at dksX0_happens_3 6 rfl rfl)
theorem dX0_happens_59 : decode cX0_happens 59 = .ok (.goto 53, 3) := dk_167 0 53 (dk_at dksX0_happens_3 7 rfl rfl)
theorem dX0_happens_62 : decode cX0_happens 62 = .ok (.aload_n 0, 1) := dk_42 (dk_at dksX0_happens_3 10 rfl rfl)
theorem dX0_happens_63 : decode cX0_happens 63 = .ok (.iconst 1, 1) := dk_4 (dk_at dksX0_happens_3 11 rfl rfl)
theorem dX0_happens_64 : decode cX0_happens 64 = .ok (.iload_n 1, 1) := dk_27 (dk_at dksX0_happens_3 12 rfl rfl)
theorem dX0_happens_65 : decode cX0_happens 65 = .ok (.ishl, 1) := dk_120 (dk_at dksX0_happens_3 13 rfl rfl)
theorem dX0_happens_66 : decode cX0_happens 66 = .ok (.invokevirtual 234, 3) := dk_182 0 234 (dk_at dksX0_happens_3 14 rfl rfl)
theorem dX0_happens_69 : decode cX0_happens 69 = .ok (.goto 43, 3) := dk_167 0 43 (dk_at dksX0_happens_3 17 rfl rfl)
theorem dX0_happens_72 : decode cX0_happens 72 = .ok (.aload_n 0, 1) := dk_42 (dk_at dksX0_happens_3 20 rfl rfl)
theorem dX0_happens_73 : decode cX0_happens 73 = .ok (.getfield 12, 3) := dk_180 0 12 (dk_at dksX0_happens_3 21 rfl rfl)
theorem dX0_happens_76 : decode cX0_happens 76 = .ok (.getfield 149, 3) := dk_180 0 149 (dk_at dksX0_happens_4 0 rfl rfl)
theorem dX0_happens_79 : decode cX0_happens 79 = .ok (.bipush 55, 2) := dk_16 55 (dk_at dksX0_happens_4 3 rfl rfl)
theorem dX0_happens_81 : decode cX0_happens 81 = .ok (.iload_n 1, 1) := dk_27 (dk_at dksX0_happens_4 5 rfl rfl)
theorem dX0_happens_82 : decode cX0_happens 82 = .ok (.iadd, 1) := dk_96 (dk_at dksX0_happens_4 6 rfl rfl)
theorem dX0_happens_83 : decode cX0_happens 83 = .ok (.iload_n 2, 1) := dk_28 (dk_at dksX0_happens_4 7 rfl rfl)
theorem dX0_happens_84 : decode cX0_happens 84 = .ok (.bipush 11, 2) := dk_16 11 (dk_at dksX0_happens_4 8 rfl rfl)
theorem dX0_happens_86 : decode cX0_happens 86 = .ok (.irem, 1) := dk_112 (dk_at dksX0_happens_4 10 rfl rfl)
theorem dX0_happens_87 : decode cX0_happens 87 = .ok (.iconst 1, 1) := dk_4 (dk_at dksX0_happens_4 11 rfl rfl)
theorem dX0_happens_88 : decode cX0_happens 88 = .ok (.isub, 1) := dk_100 (dk_at dksX0_happens_4 12 rfl rfl)
theorem dX0_happens_89 : decode cX0_happens 89 = .ok (.iastore, 1) := dk_79 (dk_at dksX0_happens_4 13 rfl rfl)
theorem dX0_happens_90 : decode cX0_happens 90 = .ok (.goto 22, 3) := dk_167 0 22 (dk_at dksX0_happens_4 14 rfl rfl)
theorem dX0_happens_93 : decode cX0_happens 93 = .ok (.aload_n 0, 1) := dk_42 (dk_at dksX0_happens_4 17 rfl rfl)
theorem dX0_happens_94 : decode cX0_happens 94 = .ok (.getfield 12, 3) := dk_180 0 12 (dk_at dksX0_happens_4 18 rfl rfl)
theorem dX0_happens_97 : decode cX0_happens 97 = .ok (.getfield 149, 3) := dk_180 0 149 (dk_at dksX0_happens_4 21 rfl rfl)
theorem dX0_happens_100 : decode cX0_happens 100 = .ok (.iconst 1, 1) := dk_4 (dk_at dksX0_happens_5 0 rfl rfl)
theorem dX0_happens_101 : decode cX0_happens 101 = .ok (.iaload, 1) := dk_46 (dk_at dksX0_happens_5 1 rfl rfl)
theorem dX0_happens_102 : decode cX0_happens 102 = .ok (.sipush 999, 3) := dk_17 3 231 (dk_at dksX0_happens_5 2 rfl rfl)
theorem dX0_happens_105 : decode cX0_happens 105 = .ok (.if_icmp .ge 7, 3) := dk_162 0 7 (dk_at dksX0_happens_5 5 rfl rfl)
theorem dX0_happens_108 : decode cX0_happens 108 = .ok (.aload_n 0, 1) := dk_42 (dk_at dksX0_happens_5 8 rfl rfl)
theorem dX0_happens_109 : decode cX0_happens 109 = .ok (.invokevirtual 231, 3) := dk_182 0 231 (dk_at dksX0_happens_5 9 rfl rfl)
theorem dX0_happens_112 : decode cX0_happens 112 = .ok (.return_, 1) := dk_177 (dk_at dksX0_happens_5 12 rfl rfl)
def dkwX0_undo_2 : List UInt8 := [180, 0, 149, 184, 1, 82, 42, 180, 0, 12, 180, 0, 66, 7, 46, 172]
abbrev dktX0_undo_2 : List UInt8 := dkwX0_undo_2 ++ []
def dkwX0_undo_1 : List UInt8 := [4, 100, 79, 42, 180, 0, 12, 180, 1, 79, 42, 180, 0, 12, 180, 0, 66, 7, 46, 50, 42, 180, 0, 12]
abbrev dktX0_undo_1 : List UInt8 := dkwX0_undo_1 ++ dktX0_undo_2
def dkwX0_undo_0 : List UInt8 := [42, 180, 0, 12, 180, 0, 66, 7, 46, 154, 0, 5, 2, 172, 42, 180, 0, 12, 180, 0, 66, 7, 92, 46]
abbrev dktX0_undo_0 : List UInt8 := dkwX0_undo_0 ++ dktX0_undo_1
theorem dksX0_undo_0 : cX0_undo.data.toList.drop 0 = dktX0_undo_0 := by decide +kernel
theorem dksX0_undo_1 : cX0_undo.data.toList.drop 24 = dktX0_undo_1 := dk_seg dksX0_undo_0 24 rfl rfl
theorem dksX0_undo_2 : cX0_undo.data.toList.drop 48 = dktX0_undo_2 := dk_seg dksX0_undo_1 24 rfl rfl
theorem dX0_undo_0 : decode cX0_undo 0 = .ok (.aload_n 0, 1) := dk_42 (dk_at dksX0_undo_0 0 rfl rfl)
theorem dX0_undo_1 : decode cX0_undo 1 = .ok (.getfield 12, 3) := dk_180 0 12 (dk_at dksX0_undo_0 1 rfl rfl)
theorem dX0_undo_4 : decode cX0_undo 4 = .ok (.getfield 66, 3) := dk_180 0 66 (dk_at dksX0_undo_0 4 rfl rfl)
theorem dX0_undo_7 : decode cX0_undo 7 = .ok (.iconst 4, 1) := dk_7 (dk_at dksX0_undo_0 7 rfl rfl)
theorem dX0_undo_8 : decode cX0_undo 8 = .ok (.iaload, 1) := dk_46 (dk_at dksX0_undo_0 8 rfl rfl)
theorem dX0_undo_9 : decode cX0_undo 9 = .ok (.ifCond .ne 5, 3) := dk_154 0 5 (dk_at dksX0_undo_0 9 rfl rfl)
theorem dX0_undo_12 : decode cX0_undo 12 = .ok (.iconst (-1), 1) := dk_2 (dk_at dksX0_undo_0 12 rfl rfl)
theorem dX0_undo_13 : decode cX0_undo 13 = .ok (.ireturn, 1) := dk_172 (dk_at dksX0_undo_0 13 rfl rfl)
theorem dX0_undo_14 : decode cX0_undo 14 = .ok (.aload_n 0, 1) := dk_42 (dk_at dksX0_undo_0 14 rfl rfl)
theorem dX0_undo_15 : decode cX0_undo 15 = .ok (.getfield 12, 3) := dk_180 0 12 (dk_at dksX0_undo_0 15 rfl rfl)
theorem dX0_undo_18 : decode cX0_undo 18 = .ok (.getfield 66, 3) := dk_180 0 66 (dk_at dksX0_undo_0 18 rfl rfl)
theorem dX0_undo_21 : decode cX0_undo 21 = .ok (.iconst 4, 1) := dk_7 (dk_at dksX0_undo_0 21 rfl rfl)
theorem dX0_undo_22 : decode cX0_undo 22 = .ok (.dup2, 1) := dk_92 (dk_at dksX0_undo_0 22 rfl rfl)
theorem dX0_undo_23 : decode cX0_undo 23 = .ok (.iaload, 1) := dk_46 (dk_at dksX0_undo_0 23 rfl rfl)
theorem dX0_undo_24 : decode cX0_undo 24 = .ok (.iconst 1, 1) := dk_4 (dk_at dksX0_undo_1 0 rfl rfl)
theorem dX0_undo_25 : decode cX0_undo 25 = .ok (.isub, 1) := dk_100 (dk_at dksX0_undo_1 1 rfl rfl)
theorem dX0_undo_26 : decode cX0_undo 26 = .ok (.iastore, 1) := dk_79 (dk_at dksX0_undo_1 2 rfl rfl)
theorem dX0_undo_27 : decode cX0_undo 27 = .ok (.aload_n 0, 1) := dk_42 (dk_at dksX0_undo_1 3 rfl rfl)
theorem dX0_undo_28 : decode cX0_undo 28 = .ok (.getfield 12, 3) := dk_180 0 12 (dk_at dksX0_undo_1 4 rfl rfl)
theorem dX0_undo_31 : decode cX0_undo 31 = .ok (.getfield 335, 3) := dk_180 1 79 (dk_at dksX0_undo_1 7 rfl rfl)
theorem dX0_undo_34 : decode cX0_undo 34 = .ok (.aload_n 0, 1) := dk_42 (dk_at dksX0_undo_1 10 rfl rfl)
theorem dX0_undo_35 : decode cX0_undo 35 = .ok (.getfield 12, 3) := dk_180 0 12 (dk_at dksX0_undo_1 11 rfl rfl)
theorem dX0_undo_38 : decode cX0_undo 38 = .ok (.getfield 66, 3) := dk_180 0 66 (dk_at dksX0_undo_1 14 rfl rfl)
theorem dX0_undo_41 : decode cX0_undo 41 = .ok (.iconst 4, 1) := dk_7 (dk_at dksX0_undo_1 17 rfl rfl)
theorem dX0_undo_42 : decode cX0_undo 42 = .ok (.iaload, 1) := dk_46 (dk_at dksX0_undo_1 18 rfl rfl)
theorem dX0_undo_43 : decode cX0_undo 43 = .ok (.aaload, 1) := dk_50 (dk_at dksX0_undo_1 19 rfl rfl)
theorem dX0_undo_44 : decode cX0_undo 44 = .ok (.aload_n 0, 1) := dk_42 (dk_at dksX0_undo_1 20 rfl rfl)
theorem dX0_undo_45 : decode cX0_undo 45 = .ok (.getfield 12, 3) := dk_180 0 12 (dk_at dksX0_undo_1 21 rfl rfl)
theorem dX0_undo_48 : decode cX0_undo 48 = .ok (.getfield 149, 3) := dk_180 0 149 (dk_at dksX0_undo_2 0 rfl rfl)
theorem dX0_undo_51 : decode cX0_undo 51 = .ok (.invokestatic 338, 3) := dk_184 1 82 (dk_at dksX0_undo_2 3 rfl rfl)
theorem dX0_undo_54 : decode cX0_undo 54 = .ok (.aload_n 0, 1) := dk_42 (dk_at dksX0_undo_2 6 rfl rfl)
theorem dX0_undo_55 : decode cX0_undo 55 = .ok (.getfield 12, 3) := dk_180 0 12 (dk_at dksX0_undo_2 7 rfl rfl)
theorem dX0_undo_58 : decode cX0_undo 58 = .ok (.getfield 66, 3) := dk_180 0 66 (dk_at dksX0_undo_2 10 rfl rfl)
theorem dX0_undo_61 : decode cX0_undo 61 = .ok (.iconst 4, 1) := dk_7 (dk_at dksX0_undo_2 13 rfl rfl)
theorem dX0_undo_62 : decode cX0_undo 62 = .ok (.iaload, 1) := dk_46 (dk_at dksX0_undo_2 14 rfl rfl)
theorem dX0_undo_63 : decode cX0_undo 63 = .ok (.ireturn, 1) := dk_172 (dk_at dksX0_undo_2 15 rfl rfl)
def dkwX0_of_5 : List UInt8 := [172, 42, 27, 182, 0, 222, 153, 0, 7, 4, 167, 0, 4, 3, 172, 16, 254, 172]
abbrev dktX0_of_5 : List UInt8 := dkwX0_of_5 ++ []
def dkwX0_of_4 : List UInt8 := [180, 0, 149, 16, 55, 27, 96, 46, 172, 42, 180, 0, 12, 180, 0, 74, 27, 46, 172, 42, 27, 182, 0, 186]
abbrev dktX0_of_4 : List UInt8 := dkwX0_of_4 ++ dktX0_of_5
def dkwX0_of_3 : List UInt8 := [172, 42, 180, 0, 12, 27, 182, 0, 165, 153, 0, 7, 4, 167, 0, 4, 3, 172, 42, 180, 0, 12]
abbrev dktX0_of_3 : List UInt8 := dkwX0_of_3 ++ dktX0_of_4
def dkwX0_of_2 : List UInt8 := [42, 180, 0, 12, 180, 0, 149, 16, 29, 27, 96, 46, 172, 42, 180, 0, 12, 180, 0, 149, 6, 27, 96, 46]
abbrev dktX0_of_2 : List UInt8 := dkwX0_of_2 ++ dktX0_of_3
def dkwX0_of_1 : List UInt8 := [170, 0, 0, 0, 126, 0, 0, 0, 0, 0, 0, 0, 6, 0, 0, 0, 41, 0, 0, 0, 54, 0, 0, 0, 66, 0, 0, 0, 83, 0, 0, 0, 96, 0, 0, 0, 106, 0, 0, 0, 112]
abbrev dktX0_of_1 : List UInt8 := dkwX0_of_1 ++ dktX0_of_2
def dkwX0_of_0 : List UInt8 := [27, 184, 0, 70, 154, 0, 6, 16, 254, 172, 28]
abbrev dktX0_of_0 : List UInt8 := dkwX0_of_0 ++ dktX0_of_1
theorem dksX0_of_0 : cX0_of.data.toList.drop 0 = dktX0_of_0 := by decide +kernel
theorem dksX0_of_1 : cX0_of.data.toList.drop 11 = dktX0_of_1 := dk_seg dksX0_of_0 11 rfl rfl
theorem dksX0_of_2 : cX0_of.data.toList.drop 52 = dktX0_of_2 := dk_seg dksX0_of_1 41 rfl rfl
theorem dksX0_of_3 : cX0_of.data.toList.drop 76 = dktX0_of_3 := dk_seg dksX0_of_2 24 rfl rfl
theorem dksX0_of_4 : cX0_of.data.toList.drop 98 = dktX0_of_4 := dk_seg dksX0_of_3 22 rfl rfl
theorem dksX0_of_5 : cX0_of.data.toList.drop 122 = dktX0_of_5 := dk_seg dksX0_of_4 24 rfl rfl
theorem dX0_of_0 : decode cX0_of 0 = .ok (.iload_n 1, 1) := dk_27 (dk_at dksX0_of_0 0 rfl rfl)
theorem dX0_of_1 : decode cX0_of 1 = .ok (.invokestatic 70, 3) := dk_184 0 70 (dk_at dksX0_of_0 1 rfl rfl)
theorem dX0_of_4 : decode cX0_of 4 = .ok (.ifCond .ne 6, 3) := dk_154 0 6 (dk_at dksX0_of_0 4 rfl rfl)
theorem dX0_of_7 : decode cX0_of 7 = .ok (.bipush (-2), 2) := dk_16 254 (dk_at dksX0_of_0 7 rfl rfl)
theorem dX0_of_9 : decode cX0_of 9 = .ok (.ireturn, 1) := dk_172 (dk_at dksX0_of_0 9 rfl rfl)
theorem dX0_of_10 : decode cX0_of 10 = .ok (.iload_n 2, 1) := dk_28 (dk_at dksX0_of_0 10 rfl rfl)
theorem dX0_of_11 : decode cX0_of 11 = .ok (.tableswitch 126 0 6 #[41, 54, 66, 83, 96, 106, 112], 41) := by decide +kernel
theorem dX0_of_52 : decode cX0_of 52 = .ok (.aload_n 0, 1) := dk_42 (dk_at dksX0_of_2 0 rfl rfl)
theorem dX0_of_53 : decode cX0_of 53 = .ok (.getfield 12, 3) := dk_180 0 12 (dk_at dksX0_of_2 1 rfl rfl)
theorem dX0_of_56 : decode cX0_of 56 = .ok (.getfield 149, 3) := dk_180 0 149 (dk_at dksX0_of_2 4 rfl rfl)
theorem dX0_of_59 : decode cX0_of 59 = .ok (.bipush 29, 2) := dk_16 29 (dk_at dksX0_of_2 7 rfl rfl)
theorem dX0_of_61 : decode cX0_of 61 = .ok (.iload_n 1, 1) := dk_27 (dk_at dksX0_of_2 9 rfl rfl)
theorem dX0_of_62 : decode cX0_of 62 = .ok (.iadd, 1) := dk_96 (dk_at dksX0_of_2 10 rfl rfl)
theorem dX0_of_63 : decode cX0_of 63 = .ok (.iaload, 1) := dk_46 (dk_at dksX0_of_2 11 rfl rfl)
theorem dX0_of_64 : decode cX0_of 64 = .ok (.ireturn, 1) := dk_172 (dk_at dksX0_of_2 12 rfl rfl)
theorem dX0_of_65 : decode cX0_of 65 = .ok (.aload_n 0, 1) := dk_42 (dk_at dksX0_of_2 13 rfl rfl)
theorem dX0_of_66 : decode cX0_of 66 = .ok (.getfield 12, 3) := dk_180 0 12 (dk_at dksX0_of_2 14 rfl rfl)
theorem dX0_of_69 : decode cX0_of 69 = .ok (.getfield 149, 3) := dk_180 0 149 (dk_at dksX0_of_2 17 rfl rfl)
theorem dX0_of_72 : decode cX0_of 72 = .ok (.iconst 3, 1) := dk_6 (dk_at dksX0_of_2 20 rfl rfl)
theorem dX0_of_73 : decode cX0_of 73 = .ok (.iload_n 1, 1) := dk_27 (dk_at dksX0_of_2 21 rfl rfl)
theorem dX0_of_74 : decode cX0_of 74 = .ok (.iadd, 1) := dk_96 (dk_at dksX0_of_2 22 rfl rfl)
theorem dX0_of_75 : decode cX0_of 75 = .ok (.iaload, 1) := dk_46 (dk_at dksX0_of_2 23 rfl rfl)
theorem dX0_of_76 : decode cX0_of 76 = .ok (.ireturn, 1) := dk_172 (dk_at dksX0_of_3 0 rfl rfl)
theorem dX0_of_77 : decode cX0_of 77 = .ok (.aload_n 0, 1) := dk_42 (dk_at dksX0_of_3 1 rfl rfl)
theorem dX0_of_78 : decode cX0_of 78 = .ok (.getfield 12, 3) := dk_180 0 12 (dk_at dksX0_of_3 2 rfl rfl)
theorem dX0_of_81 : decode cX0_of 81 = .ok (.iload_n 1, 1) := dk_27 (dk_at dksX0_of_3 5 rfl rfl)
theorem dX0_of_82 : decode cX0_of 82 = .ok (.invokevirtual 165, 3) := dk_182 0 165 (dk_at dksX0_of_3 6 rfl rfl)
theorem dX0_of_85 : decode cX0_of 85 = .ok (.ifCond .eq 7, 3) := dk_153 0 7 (dk_at dksX0_of_3 9 rfl rfl)
theorem dX0_of_88 : decode cX0_of 88 = .ok (.iconst 1, 1) := dk_4 (dk_at dksX0_of_3 12 rfl rfl)
theorem dX0_of_89 : decode cX0_of 89 = .ok (.goto 4, 3) := dk_167 0 4 (dk_at dksX0_of_3 13 rfl rfl)
theorem dX0_of_92 : decode cX0_of 92 = .ok (.iconst 0, 1) := dk_3 (dk_at dksX0_of_3 16 rfl rfl)
theorem dX0_of_93 : decode cX0_of 93 = .ok (.ireturn, 1) := dk_172 (dk_at dksX0_of_3 17 rfl rfl)
theorem dX0_of_94 : decode cX0_of 94 = .ok (.aload_n 0, 1) := dk_42 (dk_at dksX0_of_3 18 rfl rfl)
theorem dX0_of_95 : decode cX0_of 95 = .ok (.getfield 12, 3) := dk_180 0 12 (dk_at dksX0_of_3 19 rfl rfl)
theorem dX0_of_98 : decode cX0_of 98 = .ok (.getfield 149, 3) := dk_180 0 149 (dk_at dksX0_of_4 0 rfl rfl)
theorem dX0_of_101 : decode cX0_of 101 = .ok (.bipush 55, 2) := dk_16 55 (dk_at dksX0_of_4 3 rfl rfl)
theorem dX0_of_103 : decode cX0_of 103 = .ok (.iload_n 1, 1) := dk_27 (dk_at dksX0_of_4 5 rfl rfl)
theorem dX0_of_104 : decode cX0_of 104 = .ok (.iadd, 1) := dk_96 (dk_at dksX0_of_4 6 rfl rfl)
theorem dX0_of_105 : decode cX0_of 105 = .ok (.iaload, 1) := dk_46 (dk_at dksX0_of_4 7 rfl rfl)
theorem dX0_of_106 : decode cX0_of 106 = .ok (.ireturn, 1) := dk_172 (dk_at dksX0_of_4 8 rfl rfl)
theorem dX0_of_107 : decode cX0_of 107 = .ok (.aload_n 0, 1) := dk_42 (dk_at dksX0_of_4 9 rfl rfl)
theorem dX0_of_108 : decode cX0_of 108 = .ok (.getfield 12, 3) := dk_180 0 12 (dk_at dksX0_of_4 10 rfl rfl)
theorem dX0_of_111 : decode cX0_of 111 = .ok (.getfield 74, 3) := dk_180 0 74 (dk_at dksX0_of_4 13 rfl rfl)
theorem dX0_of_114 : decode cX0_of 114 = .ok (.iload_n 1, 1) := dk_27 (dk_at dksX0_of_4 16 rfl rfl)
theorem dX0_of_115 : decode cX0_of 115 = .ok (.iaload, 1) := dk_46 (dk_at dksX0_of_4 17 rfl rfl)
theorem dX0_of_116 : decode cX0_of 116 = .ok (.ireturn, 1) := dk_172 (dk_at dksX0_of_4 18 rfl rfl)
theorem dX0_of_117 : decode cX0_of 117 = .ok (.aload_n 0, 1) := dk_42 (dk_at dksX0_of_4 19 rfl rfl)
theorem dX0_of_118 : decode cX0_of 118 = .ok (.iload_n 1, 1) := dk_27 (dk_at dksX0_of_4 20 rfl rfl)
theorem dX0_of_119 : decode cX0_of 119 = .ok (.invokevirtual 186, 3) := dk_182 0 186 (dk_at dksX0_of_4 21 rfl rfl)
theorem dX0_of_122 : decode cX0_of 122 = .ok (.ireturn, 1) := dk_172 (dk_at dksX0_of_5 0 rfl rfl)
theorem dX0_of_123 : decode cX0_of 123 = .ok (.aload_n 0, 1) := dk_42 (dk_at dksX0_of_5 1 rfl rfl)
theorem dX0_of_124 : decode cX0_of 124 = .ok (.iload_n 1, 1) := dk_27 (dk_at dksX0_of_5 2 rfl rfl)
theorem dX0_of_125 : decode cX0_of 125 = .ok (.invokevirtual 222, 3) := dk_182 0 222 (dk_at dksX0_of_5 3 rfl rfl)
theorem dX0_of_128 : decode cX0_of 128 = .ok (.ifCond .eq 7, 3) := dk_153 0 7 (dk_at dksX0_of_5 6 rfl rfl)
theorem dX0_of_131 : decode cX0_of 131 = .ok (.iconst 1, 1) := dk_4 (dk_at dksX0_of_5 9 rfl rfl)
theorem dX0_of_132 : decode cX0_of 132 = .ok (.goto 4, 3) := dk_167 0 4 (dk_at dksX0_of_5 10 rfl rfl)
theorem dX0_of_135 : decode cX0_of 135 = .ok (.iconst 0, 1) := dk_3 (dk_at dksX0_of_5 13 rfl rfl)
theorem dX0_of_136 : decode cX0_of 136 = .ok (.ireturn, 1) := dk_172 (dk_at dksX0_of_5 14 rfl rfl)
theorem dX0_of_137 : decode cX0_of 137 = .ok (.bipush (-2), 2) := dk_16 254 (dk_at dksX0_of_5 15 rfl rfl)
theorem dX0_of_139 : decode cX0_of 139 = .ok (.ireturn, 1) := dk_172 (dk_at dksX0_of_5 17 rfl rfl)
def dkwX0_ofWord_4 : List UInt8 := [184, 0, 62, 153, 0, 15, 45, 182, 0, 85, 28, 16, 10, 100, 46, 167, 0, 4, 2, 172]
abbrev dktX0_ofWord_4 : List UInt8 := dkwX0_ofWord_4 ++ []
def dkwX0_ofWord_3 : List UInt8 := [182, 1, 89, 153, 0, 7, 4, 167, 0, 4, 3, 172, 28, 16, 10, 16, 9, 45, 182, 0, 199, 96]
abbrev dktX0_ofWord_3 : List UInt8 := dkwX0_ofWord_3 ++ dktX0_ofWord_4
def dkwX0_ofWord_2 : List UInt8 := [45, 182, 0, 199, 172, 45, 182, 0, 202, 172, 45, 182, 0, 162, 172, 42, 27, 42, 180, 0, 12, 182, 0, 246]
abbrev dktX0_ofWord_2 : List UInt8 := dkwX0_ofWord_2 ++ dktX0_ofWord_3
def dkwX0_ofWord_1 : List UInt8 := [170, 0, 0, 0, 0, 0, 67, 0, 0, 0, 0, 0, 0, 0, 3, 0, 0, 0, 31, 0, 0, 0, 36, 0, 0, 0, 41, 0, 0, 0, 46]
abbrev dktX0_ofWord_1 : List UInt8 := dkwX0_ofWord_1 ++ dktX0_ofWord_2
def dkwX0_ofWord_0 : List UInt8 := [42, 27, 182, 1, 86, 154, 0, 5, 2, 172, 42, 180, 0, 12, 180, 0, 81, 27, 50, 78, 28]
abbrev dktX0_ofWord_0 : List UInt8 := dkwX0_ofWord_0 ++ dktX0_ofWord_1
theorem dksX0_ofWord_0 : cX0_ofWord.data.toList.drop 0 = dktX0_ofWord_0 := by decide +kernel
theorem dksX0_ofWord_1 : cX0_ofWord.data.toList.drop 21 = dktX0_ofWord_1 := dk_seg dksX0_ofWord_0 21 rfl rfl
theorem dksX0_ofWord_2 : cX0_ofWord.data.toList.drop 52 = dktX0_ofWord_2 := dk_seg dksX0_ofWord_1 31 rfl rfl
theorem dksX0_ofWord_3 : cX0_ofWord.data.toList.drop 76 = dktX0_ofWord_3 := dk_seg dksX0_ofWord_2 24 rfl rfl
theorem dksX0_ofWord_4 : cX0_ofWord.data.toList.drop 98 = dktX0_ofWord_4 := dk_seg dksX0_ofWord_3 22 rfl rfl
theorem dX0_ofWord_0 : decode cX0_ofWord 0 = .ok (.aload_n 0, 1) := dk_42 (dk_at dksX0_ofWord_0 0 rfl rfl)
theorem dX0_ofWord_1 : decode cX0_ofWord 1 = .ok (.iload_n 1, 1) := dk_27 (dk_at dksX0_ofWord_0 1 rfl rfl)
theorem dX0_ofWord_2 : decode cX0_ofWord 2 = .ok (.invokevirtual 342, 3) := dk_182 1 86 (dk_at dksX0_ofWord_0 2 rfl rfl)
theorem dX0_ofWord_5 : decode cX0_ofWord 5 = .ok (.ifCond .ne 5, 3) := dk_154 0 5 (dk_at dksX0_ofWord_0 5 rfl rfl)
theorem dX0_ofWord_8 : decode cX0_ofWord 8 = .ok (.iconst (-1), 1) := dk_2 (dk_at dksX0_ofWord_0 8 rfl rfl)
theorem dX0_ofWord_9 : decode cX0_ofWord 9 = .ok (.ireturn, 1) := dk_172 (dk_at dksX0_ofWord_0 9 rfl rfl)
theorem dX0_ofWord_10 : decode cX0_ofWord 10 = .ok (.aload_n 0, 1) := dk_42 (dk_at dksX0_ofWord_0 10 rfl rfl)
theorem dX0_ofWord_11 : decode cX0_ofWord 11 = .ok (.getfield 12, 3) := dk_180 0 12 (dk_at dksX0_ofWord_0 11 rfl rfl)
theorem dX0_ofWord_14 : decode cX0_ofWord 14 = .ok (.getfield 81, 3) := dk_180 0 81 (dk_at dksX0_ofWord_0 14 rfl rfl)
theorem dX0_ofWord_17 : decode cX0_ofWord 17 = .ok (.iload_n 1, 1) := dk_27 (dk_at dksX0_ofWord_0 17 rfl rfl)
theorem dX0_ofWord_18 : decode cX0_ofWord 18 = .ok (.aaload, 1) := dk_50 (dk_at dksX0_ofWord_0 18 rfl rfl)
theorem dX0_ofWord_19 : decode cX0_ofWord 19 = .ok (.astore_n 3, 1) := dk_78 (dk_at dksX0_ofWord_0 19 rfl rfl)
theorem dX0_ofWord_20 : decode cX0_ofWord 20 = .ok (.iload_n 2, 1) := dk_28 (dk_at dksX0_ofWord_0 20 rfl rfl)
theorem dX0_ofWord_21 : decode cX0_ofWord 21 = .ok (.tableswitch 67 0 3 #[31, 36, 41, 46], 31) := by decide +kernel
theorem dX0_ofWord_52 : decode cX0_ofWord 52 = .ok (.aload_n 3, 1) := dk_45 (dk_at dksX0_ofWord_2 0 rfl rfl)
theorem dX0_ofWord_53 : decode cX0_ofWord 53 = .ok (.invokevirtual 199, 3) := dk_182 0 199 (dk_at dksX0_ofWord_2 1 rfl rfl)
theorem dX0_ofWord_56 : decode cX0_ofWord 56 = .ok (.ireturn, 1) := dk_172 (dk_at dksX0_ofWord_2 4 rfl rfl)
theorem dX0_ofWord_57 : decode cX0_ofWord 57 = .ok (.aload_n 3, 1) := dk_45 (dk_at dksX0_ofWord_2 5 rfl rfl)
theorem dX0_ofWord_58 : decode cX0_ofWord 58 = .ok (.invokevirtual 202, 3) := dk_182 0 202 (dk_at dksX0_ofWord_2 6 rfl rfl)
theorem dX0_ofWord_61 : decode cX0_ofWord 61 = .ok (.ireturn, 1) := dk_172 (dk_at dksX0_ofWord_2 9 rfl rfl)
theorem dX0_ofWord_62 : decode cX0_ofWord 62 = .ok (.aload_n 3, 1) := dk_45 (dk_at dksX0_ofWord_2 10 rfl rfl)
theorem dX0_ofWord_63 : decode cX0_ofWord 63 = .ok (.invokevirtual 162, 3) := dk_182 0 162 (dk_at dksX0_ofWord_2 11 rfl rfl)
theorem dX0_ofWord_66 : decode cX0_ofWord 66 = .ok (.ireturn, 1) := dk_172 (dk_at dksX0_ofWord_2 14 rfl rfl)
theorem dX0_ofWord_67 : decode cX0_ofWord 67 = .ok (.aload_n 0, 1) := dk_42 (dk_at dksX0_ofWord_2 15 rfl rfl)
theorem dX0_ofWord_68 : decode cX0_ofWord 68 = .ok (.iload_n 1, 1) := dk_27 (dk_at dksX0_ofWord_2 16 rfl rfl)
theorem dX0_ofWord_69 : decode cX0_ofWord 69 = .ok (.aload_n 0, 1) := dk_42 (dk_at dksX0_ofWord_2 17 rfl rfl)
theorem dX0_ofWord_70 : decode cX0_ofWord 70 = .ok (.getfield 12, 3) := dk_180 0 12 (dk_at dksX0_ofWord_2 18 rfl rfl)
theorem dX0_ofWord_73 : decode cX0_ofWord 73 = .ok (.invokevirtual 246, 3) := dk_182 0 246 (dk_at dksX0_ofWord_2 21 rfl rfl)
theorem dX0_ofWord_76 : decode cX0_ofWord 76 = .ok (.invokevirtual 345, 3) := dk_182 1 89 (dk_at dksX0_ofWord_3 0 rfl rfl)
theorem dX0_ofWord_79 : decode cX0_ofWord 79 = .ok (.ifCond .eq 7, 3) := dk_153 0 7 (dk_at dksX0_ofWord_3 3 rfl rfl)
theorem dX0_ofWord_82 : decode cX0_ofWord 82 = .ok (.iconst 1, 1) := dk_4 (dk_at dksX0_ofWord_3 6 rfl rfl)
theorem dX0_ofWord_83 : decode cX0_ofWord 83 = .ok (.goto 4, 3) := dk_167 0 4 (dk_at dksX0_ofWord_3 7 rfl rfl)
theorem dX0_ofWord_86 : decode cX0_ofWord 86 = .ok (.iconst 0, 1) := dk_3 (dk_at dksX0_ofWord_3 10 rfl rfl)
theorem dX0_ofWord_87 : decode cX0_ofWord 87 = .ok (.ireturn, 1) := dk_172 (dk_at dksX0_ofWord_3 11 rfl rfl)
theorem dX0_ofWord_88 : decode cX0_ofWord 88 = .ok (.iload_n 2, 1) := dk_28 (dk_at dksX0_ofWord_3 12 rfl rfl)
theorem dX0_ofWord_89 : decode cX0_ofWord 89 = .ok (.bipush 10, 2) := dk_16 10 (dk_at dksX0_ofWord_3 13 rfl rfl)
theorem dX0_ofWord_91 : decode cX0_ofWord 91 = .ok (.bipush 9, 2) := dk_16 9 (dk_at dksX0_ofWord_3 15 rfl rfl)
theorem dX0_ofWord_93 : decode cX0_ofWord 93 = .ok (.aload_n 3, 1) := dk_45 (dk_at dksX0_ofWord_3 17 rfl rfl)
theorem dX0_ofWord_94 : decode cX0_ofWord 94 = .ok (.invokevirtual 199, 3) := dk_182 0 199 (dk_at dksX0_ofWord_3 18 rfl rfl)
theorem dX0_ofWord_97 : decode cX0_ofWord 97 = .ok (.iadd, 1) := dk_96 (dk_at dksX0_ofWord_3 21 rfl rfl)
theorem dX0_ofWord_98 : decode cX0_ofWord 98 = .ok (.invokestatic 62, 3) := dk_184 0 62 (dk_at dksX0_ofWord_4 0 rfl rfl)
theorem dX0_ofWord_101 : decode cX0_ofWord 101 = .ok (.ifCond .eq 15, 3) := dk_153 0 15 (dk_at dksX0_ofWord_4 3 rfl rfl)
theorem dX0_ofWord_104 : decode cX0_ofWord 104 = .ok (.aload_n 3, 1) := dk_45 (dk_at dksX0_ofWord_4 6 rfl rfl)
theorem dX0_ofWord_105 : decode cX0_ofWord 105 = .ok (.invokevirtual 85, 3) := dk_182 0 85 (dk_at dksX0_ofWord_4 7 rfl rfl)
theorem dX0_ofWord_108 : decode cX0_ofWord 108 = .ok (.iload_n 2, 1) := dk_28 (dk_at dksX0_ofWord_4 10 rfl rfl)
theorem dX0_ofWord_109 : decode cX0_ofWord 109 = .ok (.bipush 10, 2) := dk_16 10 (dk_at dksX0_ofWord_4 11 rfl rfl)
theorem dX0_ofWord_111 : decode cX0_ofWord 111 = .ok (.isub, 1) := dk_100 (dk_at dksX0_ofWord_4 13 rfl rfl)
theorem dX0_ofWord_112 : decode cX0_ofWord 112 = .ok (.iaload, 1) := dk_46 (dk_at dksX0_ofWord_4 14 rfl rfl)
theorem dX0_ofWord_113 : decode cX0_ofWord 113 = .ok (.goto 4, 3) := dk_167 0 4 (dk_at dksX0_ofWord_4 15 rfl rfl)
theorem dX0_ofWord_116 : decode cX0_ofWord 116 = .ok (.iconst (-1), 1) := dk_2 (dk_at dksX0_ofWord_4 18 rfl rfl)
theorem dX0_ofWord_117 : decode cX0_ofWord 117 = .ok (.ireturn, 1) := dk_172 (dk_at dksX0_ofWord_4 19 rfl rfl)
def dkwX0_isWord_0 : List UInt8 := [27, 3, 42, 180, 0, 12, 180, 0, 66, 3, 46, 4, 100, 184, 0, 62, 172]
abbrev dktX0_isWord_0 : List UInt8 := dkwX0_isWord_0 ++ []
theorem dksX0_isWord_0 : cX0_isWord.data.toList.drop 0 = dktX0_isWord_0 := by decide +kernel
theorem dX0_isWord_0 : decode cX0_isWord 0 = .ok (.iload_n 1, 1) := dk_27 (dk_at dksX0_isWord_0 0 rfl rfl)
theorem dX0_isWord_1 : decode cX0_isWord 1 = .ok (.iconst 0, 1) := dk_3 (dk_at dksX0_isWord_0 1 rfl rfl)
theorem dX0_isWord_2 : decode cX0_isWord 2 = .ok (.aload_n 0, 1) := dk_42 (dk_at dksX0_isWord_0 2 rfl rfl)
theorem dX0_isWord_3 : decode cX0_isWord 3 = .ok (.getfield 12, 3) := dk_180 0 12 (dk_at dksX0_isWord_0 3 rfl rfl)
theorem dX0_isWord_6 : decode cX0_isWord 6 = .ok (.getfield 66, 3) := dk_180 0 66 (dk_at dksX0_isWord_0 6 rfl rfl)
theorem dX0_isWord_9 : decode cX0_isWord 9 = .ok (.iconst 0, 1) := dk_3 (dk_at dksX0_isWord_0 9 rfl rfl)
theorem dX0_isWord_10 : decode cX0_isWord 10 = .ok (.iaload, 1) := dk_46 (dk_at dksX0_isWord_0 10 rfl rfl)
theorem dX0_isWord_11 : decode cX0_isWord 11 = .ok (.iconst 1, 1) := dk_4 (dk_at dksX0_isWord_0 11 rfl rfl)
theorem dX0_isWord_12 : decode cX0_isWord 12 = .ok (.isub, 1) := dk_100 (dk_at dksX0_isWord_0 12 rfl rfl)
theorem dX0_isWord_13 : decode cX0_isWord 13 = .ok (.invokestatic 62, 3) := dk_184 0 62 (dk_at dksX0_isWord_0 13 rfl rfl)
theorem dX0_isWord_16 : decode cX0_isWord 16 = .ok (.ireturn, 1) := dk_172 (dk_at dksX0_isWord_0 16 rfl rfl)
def dkwX0_ofSaying_2 : List UInt8 := [153, 0, 20, 42, 180, 0, 12, 180, 0, 108, 27, 50, 28, 16, 10, 100, 46, 167, 0, 4, 2, 172]
abbrev dktX0_ofSaying_2 : List UInt8 := dkwX0_ofSaying_2 ++ []
def dkwX0_ofSaying_1 : List UInt8 := [50, 190, 167, 0, 43, 28, 16, 10, 16, 9, 42, 180, 0, 12, 180, 0, 108, 27, 50, 190, 96, 184, 0, 62]
abbrev dktX0_ofSaying_1 : List UInt8 := dkwX0_ofSaying_1 ++ dktX0_ofSaying_2
def dkwX0_ofSaying_0 : List UInt8 := [42, 27, 182, 0, 243, 154, 0, 7, 2, 167, 0, 60, 28, 154, 0, 16, 42, 180, 0, 12, 180, 0, 108, 27]
abbrev dktX0_ofSaying_0 : List UInt8 := dkwX0_ofSaying_0 ++ dktX0_ofSaying_1
theorem dksX0_ofSaying_0 : cX0_ofSaying.data.toList.drop 0 = dktX0_ofSaying_0 := by decide +kernel
theorem dksX0_ofSaying_1 : cX0_ofSaying.data.toList.drop 24 = dktX0_ofSaying_1 := dk_seg dksX0_ofSaying_0 24 rfl rfl
theorem dksX0_ofSaying_2 : cX0_ofSaying.data.toList.drop 48 = dktX0_ofSaying_2 := dk_seg dksX0_ofSaying_1 24 rfl rfl
theorem dX0_ofSaying_0 : decode cX0_ofSaying 0 = .ok (.aload_n 0, 1) := dk_42 (dk_at dksX0_ofSaying_0 0 rfl rfl)
theorem dX0_ofSaying_1 : decode cX0_ofSaying 1 = .ok (.iload_n 1, 1) := dk_27 (dk_at dksX0_ofSaying_0 1 rfl rfl)
theorem dX0_ofSaying_2 : decode cX0_ofSaying 2 = .ok (.invokevirtual 243, 3) := dk_182 0 243 (dk_at dksX0_ofSaying_0 2 rfl rfl)
theorem dX0_ofSaying_5 : decode cX0_ofSaying 5 = .ok (.ifCond .ne 7, 3) := dk_154 0 7 (dk_at dksX0_ofSaying_0 5 rfl rfl)
theorem dX0_ofSaying_8 : decode cX0_ofSaying 8 = .ok (.iconst (-1), 1) := dk_2 (dk_at dksX0_ofSaying_0 8 rfl rfl)
theorem dX0_ofSaying_9 : decode cX0_ofSaying 9 = .ok (.goto 60, 3) := dk_167 0 60 (dk_at dksX0_ofSaying_0 9 rfl rfl)
theorem dX0_ofSaying_12 : decode cX0_ofSaying 12 = .ok (.iload_n 2, 1) := dk_28 (dk_at dksX0_ofSaying_0 12 rfl rfl)
theorem dX0_ofSaying_13 : decode cX0_ofSaying 13 = .ok (.ifCond .ne 16, 3) := dk_154 0 16 (dk_at dksX0_ofSaying_0 13 rfl rfl)
theorem dX0_ofSaying_16 : decode cX0_ofSaying 16 = .ok (.aload_n 0, 1) := dk_42 (dk_at dksX0_ofSaying_0 16 rfl rfl)
theorem dX0_ofSaying_17 : decode cX0_ofSaying 17 = .ok (.getfield 12, 3) := dk_180 0 12 (dk_at dksX0_ofSaying_0 17 rfl rfl)
theorem dX0_ofSaying_20 : decode cX0_ofSaying 20 = .ok (.getfield 108, 3) := dk_180 0 108 (dk_at dksX0_ofSaying_0 20 rfl rfl)
theorem dX0_ofSaying_23 : decode cX0_ofSaying 23 = .ok (.iload_n 1, 1) := dk_27 (dk_at dksX0_ofSaying_0 23 rfl rfl)
theorem dX0_ofSaying_24 : decode cX0_ofSaying 24 = .ok (.aaload, 1) := dk_50 (dk_at dksX0_ofSaying_1 0 rfl rfl)
theorem dX0_ofSaying_25 : decode cX0_ofSaying 25 = .ok (.arraylength, 1) := dk_190 (dk_at dksX0_ofSaying_1 1 rfl rfl)
theorem dX0_ofSaying_26 : decode cX0_ofSaying 26 = .ok (.goto 43, 3) := dk_167 0 43 (dk_at dksX0_ofSaying_1 2 rfl rfl)
theorem dX0_ofSaying_29 : decode cX0_ofSaying 29 = .ok (.iload_n 2, 1) := dk_28 (dk_at dksX0_ofSaying_1 5 rfl rfl)
theorem dX0_ofSaying_30 : decode cX0_ofSaying 30 = .ok (.bipush 10, 2) := dk_16 10 (dk_at dksX0_ofSaying_1 6 rfl rfl)
theorem dX0_ofSaying_32 : decode cX0_ofSaying 32 = .ok (.bipush 9, 2) := dk_16 9 (dk_at dksX0_ofSaying_1 8 rfl rfl)
theorem dX0_ofSaying_34 : decode cX0_ofSaying 34 = .ok (.aload_n 0, 1) := dk_42 (dk_at dksX0_ofSaying_1 10 rfl rfl)
theorem dX0_ofSaying_35 : decode cX0_ofSaying 35 = .ok (.getfield 12, 3) := dk_180 0 12 (dk_at dksX0_ofSaying_1 11 rfl rfl)
theorem dX0_ofSaying_38 : decode cX0_ofSaying 38 = .ok (.getfield 108, 3) := dk_180 0 108 (dk_at dksX0_ofSaying_1 14 rfl rfl)
theorem dX0_ofSaying_41 : decode cX0_ofSaying 41 = .ok (.iload_n 1, 1) := dk_27 (dk_at dksX0_ofSaying_1 17 rfl rfl)
theorem dX0_ofSaying_42 : decode cX0_ofSaying 42 = .ok (.aaload, 1) := dk_50 (dk_at dksX0_ofSaying_1 18 rfl rfl)
theorem dX0_ofSaying_43 : decode cX0_ofSaying 43 = .ok (.arraylength, 1) := dk_190 (dk_at dksX0_ofSaying_1 19 rfl rfl)
theorem dX0_ofSaying_44 : decode cX0_ofSaying 44 = .ok (.iadd, 1) := dk_96 (dk_at dksX0_ofSaying_1 20 rfl rfl)
theorem dX0_ofSaying_45 : decode cX0_ofSaying 45 = .ok (.invokestatic 62, 3) := dk_184 0 62 (dk_at dksX0_ofSaying_1 21 rfl rfl)
theorem dX0_ofSaying_48 : decode cX0_ofSaying 48 = .ok (.ifCond .eq 20, 3) := dk_153 0 20 (dk_at dksX0_ofSaying_2 0 rfl rfl)
theorem dX0_ofSaying_51 : decode cX0_ofSaying 51 = .ok (.aload_n 0, 1) := dk_42 (dk_at dksX0_ofSaying_2 3 rfl rfl)
theorem dX0_ofSaying_52 : decode cX0_ofSaying 52 = .ok (.getfield 12, 3) := dk_180 0 12 (dk_at dksX0_ofSaying_2 4 rfl rfl)
theorem dX0_ofSaying_55 : decode cX0_ofSaying 55 = .ok (.getfield 108, 3) := dk_180 0 108 (dk_at dksX0_ofSaying_2 7 rfl rfl)
theorem dX0_ofSaying_58 : decode cX0_ofSaying 58 = .ok (.iload_n 1, 1) := dk_27 (dk_at dksX0_ofSaying_2 10 rfl rfl)
theorem dX0_ofSaying_59 : decode cX0_ofSaying 59 = .ok (.aaload, 1) := dk_50 (dk_at dksX0_ofSaying_2 11 rfl rfl)
theorem dX0_ofSaying_60 : decode cX0_ofSaying 60 = .ok (.iload_n 2, 1) := dk_28 (dk_at dksX0_ofSaying_2 12 rfl rfl)
theorem dX0_ofSaying_61 : decode cX0_ofSaying 61 = .ok (.bipush 10, 2) := dk_16 10 (dk_at dksX0_ofSaying_2 13 rfl rfl)
theorem dX0_ofSaying_63 : decode cX0_ofSaying 63 = .ok (.isub, 1) := dk_100 (dk_at dksX0_ofSaying_2 15 rfl rfl)
theorem dX0_ofSaying_64 : decode cX0_ofSaying 64 = .ok (.iaload, 1) := dk_46 (dk_at dksX0_ofSaying_2 16 rfl rfl)
theorem dX0_ofSaying_65 : decode cX0_ofSaying 65 = .ok (.goto 4, 3) := dk_167 0 4 (dk_at dksX0_ofSaying_2 17 rfl rfl)
theorem dX0_ofSaying_68 : decode cX0_ofSaying 68 = .ok (.iconst (-1), 1) := dk_2 (dk_at dksX0_ofSaying_2 20 rfl rfl)
theorem dX0_ofSaying_69 : decode cX0_ofSaying 69 = .ok (.ireturn, 1) := dk_172 (dk_at dksX0_ofSaying_2 21 rfl rfl)
def dkwX0_mistaken_5 : List UInt8 := [4, 172]
abbrev dktX0_mistaken_5 : List UInt8 := dkwX0_mistaken_5 ++ []
def dkwX0_mistaken_4 : List UInt8 := [180, 0, 81, 28, 50, 182, 0, 85, 29, 46, 182, 1, 92, 159, 0, 5, 3, 172, 132, 3, 1, 167, 255, 196]
abbrev dktX0_mistaken_4 : List UInt8 := dkwX0_mistaken_4 ++ dktX0_mistaken_5
def dkwX0_mistaken_3 : List UInt8 := [42, 180, 0, 12, 180, 0, 81, 27, 50, 182, 0, 85, 29, 46, 182, 1, 92, 42, 42, 180, 0, 12]
abbrev dktX0_mistaken_3 : List UInt8 := dkwX0_mistaken_3 ++ dktX0_mistaken_4
def dkwX0_mistaken_2 : List UInt8 := [159, 0, 5, 3, 172, 3, 62, 29, 42, 180, 0, 12, 180, 0, 81, 27, 50, 182, 0, 199, 162, 0, 50, 42]
abbrev dktX0_mistaken_2 : List UInt8 := dkwX0_mistaken_2 ++ dktX0_mistaken_3
def dkwX0_mistaken_1 : List UInt8 := [180, 0, 12, 180, 0, 81, 27, 50, 182, 0, 199, 42, 180, 0, 12, 180, 0, 81, 28, 50, 182, 0, 199]
abbrev dktX0_mistaken_1 : List UInt8 := dkwX0_mistaken_1 ++ dktX0_mistaken_2
def dkwX0_mistaken_0 : List UInt8 := [42, 27, 182, 1, 86, 153, 0, 43, 42, 28, 182, 1, 86, 153, 0, 35, 27, 28, 159, 0, 30, 42]
abbrev dktX0_mistaken_0 : List UInt8 := dkwX0_mistaken_0 ++ dktX0_mistaken_1
theorem dksX0_mistaken_0 : cX0_mistaken.data.toList.drop 0 = dktX0_mistaken_0 := by decide +kernel
theorem dksX0_mistaken_1 : cX0_mistaken.data.toList.drop 22 = dktX0_mistaken_1 := dk_seg dksX0_mistaken_0 22 rfl rfl
theorem dksX0_mistaken_2 : cX0_mistaken.data.toList.drop 45 = dktX0_mistaken_2 := dk_seg dksX0_mistaken_1 23 rfl rfl
theorem dksX0_mistaken_3 : cX0_mistaken.data.toList.drop 69 = dktX0_mistaken_3 := dk_seg dksX0_mistaken_2 24 rfl rfl
theorem dksX0_mistaken_4 : cX0_mistaken.data.toList.drop 91 = dktX0_mistaken_4 := dk_seg dksX0_mistaken_3 22 rfl rfl
theorem dksX0_mistaken_5 : cX0_mistaken.data.toList.drop 115 = dktX0_mistaken_5 := dk_seg dksX0_mistaken_4 24 rfl rfl
theorem dX0_mistaken_0 : decode cX0_mistaken 0 = .ok (.aload_n 0, 1) := dk_42 (dk_at dksX0_mistaken_0 0 rfl rfl)
theorem dX0_mistaken_1 : decode cX0_mistaken 1 = .ok (.iload_n 1, 1) := dk_27 (dk_at dksX0_mistaken_0 1 rfl rfl)
theorem dX0_mistaken_2 : decode cX0_mistaken 2 = .ok (.invokevirtual 342, 3) := dk_182 1 86 (dk_at dksX0_mistaken_0 2 rfl rfl)
theorem dX0_mistaken_5 : decode cX0_mistaken 5 = .ok (.ifCond .eq 43, 3) := dk_153 0 43 (dk_at dksX0_mistaken_0 5 rfl rfl)
theorem dX0_mistaken_8 : decode cX0_mistaken 8 = .ok (.aload_n 0, 1) := dk_42 (dk_at dksX0_mistaken_0 8 rfl rfl)
theorem dX0_mistaken_9 : decode cX0_mistaken 9 = .ok (.iload_n 2, 1) := dk_28 (dk_at dksX0_mistaken_0 9 rfl rfl)
theorem dX0_mistaken_10 : decode cX0_mistaken 10 = .ok (.invokevirtual 342, 3) := dk_182 1 86 (dk_at dksX0_mistaken_0 10 rfl rfl)
theorem dX0_mistaken_13 : decode cX0_mistaken 13 = .ok (.ifCond .eq 35, 3) := dk_153 0 35 (dk_at dksX0_mistaken_0 13 rfl rfl)
theorem dX0_mistaken_16 : decode cX0_mistaken 16 = .ok (.iload_n 1, 1) := dk_27 (dk_at dksX0_mistaken_0 16 rfl rfl)
theorem dX0_mistaken_17 : decode cX0_mistaken 17 = .ok (.iload_n 2, 1) := dk_28 (dk_at dksX0_mistaken_0 17 rfl rfl)
theorem dX0_mistaken_18 : decode cX0_mistaken 18 = .ok (.if_icmp .eq 30, 3) := dk_159 0 30 (dk_at dksX0_mistaken_0 18 rfl rfl)
theorem dX0_mistaken_21 : decode cX0_mistaken 21 = .ok (.aload_n 0, 1) := dk_42 (dk_at dksX0_mistaken_0 21 rfl rfl)
theorem dX0_mistaken_22 : decode cX0_mistaken 22 = .ok (.getfield 12, 3) := dk_180 0 12 (dk_at dksX0_mistaken_1 0 rfl rfl)
theorem dX0_mistaken_25 : decode cX0_mistaken 25 = .ok (.getfield 81, 3) := dk_180 0 81 (dk_at dksX0_mistaken_1 3 rfl rfl)
theorem dX0_mistaken_28 : decode cX0_mistaken 28 = .ok (.iload_n 1, 1) := dk_27 (dk_at dksX0_mistaken_1 6 rfl rfl)
theorem dX0_mistaken_29 : decode cX0_mistaken 29 = .ok (.aaload, 1) := dk_50 (dk_at dksX0_mistaken_1 7 rfl rfl)
theorem dX0_mistaken_30 : decode cX0_mistaken 30 = .ok (.invokevirtual 199, 3) := dk_182 0 199 (dk_at dksX0_mistaken_1 8 rfl rfl)
theorem dX0_mistaken_33 : decode cX0_mistaken 33 = .ok (.aload_n 0, 1) := dk_42 (dk_at dksX0_mistaken_1 11 rfl rfl)
theorem dX0_mistaken_34 : decode cX0_mistaken 34 = .ok (.getfield 12, 3) := dk_180 0 12 (dk_at dksX0_mistaken_1 12 rfl rfl)
theorem dX0_mistaken_37 : decode cX0_mistaken 37 = .ok (.getfield 81, 3) := dk_180 0 81 (dk_at dksX0_mistaken_1 15 rfl rfl)
theorem dX0_mistaken_40 : decode cX0_mistaken 40 = .ok (.iload_n 2, 1) := dk_28 (dk_at dksX0_mistaken_1 18 rfl rfl)
theorem dX0_mistaken_41 : decode cX0_mistaken 41 = .ok (.aaload, 1) := dk_50 (dk_at dksX0_mistaken_1 19 rfl rfl)
theorem dX0_mistaken_42 : decode cX0_mistaken 42 = .ok (.invokevirtual 199, 3) := dk_182 0 199 (dk_at dksX0_mistaken_1 20 rfl rfl)
theorem dX0_mistaken_45 : decode cX0_mistaken 45 = .ok (.if_icmp .eq 5, 3) := dk_159 0 5 (dk_at dksX0_mistaken_2 0 rfl rfl)
theorem dX0_mistaken_48 : decode cX0_mistaken 48 = .ok (.iconst 0, 1) := dk_3 (dk_at dksX0_mistaken_2 3 rfl rfl)
theorem dX0_mistaken_49 : decode cX0_mistaken 49 = .ok (.ireturn, 1) := dk_172 (dk_at dksX0_mistaken_2 4 rfl rfl)
theorem dX0_mistaken_50 : decode cX0_mistaken 50 = .ok (.iconst 0, 1) := dk_3 (dk_at dksX0_mistaken_2 5 rfl rfl)
theorem dX0_mistaken_51 : decode cX0_mistaken 51 = .ok (.istore_n 3, 1) := dk_62 (dk_at dksX0_mistaken_2 6 rfl rfl)
theorem dX0_mistaken_52 : decode cX0_mistaken 52 = .ok (.iload_n 3, 1) := dk_29 (dk_at dksX0_mistaken_2 7 rfl rfl)
theorem dX0_mistaken_53 : decode cX0_mistaken 53 = .ok (.aload_n 0, 1) := dk_42 (dk_at dksX0_mistaken_2 8 rfl rfl)
theorem dX0_mistaken_54 : decode cX0_mistaken 54 = .ok (.getfield 12, 3) := dk_180 0 12 (dk_at dksX0_mistaken_2 9 rfl rfl)
theorem dX0_mistaken_57 : decode cX0_mistaken 57 = .ok (.getfield 81, 3) := dk_180 0 81 (dk_at dksX0_mistaken_2 12 rfl rfl)
theorem dX0_mistaken_60 : decode cX0_mistaken 60 = .ok (.iload_n 1, 1) := dk_27 (dk_at dksX0_mistaken_2 15 rfl rfl)
theorem dX0_mistaken_61 : decode cX0_mistaken 61 = .ok (.aaload, 1) := dk_50 (dk_at dksX0_mistaken_2 16 rfl rfl)
theorem dX0_mistaken_62 : decode cX0_mistaken 62 = .ok (.invokevirtual 199, 3) := dk_182 0 199 (dk_at dksX0_mistaken_2 17 rfl rfl)
theorem dX0_mistaken_65 : decode cX0_mistaken 65 = .ok (.if_icmp .ge 50, 3) := dk_162 0 50 (dk_at dksX0_mistaken_2 20 rfl rfl)
theorem dX0_mistaken_68 : decode cX0_mistaken 68 = .ok (.aload_n 0, 1) := dk_42 (dk_at dksX0_mistaken_2 23 rfl rfl)
theorem dX0_mistaken_69 : decode cX0_mistaken 69 = .ok (.aload_n 0, 1) := dk_42 (dk_at dksX0_mistaken_3 0 rfl rfl)
theorem dX0_mistaken_70 : decode cX0_mistaken 70 = .ok (.getfield 12, 3) := dk_180 0 12 (dk_at dksX0_mistaken_3 1 rfl rfl)
theorem dX0_mistaken_73 : decode cX0_mistaken 73 = .ok (.getfield 81, 3) := dk_180 0 81 (dk_at dksX0_mistaken_3 4 rfl rfl)
theorem dX0_mistaken_76 : decode cX0_mistaken 76 = .ok (.iload_n 1, 1) := dk_27 (dk_at dksX0_mistaken_3 7 rfl rfl)
theorem dX0_mistaken_77 : decode cX0_mistaken 77 = .ok (.aaload, 1) := dk_50 (dk_at dksX0_mistaken_3 8 rfl rfl)
theorem dX0_mistaken_78 : decode cX0_mistaken 78 = .ok (.invokevirtual 85, 3) := dk_182 0 85 (dk_at dksX0_mistaken_3 9 rfl rfl)
theorem dX0_mistaken_81 : decode cX0_mistaken 81 = .ok (.iload_n 3, 1) := dk_29 (dk_at dksX0_mistaken_3 12 rfl rfl)
theorem dX0_mistaken_82 : decode cX0_mistaken 82 = .ok (.iaload, 1) := dk_46 (dk_at dksX0_mistaken_3 13 rfl rfl)
theorem dX0_mistaken_83 : decode cX0_mistaken 83 = .ok (.invokevirtual 348, 3) := dk_182 1 92 (dk_at dksX0_mistaken_3 14 rfl rfl)
theorem dX0_mistaken_86 : decode cX0_mistaken 86 = .ok (.aload_n 0, 1) := dk_42 (dk_at dksX0_mistaken_3 17 rfl rfl)
theorem dX0_mistaken_87 : decode cX0_mistaken 87 = .ok (.aload_n 0, 1) := dk_42 (dk_at dksX0_mistaken_3 18 rfl rfl)
theorem dX0_mistaken_88 : decode cX0_mistaken 88 = .ok (.getfield 12, 3) := dk_180 0 12 (dk_at dksX0_mistaken_3 19 rfl rfl)
theorem dX0_mistaken_91 : decode cX0_mistaken 91 = .ok (.getfield 81, 3) := dk_180 0 81 (dk_at dksX0_mistaken_4 0 rfl rfl)
theorem dX0_mistaken_94 : decode cX0_mistaken 94 = .ok (.iload_n 2, 1) := dk_28 (dk_at dksX0_mistaken_4 3 rfl rfl)
theorem dX0_mistaken_95 : decode cX0_mistaken 95 = .ok (.aaload, 1) := dk_50 (dk_at dksX0_mistaken_4 4 rfl rfl)
theorem dX0_mistaken_96 : decode cX0_mistaken 96 = .ok (.invokevirtual 85, 3) := dk_182 0 85 (dk_at dksX0_mistaken_4 5 rfl rfl)
theorem dX0_mistaken_99 : decode cX0_mistaken 99 = .ok (.iload_n 3, 1) := dk_29 (dk_at dksX0_mistaken_4 8 rfl rfl)
theorem dX0_mistaken_100 : decode cX0_mistaken 100 = .ok (.iaload, 1) := dk_46 (dk_at dksX0_mistaken_4 9 rfl rfl)
theorem dX0_mistaken_101 : decode cX0_mistaken 101 = .ok (.invokevirtual 348, 3) := dk_182 1 92 (dk_at dksX0_mistaken_4 10 rfl rfl)
theorem dX0_mistaken_104 : decode cX0_mistaken 104 = .ok (.if_icmp .eq 5, 3) := dk_159 0 5 (dk_at dksX0_mistaken_4 13 rfl rfl)
theorem dX0_mistaken_107 : decode cX0_mistaken 107 = .ok (.iconst 0, 1) := dk_3 (dk_at dksX0_mistaken_4 16 rfl rfl)
theorem dX0_mistaken_108 : decode cX0_mistaken 108 = .ok (.ireturn, 1) := dk_172 (dk_at dksX0_mistaken_4 17 rfl rfl)
theorem dX0_mistaken_109 : decode cX0_mistaken 109 = .ok (.iinc 3 1, 3) := dk_132 3 1 (dk_at dksX0_mistaken_4 18 rfl rfl)
theorem dX0_mistaken_112 : decode cX0_mistaken 112 = .ok (.goto (-60), 3) := dk_167 255 196 (dk_at dksX0_mistaken_4 21 rfl rfl)
theorem dX0_mistaken_115 : decode cX0_mistaken 115 = .ok (.iconst 1, 1) := dk_4 (dk_at dksX0_mistaken_5 0 rfl rfl)
theorem dX0_mistaken_116 : decode cX0_mistaken 116 = .ok (.ireturn, 1) := dk_172 (dk_at dksX0_mistaken_5 1 rfl rfl)
def dkwX0_looks_1 : List UInt8 := [159, 0, 21, 16, 26, 42, 180, 0, 12, 180, 0, 149, 16, 55, 27, 96, 46, 96, 167, 0, 4, 27, 172]
abbrev dktX0_looks_1 : List UInt8 := dkwX0_looks_1 ++ []
def dkwX0_looks_0 : List UInt8 := [42, 180, 0, 12, 27, 182, 0, 165, 153, 0, 37, 42, 180, 0, 12, 180, 0, 149, 16, 55, 27, 96, 46, 2]
abbrev dktX0_looks_0 : List UInt8 := dkwX0_looks_0 ++ dktX0_looks_1
theorem dksX0_looks_0 : cX0_looks.data.toList.drop 0 = dktX0_looks_0 := by decide +kernel
theorem dksX0_looks_1 : cX0_looks.data.toList.drop 24 = dktX0_looks_1 := dk_seg dksX0_looks_0 24 rfl rfl
theorem dX0_looks_0 : decode cX0_looks 0 = .ok (.aload_n 0, 1) := dk_42 (dk_at dksX0_looks_0 0 rfl rfl)
theorem dX0_looks_1 : decode cX0_looks 1 = .ok (.getfield 12, 3) := dk_180 0 12 (dk_at dksX0_looks_0 1 rfl rfl)
theorem dX0_looks_4 : decode cX0_looks 4 = .ok (.iload_n 1, 1) := dk_27 (dk_at dksX0_looks_0 4 rfl rfl)
theorem dX0_looks_5 : decode cX0_looks 5 = .ok (.invokevirtual 165, 3) := dk_182 0 165 (dk_at dksX0_looks_0 5 rfl rfl)
theorem dX0_looks_8 : decode cX0_looks 8 = .ok (.ifCond .eq 37, 3) := dk_153 0 37 (dk_at dksX0_looks_0 8 rfl rfl)
theorem dX0_looks_11 : decode cX0_looks 11 = .ok (.aload_n 0, 1) := dk_42 (dk_at dksX0_looks_0 11 rfl rfl)
theorem dX0_looks_12 : decode cX0_looks 12 = .ok (.getfield 12, 3) := dk_180 0 12 (dk_at dksX0_looks_0 12 rfl rfl)
theorem dX0_looks_15 : decode cX0_looks 15 = .ok (.getfield 149, 3) := dk_180 0 149 (dk_at dksX0_looks_0 15 rfl rfl)
theorem dX0_looks_18 : decode cX0_looks 18 = .ok (.bipush 55, 2) := dk_16 55 (dk_at dksX0_looks_0 18 rfl rfl)
theorem dX0_looks_20 : decode cX0_looks 20 = .ok (.iload_n 1, 1) := dk_27 (dk_at dksX0_looks_0 20 rfl rfl)
theorem dX0_looks_21 : decode cX0_looks 21 = .ok (.iadd, 1) := dk_96 (dk_at dksX0_looks_0 21 rfl rfl)
theorem dX0_looks_22 : decode cX0_looks 22 = .ok (.iaload, 1) := dk_46 (dk_at dksX0_looks_0 22 rfl rfl)
theorem dX0_looks_23 : decode cX0_looks 23 = .ok (.iconst (-1), 1) := dk_2 (dk_at dksX0_looks_0 23 rfl rfl)
theorem dX0_looks_24 : decode cX0_looks 24 = .ok (.if_icmp .eq 21, 3) := dk_159 0 21 (dk_at dksX0_looks_1 0 rfl rfl)
theorem dX0_looks_27 : decode cX0_looks 27 = .ok (.bipush 26, 2) := dk_16 26 (dk_at dksX0_looks_1 3 rfl rfl)
theorem dX0_looks_29 : decode cX0_looks 29 = .ok (.aload_n 0, 1) := dk_42 (dk_at dksX0_looks_1 5 rfl rfl)
theorem dX0_looks_30 : decode cX0_looks 30 = .ok (.getfield 12, 3) := dk_180 0 12 (dk_at dksX0_looks_1 6 rfl rfl)
theorem dX0_looks_33 : decode cX0_looks 33 = .ok (.getfield 149, 3) := dk_180 0 149 (dk_at dksX0_looks_1 9 rfl rfl)
theorem dX0_looks_36 : decode cX0_looks 36 = .ok (.bipush 55, 2) := dk_16 55 (dk_at dksX0_looks_1 12 rfl rfl)
theorem dX0_looks_38 : decode cX0_looks 38 = .ok (.iload_n 1, 1) := dk_27 (dk_at dksX0_looks_1 14 rfl rfl)
theorem dX0_looks_39 : decode cX0_looks 39 = .ok (.iadd, 1) := dk_96 (dk_at dksX0_looks_1 15 rfl rfl)
theorem dX0_looks_40 : decode cX0_looks 40 = .ok (.iaload, 1) := dk_46 (dk_at dksX0_looks_1 16 rfl rfl)
theorem dX0_looks_41 : decode cX0_looks 41 = .ok (.iadd, 1) := dk_96 (dk_at dksX0_looks_1 17 rfl rfl)
theorem dX0_looks_42 : decode cX0_looks 42 = .ok (.goto 4, 3) := dk_167 0 4 (dk_at dksX0_looks_1 18 rfl rfl)
theorem dX0_looks_45 : decode cX0_looks 45 = .ok (.iload_n 1, 1) := dk_27 (dk_at dksX0_looks_1 21 rfl rfl)
theorem dX0_looks_46 : decode cX0_looks 46 = .ok (.ireturn, 1) := dk_172 (dk_at dksX0_looks_1 22 rfl rfl)
def dkwX0_said_5 : List UInt8 := [54, 4, 132, 5, 1, 167, 255, 215, 21, 4, 172]
abbrev dktX0_said_5 : List UInt8 := dkwX0_said_5 ++ []
def dkwX0_said_4 : List UInt8 := [162, 0, 32, 21, 4, 42, 180, 0, 12, 180, 0, 81, 42, 180, 0, 34, 21, 5, 46, 50, 182, 0, 199, 96]
abbrev dktX0_said_4 : List UInt8 := dkwX0_said_4 ++ dktX0_said_5
def dkwX0_said_3 : List UInt8 := [180, 0, 34, 29, 46, 172, 3, 54, 4, 3, 54, 5, 21, 5, 42, 180, 0, 12, 180, 0, 108, 27, 50, 190]
abbrev dktX0_said_3 : List UInt8 := dkwX0_said_3 ++ dktX0_said_4
def dkwX0_said_2 : List UInt8 := [180, 0, 12, 182, 0, 246, 167, 0, 4, 28, 182, 0, 249, 154, 0, 5, 2, 172, 29, 2, 159, 0, 10, 42]
abbrev dktX0_said_2 : List UInt8 := dkwX0_said_2 ++ dktX0_said_3
def dkwX0_said_1 : List UInt8 := [180, 0, 108, 27, 50, 190, 4, 100, 184, 0, 62, 153, 0, 27, 42, 27, 28, 2, 160, 0, 13, 42]
abbrev dktX0_said_1 : List UInt8 := dkwX0_said_1 ++ dktX0_said_2
def dkwX0_said_0 : List UInt8 := [42, 27, 182, 0, 243, 153, 0, 57, 28, 2, 18, 69, 184, 0, 62, 153, 0, 47, 29, 2, 42, 180, 0, 12]
abbrev dktX0_said_0 : List UInt8 := dkwX0_said_0 ++ dktX0_said_1
theorem dksX0_said_0 : cX0_said.data.toList.drop 0 = dktX0_said_0 := by decide +kernel
theorem dksX0_said_1 : cX0_said.data.toList.drop 24 = dktX0_said_1 := dk_seg dksX0_said_0 24 rfl rfl
theorem dksX0_said_2 : cX0_said.data.toList.drop 46 = dktX0_said_2 := dk_seg dksX0_said_1 22 rfl rfl
theorem dksX0_said_3 : cX0_said.data.toList.drop 70 = dktX0_said_3 := dk_seg dksX0_said_2 24 rfl rfl
theorem dksX0_said_4 : cX0_said.data.toList.drop 94 = dktX0_said_4 := dk_seg dksX0_said_3 24 rfl rfl
theorem dksX0_said_5 : cX0_said.data.toList.drop 118 = dktX0_said_5 := dk_seg dksX0_said_4 24 rfl rfl
theorem dX0_said_0 : decode cX0_said 0 = .ok (.aload_n 0, 1) := dk_42 (dk_at dksX0_said_0 0 rfl rfl)
theorem dX0_said_1 : decode cX0_said 1 = .ok (.iload_n 1, 1) := dk_27 (dk_at dksX0_said_0 1 rfl rfl)
theorem dX0_said_2 : decode cX0_said 2 = .ok (.invokevirtual 243, 3) := dk_182 0 243 (dk_at dksX0_said_0 2 rfl rfl)
theorem dX0_said_5 : decode cX0_said 5 = .ok (.ifCond .eq 57, 3) := dk_153 0 57 (dk_at dksX0_said_0 5 rfl rfl)
theorem dX0_said_8 : decode cX0_said 8 = .ok (.iload_n 2, 1) := dk_28 (dk_at dksX0_said_0 8 rfl rfl)
theorem dX0_said_9 : decode cX0_said 9 = .ok (.iconst (-1), 1) := dk_2 (dk_at dksX0_said_0 9 rfl rfl)
theorem dX0_said_10 : decode cX0_said 10 = .ok (.ldc 69, 2) := dk_18 69 (dk_at dksX0_said_0 10 rfl rfl)
theorem dX0_said_12 : decode cX0_said 12 = .ok (.invokestatic 62, 3) := dk_184 0 62 (dk_at dksX0_said_0 12 rfl rfl)
theorem dX0_said_15 : decode cX0_said 15 = .ok (.ifCond .eq 47, 3) := dk_153 0 47 (dk_at dksX0_said_0 15 rfl rfl)
theorem dX0_said_18 : decode cX0_said 18 = .ok (.iload_n 3, 1) := dk_29 (dk_at dksX0_said_0 18 rfl rfl)
theorem dX0_said_19 : decode cX0_said 19 = .ok (.iconst (-1), 1) := dk_2 (dk_at dksX0_said_0 19 rfl rfl)
theorem dX0_said_20 : decode cX0_said 20 = .ok (.aload_n 0, 1) := dk_42 (dk_at dksX0_said_0 20 rfl rfl)
theorem dX0_said_21 : decode cX0_said 21 = .ok (.getfield 12, 3) := dk_180 0 12 (dk_at dksX0_said_0 21 rfl rfl)
theorem dX0_said_24 : decode cX0_said 24 = .ok (.getfield 108, 3) := dk_180 0 108 (dk_at dksX0_said_1 0 rfl rfl)
theorem dX0_said_27 : decode cX0_said 27 = .ok (.iload_n 1, 1) := dk_27 (dk_at dksX0_said_1 3 rfl rfl)
theorem dX0_said_28 : decode cX0_said 28 = .ok (.aaload, 1) := dk_50 (dk_at dksX0_said_1 4 rfl rfl)
theorem dX0_said_29 : decode cX0_said 29 = .ok (.arraylength, 1) := dk_190 (dk_at dksX0_said_1 5 rfl rfl)
theorem dX0_said_30 : decode cX0_said 30 = .ok (.iconst 1, 1) := dk_4 (dk_at dksX0_said_1 6 rfl rfl)
theorem dX0_said_31 : decode cX0_said 31 = .ok (.isub, 1) := dk_100 (dk_at dksX0_said_1 7 rfl rfl)
theorem dX0_said_32 : decode cX0_said 32 = .ok (.invokestatic 62, 3) := dk_184 0 62 (dk_at dksX0_said_1 8 rfl rfl)
theorem dX0_said_35 : decode cX0_said 35 = .ok (.ifCond .eq 27, 3) := dk_153 0 27 (dk_at dksX0_said_1 11 rfl rfl)
theorem dX0_said_38 : decode cX0_said 38 = .ok (.aload_n 0, 1) := dk_42 (dk_at dksX0_said_1 14 rfl rfl)
theorem dX0_said_39 : decode cX0_said 39 = .ok (.iload_n 1, 1) := dk_27 (dk_at dksX0_said_1 15 rfl rfl)
theorem dX0_said_40 : decode cX0_said 40 = .ok (.iload_n 2, 1) := dk_28 (dk_at dksX0_said_1 16 rfl rfl)
theorem dX0_said_41 : decode cX0_said 41 = .ok (.iconst (-1), 1) := dk_2 (dk_at dksX0_said_1 17 rfl rfl)
theorem dX0_said_42 : decode cX0_said 42 = .ok (.if_icmp .ne 13, 3) := dk_160 0 13 (dk_at dksX0_said_1 18 rfl rfl)
theorem dX0_said_45 : decode cX0_said 45 = .ok (.aload_n 0, 1) := dk_42 (dk_at dksX0_said_1 21 rfl rfl)
theorem dX0_said_46 : decode cX0_said 46 = .ok (.getfield 12, 3) := dk_180 0 12 (dk_at dksX0_said_2 0 rfl rfl)
theorem dX0_said_49 : decode cX0_said 49 = .ok (.invokevirtual 246, 3) := dk_182 0 246 (dk_at dksX0_said_2 3 rfl rfl)
theorem dX0_said_52 : decode cX0_said 52 = .ok (.goto 4, 3) := dk_167 0 4 (dk_at dksX0_said_2 6 rfl rfl)
theorem dX0_said_55 : decode cX0_said 55 = .ok (.iload_n 2, 1) := dk_28 (dk_at dksX0_said_2 9 rfl rfl)
theorem dX0_said_56 : decode cX0_said 56 = .ok (.invokevirtual 249, 3) := dk_182 0 249 (dk_at dksX0_said_2 10 rfl rfl)
theorem dX0_said_59 : decode cX0_said 59 = .ok (.ifCond .ne 5, 3) := dk_154 0 5 (dk_at dksX0_said_2 13 rfl rfl)
theorem dX0_said_62 : decode cX0_said 62 = .ok (.iconst (-1), 1) := dk_2 (dk_at dksX0_said_2 16 rfl rfl)
theorem dX0_said_63 : decode cX0_said 63 = .ok (.ireturn, 1) := dk_172 (dk_at dksX0_said_2 17 rfl rfl)
theorem dX0_said_64 : decode cX0_said 64 = .ok (.iload_n 3, 1) := dk_29 (dk_at dksX0_said_2 18 rfl rfl)
theorem dX0_said_65 : decode cX0_said 65 = .ok (.iconst (-1), 1) := dk_2 (dk_at dksX0_said_2 19 rfl rfl)
theorem dX0_said_66 : decode cX0_said 66 = .ok (.if_icmp .eq 10, 3) := dk_159 0 10 (dk_at dksX0_said_2 20 rfl rfl)
theorem dX0_said_69 : decode cX0_said 69 = .ok (.aload_n 0, 1) := dk_42 (dk_at dksX0_said_2 23 rfl rfl)
theorem dX0_said_70 : decode cX0_said 70 = .ok (.getfield 34, 3) := dk_180 0 34 (dk_at dksX0_said_3 0 rfl rfl)
theorem dX0_said_73 : decode cX0_said 73 = .ok (.iload_n 3, 1) := dk_29 (dk_at dksX0_said_3 3 rfl rfl)
theorem dX0_said_74 : decode cX0_said 74 = .ok (.iaload, 1) := dk_46 (dk_at dksX0_said_3 4 rfl rfl)
theorem dX0_said_75 : decode cX0_said 75 = .ok (.ireturn, 1) := dk_172 (dk_at dksX0_said_3 5 rfl rfl)
theorem dX0_said_76 : decode cX0_said 76 = .ok (.iconst 0, 1) := dk_3 (dk_at dksX0_said_3 6 rfl rfl)
theorem dX0_said_77 : decode cX0_said 77 = .ok (.istore 4, 2) := dk_54 4 (dk_at dksX0_said_3 7 rfl rfl)
theorem dX0_said_79 : decode cX0_said 79 = .ok (.iconst 0, 1) := dk_3 (dk_at dksX0_said_3 9 rfl rfl)
theorem dX0_said_80 : decode cX0_said 80 = .ok (.istore 5, 2) := dk_54 5 (dk_at dksX0_said_3 10 rfl rfl)
theorem dX0_said_82 : decode cX0_said 82 = .ok (.iload 5, 2) := dk_21 5 (dk_at dksX0_said_3 12 rfl rfl)
theorem dX0_said_84 : decode cX0_said 84 = .ok (.aload_n 0, 1) := dk_42 (dk_at dksX0_said_3 14 rfl rfl)
theorem dX0_said_85 : decode cX0_said 85 = .ok (.getfield 12, 3) := dk_180 0 12 (dk_at dksX0_said_3 15 rfl rfl)
theorem dX0_said_88 : decode cX0_said 88 = .ok (.getfield 108, 3) := dk_180 0 108 (dk_at dksX0_said_3 18 rfl rfl)
theorem dX0_said_91 : decode cX0_said 91 = .ok (.iload_n 1, 1) := dk_27 (dk_at dksX0_said_3 21 rfl rfl)
theorem dX0_said_92 : decode cX0_said 92 = .ok (.aaload, 1) := dk_50 (dk_at dksX0_said_3 22 rfl rfl)
theorem dX0_said_93 : decode cX0_said 93 = .ok (.arraylength, 1) := dk_190 (dk_at dksX0_said_3 23 rfl rfl)
theorem dX0_said_94 : decode cX0_said 94 = .ok (.if_icmp .ge 32, 3) := dk_162 0 32 (dk_at dksX0_said_4 0 rfl rfl)
theorem dX0_said_97 : decode cX0_said 97 = .ok (.iload 4, 2) := dk_21 4 (dk_at dksX0_said_4 3 rfl rfl)
theorem dX0_said_99 : decode cX0_said 99 = .ok (.aload_n 0, 1) := dk_42 (dk_at dksX0_said_4 5 rfl rfl)
theorem dX0_said_100 : decode cX0_said 100 = .ok (.getfield 12, 3) := dk_180 0 12 (dk_at dksX0_said_4 6 rfl rfl)
theorem dX0_said_103 : decode cX0_said 103 = .ok (.getfield 81, 3) := dk_180 0 81 (dk_at dksX0_said_4 9 rfl rfl)
theorem dX0_said_106 : decode cX0_said 106 = .ok (.aload_n 0, 1) := dk_42 (dk_at dksX0_said_4 12 rfl rfl)
theorem dX0_said_107 : decode cX0_said 107 = .ok (.getfield 34, 3) := dk_180 0 34 (dk_at dksX0_said_4 13 rfl rfl)
theorem dX0_said_110 : decode cX0_said 110 = .ok (.iload 5, 2) := dk_21 5 (dk_at dksX0_said_4 16 rfl rfl)
theorem dX0_said_112 : decode cX0_said 112 = .ok (.iaload, 1) := dk_46 (dk_at dksX0_said_4 18 rfl rfl)
theorem dX0_said_113 : decode cX0_said 113 = .ok (.aaload, 1) := dk_50 (dk_at dksX0_said_4 19 rfl rfl)
theorem dX0_said_114 : decode cX0_said 114 = .ok (.invokevirtual 199, 3) := dk_182 0 199 (dk_at dksX0_said_4 20 rfl rfl)
theorem dX0_said_117 : decode cX0_said 117 = .ok (.iadd, 1) := dk_96 (dk_at dksX0_said_4 23 rfl rfl)
theorem dX0_said_118 : decode cX0_said 118 = .ok (.istore 4, 2) := dk_54 4 (dk_at dksX0_said_5 0 rfl rfl)
theorem dX0_said_120 : decode cX0_said 120 = .ok (.iinc 5 1, 3) := dk_132 5 1 (dk_at dksX0_said_5 2 rfl rfl)
theorem dX0_said_123 : decode cX0_said 123 = .ok (.goto (-41), 3) := dk_167 255 215 (dk_at dksX0_said_5 5 rfl rfl)
theorem dX0_said_126 : decode cX0_said 126 = .ok (.iload 4, 2) := dk_21 4 (dk_at dksX0_said_5 8 rfl rfl)
theorem dX0_said_128 : decode cX0_said 128 = .ok (.ireturn, 1) := dk_172 (dk_at dksX0_said_5 10 rfl rfl)
def dkwX0_dear_3 : List UInt8 := [28, 172]
abbrev dktX0_dear_3 : List UInt8 := dkwX0_dear_3 ++ []
def dkwX0_dear_2 : List UInt8 := [180, 0, 12, 180, 0, 81, 42, 180, 0, 34, 29, 46, 50, 182, 1, 98, 96, 61, 132, 3, 1, 167, 255, 218]
abbrev dktX0_dear_2 : List UInt8 := dkwX0_dear_2 ++ dktX0_dear_3
def dkwX0_dear_1 : List UInt8 := [172, 3, 61, 3, 62, 29, 42, 180, 0, 12, 180, 0, 108, 27, 50, 190, 162, 0, 30, 28, 42, 42]
abbrev dktX0_dear_1 : List UInt8 := dkwX0_dear_1 ++ dktX0_dear_2
def dkwX0_dear_0 : List UInt8 := [42, 27, 182, 0, 243, 153, 0, 18, 42, 27, 42, 180, 0, 12, 182, 0, 246, 182, 0, 249, 154, 0, 5, 2]
abbrev dktX0_dear_0 : List UInt8 := dkwX0_dear_0 ++ dktX0_dear_1
theorem dksX0_dear_0 : cX0_dear.data.toList.drop 0 = dktX0_dear_0 := by decide +kernel
theorem dksX0_dear_1 : cX0_dear.data.toList.drop 24 = dktX0_dear_1 := dk_seg dksX0_dear_0 24 rfl rfl
theorem dksX0_dear_2 : cX0_dear.data.toList.drop 46 = dktX0_dear_2 := dk_seg dksX0_dear_1 22 rfl rfl
theorem dksX0_dear_3 : cX0_dear.data.toList.drop 70 = dktX0_dear_3 := dk_seg dksX0_dear_2 24 rfl rfl
theorem dX0_dear_0 : decode cX0_dear 0 = .ok (.aload_n 0, 1) := dk_42 (dk_at dksX0_dear_0 0 rfl rfl)
theorem dX0_dear_1 : decode cX0_dear 1 = .ok (.iload_n 1, 1) := dk_27 (dk_at dksX0_dear_0 1 rfl rfl)
theorem dX0_dear_2 : decode cX0_dear 2 = .ok (.invokevirtual 243, 3) := dk_182 0 243 (dk_at dksX0_dear_0 2 rfl rfl)
theorem dX0_dear_5 : decode cX0_dear 5 = .ok (.ifCond .eq 18, 3) := dk_153 0 18 (dk_at dksX0_dear_0 5 rfl rfl)
theorem dX0_dear_8 : decode cX0_dear 8 = .ok (.aload_n 0, 1) := dk_42 (dk_at dksX0_dear_0 8 rfl rfl)
theorem dX0_dear_9 : decode cX0_dear 9 = .ok (.iload_n 1, 1) := dk_27 (dk_at dksX0_dear_0 9 rfl rfl)
theorem dX0_dear_10 : decode cX0_dear 10 = .ok (.aload_n 0, 1) := dk_42 (dk_at dksX0_dear_0 10 rfl rfl)
theorem dX0_dear_11 : decode cX0_dear 11 = .ok (.getfield 12, 3) := dk_180 0 12 (dk_at dksX0_dear_0 11 rfl rfl)
theorem dX0_dear_14 : decode cX0_dear 14 = .ok (.invokevirtual 246, 3) := dk_182 0 246 (dk_at dksX0_dear_0 14 rfl rfl)
theorem dX0_dear_17 : decode cX0_dear 17 = .ok (.invokevirtual 249, 3) := dk_182 0 249 (dk_at dksX0_dear_0 17 rfl rfl)
theorem dX0_dear_20 : decode cX0_dear 20 = .ok (.ifCond .ne 5, 3) := dk_154 0 5 (dk_at dksX0_dear_0 20 rfl rfl)
theorem dX0_dear_23 : decode cX0_dear 23 = .ok (.iconst (-1), 1) := dk_2 (dk_at dksX0_dear_0 23 rfl rfl)
theorem dX0_dear_24 : decode cX0_dear 24 = .ok (.ireturn, 1) := dk_172 (dk_at dksX0_dear_1 0 rfl rfl)
theorem dX0_dear_25 : decode cX0_dear 25 = .ok (.iconst 0, 1) := dk_3 (dk_at dksX0_dear_1 1 rfl rfl)
theorem dX0_dear_26 : decode cX0_dear 26 = .ok (.istore_n 2, 1) := dk_61 (dk_at dksX0_dear_1 2 rfl rfl)
theorem dX0_dear_27 : decode cX0_dear 27 = .ok (.iconst 0, 1) := dk_3 (dk_at dksX0_dear_1 3 rfl rfl)
theorem dX0_dear_28 : decode cX0_dear 28 = .ok (.istore_n 3, 1) := dk_62 (dk_at dksX0_dear_1 4 rfl rfl)
theorem dX0_dear_29 : decode cX0_dear 29 = .ok (.iload_n 3, 1) := dk_29 (dk_at dksX0_dear_1 5 rfl rfl)
theorem dX0_dear_30 : decode cX0_dear 30 = .ok (.aload_n 0, 1) := dk_42 (dk_at dksX0_dear_1 6 rfl rfl)
theorem dX0_dear_31 : decode cX0_dear 31 = .ok (.getfield 12, 3) := dk_180 0 12 (dk_at dksX0_dear_1 7 rfl rfl)
theorem dX0_dear_34 : decode cX0_dear 34 = .ok (.getfield 108, 3) := dk_180 0 108 (dk_at dksX0_dear_1 10 rfl rfl)
theorem dX0_dear_37 : decode cX0_dear 37 = .ok (.iload_n 1, 1) := dk_27 (dk_at dksX0_dear_1 13 rfl rfl)
theorem dX0_dear_38 : decode cX0_dear 38 = .ok (.aaload, 1) := dk_50 (dk_at dksX0_dear_1 14 rfl rfl)
theorem dX0_dear_39 : decode cX0_dear 39 = .ok (.arraylength, 1) := dk_190 (dk_at dksX0_dear_1 15 rfl rfl)
theorem dX0_dear_40 : decode cX0_dear 40 = .ok (.if_icmp .ge 30, 3) := dk_162 0 30 (dk_at dksX0_dear_1 16 rfl rfl)
theorem dX0_dear_43 : decode cX0_dear 43 = .ok (.iload_n 2, 1) := dk_28 (dk_at dksX0_dear_1 19 rfl rfl)
theorem dX0_dear_44 : decode cX0_dear 44 = .ok (.aload_n 0, 1) := dk_42 (dk_at dksX0_dear_1 20 rfl rfl)
theorem dX0_dear_45 : decode cX0_dear 45 = .ok (.aload_n 0, 1) := dk_42 (dk_at dksX0_dear_1 21 rfl rfl)
theorem dX0_dear_46 : decode cX0_dear 46 = .ok (.getfield 12, 3) := dk_180 0 12 (dk_at dksX0_dear_2 0 rfl rfl)
theorem dX0_dear_49 : decode cX0_dear 49 = .ok (.getfield 81, 3) := dk_180 0 81 (dk_at dksX0_dear_2 3 rfl rfl)
theorem dX0_dear_52 : decode cX0_dear 52 = .ok (.aload_n 0, 1) := dk_42 (dk_at dksX0_dear_2 6 rfl rfl)
theorem dX0_dear_53 : decode cX0_dear 53 = .ok (.getfield 34, 3) := dk_180 0 34 (dk_at dksX0_dear_2 7 rfl rfl)
theorem dX0_dear_56 : decode cX0_dear 56 = .ok (.iload_n 3, 1) := dk_29 (dk_at dksX0_dear_2 10 rfl rfl)
theorem dX0_dear_57 : decode cX0_dear 57 = .ok (.iaload, 1) := dk_46 (dk_at dksX0_dear_2 11 rfl rfl)
theorem dX0_dear_58 : decode cX0_dear 58 = .ok (.aaload, 1) := dk_50 (dk_at dksX0_dear_2 12 rfl rfl)
theorem dX0_dear_59 : decode cX0_dear 59 = .ok (.invokevirtual 354, 3) := dk_182 1 98 (dk_at dksX0_dear_2 13 rfl rfl)
theorem dX0_dear_62 : decode cX0_dear 62 = .ok (.iadd, 1) := dk_96 (dk_at dksX0_dear_2 16 rfl rfl)
theorem dX0_dear_63 : decode cX0_dear 63 = .ok (.istore_n 2, 1) := dk_61 (dk_at dksX0_dear_2 17 rfl rfl)
theorem dX0_dear_64 : decode cX0_dear 64 = .ok (.iinc 3 1, 3) := dk_132 3 1 (dk_at dksX0_dear_2 18 rfl rfl)
theorem dX0_dear_67 : decode cX0_dear 67 = .ok (.goto (-38), 3) := dk_167 255 218 (dk_at dksX0_dear_2 21 rfl rfl)
theorem dX0_dear_70 : decode cX0_dear 70 = .ok (.iload_n 2, 1) := dk_28 (dk_at dksX0_dear_3 0 rfl rfl)
theorem dX0_dear_71 : decode cX0_dear 71 = .ok (.ireturn, 1) := dk_172 (dk_at dksX0_dear_3 1 rfl rfl)
def dkwX0_priceOf_5 : List UInt8 := [185, 0, 207, 2, 0, 184, 0, 213, 184, 0, 219, 136, 172]
abbrev dktX0_priceOf_5 : List UInt8 := dkwX0_priceOf_5 ++ []
def dkwX0_priceOf_4 : List UInt8 := [79, 42, 180, 0, 30, 16, 10, 28, 79, 9, 20, 0, 205, 42, 182, 0, 168, 180, 0, 195, 42, 180, 0, 30]
abbrev dktX0_priceOf_4 : List UInt8 := dkwX0_priceOf_4 ++ dktX0_priceOf_5
def dkwX0_priceOf_3 : List UInt8 := [167, 255, 220, 42, 180, 0, 30, 16, 8, 43, 182, 0, 199, 79, 42, 180, 0, 30, 16, 9, 43, 182, 0, 202]
abbrev dktX0_priceOf_3 : List UInt8 := dkwX0_priceOf_3 ++ dktX0_priceOf_4
def dkwX0_priceOf_2 : List UInt8 := [28, 42, 180, 0, 12, 21, 6, 182, 0, 165, 153, 0, 7, 4, 167, 0, 4, 3, 96, 61, 132, 5, 1]
abbrev dktX0_priceOf_2 : List UInt8 := dkwX0_priceOf_2 ++ dktX0_priceOf_3
def dkwX0_priceOf_1 : List UInt8 := [182, 0, 85, 78, 45, 190, 54, 4, 3, 54, 5, 21, 5, 21, 4, 162, 0, 35, 45, 21, 5, 46, 54, 6]
abbrev dktX0_priceOf_1 : List UInt8 := dkwX0_priceOf_1 ++ dktX0_priceOf_2
def dkwX0_priceOf_0 : List UInt8 := [42, 182, 0, 168, 180, 0, 195, 199, 0, 10, 43, 182, 0, 199, 4, 96, 172, 42, 182, 0, 183, 3, 61, 43]
abbrev dktX0_priceOf_0 : List UInt8 := dkwX0_priceOf_0 ++ dktX0_priceOf_1
theorem dksX0_priceOf_0 : cX0_priceOf.data.toList.drop 0 = dktX0_priceOf_0 := by decide +kernel
theorem dksX0_priceOf_1 : cX0_priceOf.data.toList.drop 24 = dktX0_priceOf_1 := dk_seg dksX0_priceOf_0 24 rfl rfl
theorem dksX0_priceOf_2 : cX0_priceOf.data.toList.drop 48 = dktX0_priceOf_2 := dk_seg dksX0_priceOf_1 24 rfl rfl
theorem dksX0_priceOf_3 : cX0_priceOf.data.toList.drop 71 = dktX0_priceOf_3 := dk_seg dksX0_priceOf_2 23 rfl rfl
theorem dksX0_priceOf_4 : cX0_priceOf.data.toList.drop 95 = dktX0_priceOf_4 := dk_seg dksX0_priceOf_3 24 rfl rfl
theorem dksX0_priceOf_5 : cX0_priceOf.data.toList.drop 119 = dktX0_priceOf_5 := dk_seg dksX0_priceOf_4 24 rfl rfl
theorem dX0_priceOf_0 : decode cX0_priceOf 0 = .ok (.aload_n 0, 1) := dk_42 (dk_at dksX0_priceOf_0 0 rfl rfl)
theorem dX0_priceOf_1 : decode cX0_priceOf 1 = .ok (.invokevirtual 168, 3) := dk_182 0 168 (dk_at dksX0_priceOf_0 1 rfl rfl)
theorem dX0_priceOf_4 : decode cX0_priceOf 4 = .ok (.getfield 195, 3) := dk_180 0 195 (dk_at dksX0_priceOf_0 4 rfl rfl)
theorem dX0_priceOf_7 : decode cX0_priceOf 7 = .ok (.ifnonnull 10, 3) := dk_199 0 10 (dk_at dksX0_priceOf_0 7 rfl rfl)
theorem dX0_priceOf_10 : decode cX0_priceOf 10 = .ok (.aload_n 1, 1) := dk_43 (dk_at dksX0_priceOf_0 10 rfl rfl)
theorem dX0_priceOf_11 : decode cX0_priceOf 11 = .ok (.invokevirtual 199, 3) := dk_182 0 199 (dk_at dksX0_priceOf_0 11 rfl rfl)
theorem dX0_priceOf_14 : decode cX0_priceOf 14 = .ok (.iconst 1, 1) := dk_4 (dk_at dksX0_priceOf_0 14 rfl rfl)
theorem dX0_priceOf_15 : decode cX0_priceOf 15 = .ok (.iadd, 1) := dk_96 (dk_at dksX0_priceOf_0 15 rfl rfl)
theorem dX0_priceOf_16 : decode cX0_priceOf 16 = .ok (.ireturn, 1) := dk_172 (dk_at dksX0_priceOf_0 16 rfl rfl)
theorem dX0_priceOf_17 : decode cX0_priceOf 17 = .ok (.aload_n 0, 1) := dk_42 (dk_at dksX0_priceOf_0 17 rfl rfl)
theorem dX0_priceOf_18 : decode cX0_priceOf 18 = .ok (.invokevirtual 183, 3) := dk_182 0 183 (dk_at dksX0_priceOf_0 18 rfl rfl)
theorem dX0_priceOf_21 : decode cX0_priceOf 21 = .ok (.iconst 0, 1) := dk_3 (dk_at dksX0_priceOf_0 21 rfl rfl)
theorem dX0_priceOf_22 : decode cX0_priceOf 22 = .ok (.istore_n 2, 1) := dk_61 (dk_at dksX0_priceOf_0 22 rfl rfl)
theorem dX0_priceOf_23 : decode cX0_priceOf 23 = .ok (.aload_n 1, 1) := dk_43 (dk_at dksX0_priceOf_0 23 rfl rfl)
theorem dX0_priceOf_24 : decode cX0_priceOf 24 = .ok (.invokevirtual 85, 3) := dk_182 0 85 (dk_at dksX0_priceOf_1 0 rfl rfl)
theorem dX0_priceOf_27 : decode cX0_priceOf 27 = .ok (.astore_n 3, 1) := dk_78 (dk_at dksX0_priceOf_1 3 rfl rfl)
theorem dX0_priceOf_28 : decode cX0_priceOf 28 = .ok (.aload_n 3, 1) := dk_45 (dk_at dksX0_priceOf_1 4 rfl rfl)
theorem dX0_priceOf_29 : decode cX0_priceOf 29 = .ok (.arraylength, 1) := dk_190 (dk_at dksX0_priceOf_1 5 rfl rfl)
theorem dX0_priceOf_30 : decode cX0_priceOf 30 = .ok (.istore 4, 2) := dk_54 4 (dk_at dksX0_priceOf_1 6 rfl rfl)
theorem dX0_priceOf_32 : decode cX0_priceOf 32 = .ok (.iconst 0, 1) := dk_3 (dk_at dksX0_priceOf_1 8 rfl rfl)
theorem dX0_priceOf_33 : decode cX0_priceOf 33 = .ok (.istore 5, 2) := dk_54 5 (dk_at dksX0_priceOf_1 9 rfl rfl)
theorem dX0_priceOf_35 : decode cX0_priceOf 35 = .ok (.iload 5, 2) := dk_21 5 (dk_at dksX0_priceOf_1 11 rfl rfl)
theorem dX0_priceOf_37 : decode cX0_priceOf 37 = .ok (.iload 4, 2) := dk_21 4 (dk_at dksX0_priceOf_1 13 rfl rfl)
theorem dX0_priceOf_39 : decode cX0_priceOf 39 = .ok (.if_icmp .ge 35, 3) := dk_162 0 35 (dk_at dksX0_priceOf_1 15 rfl rfl)
theorem dX0_priceOf_42 : decode cX0_priceOf 42 = .ok (.aload_n 3, 1) := dk_45 (dk_at dksX0_priceOf_1 18 rfl rfl)
theorem dX0_priceOf_43 : decode cX0_priceOf 43 = .ok (.iload 5, 2) := dk_21 5 (dk_at dksX0_priceOf_1 19 rfl rfl)
theorem dX0_priceOf_45 : decode cX0_priceOf 45 = .ok (.iaload, 1) := dk_46 (dk_at dksX0_priceOf_1 21 rfl rfl)
theorem dX0_priceOf_46 : decode cX0_priceOf 46 = .ok (.istore 6, 2) := dk_54 6 (dk_at dksX0_priceOf_1 22 rfl rfl)
theorem dX0_priceOf_48 : decode cX0_priceOf 48 = .ok (.iload_n 2, 1) := dk_28 (dk_at dksX0_priceOf_2 0 rfl rfl)
theorem dX0_priceOf_49 : decode cX0_priceOf 49 = .ok (.aload_n 0, 1) := dk_42 (dk_at dksX0_priceOf_2 1 rfl rfl)
theorem dX0_priceOf_50 : decode cX0_priceOf 50 = .ok (.getfield 12, 3) := dk_180 0 12 (dk_at dksX0_priceOf_2 2 rfl rfl)
theorem dX0_priceOf_53 : decode cX0_priceOf 53 = .ok (.iload 6, 2) := dk_21 6 (dk_at dksX0_priceOf_2 5 rfl rfl)
theorem dX0_priceOf_55 : decode cX0_priceOf 55 = .ok (.invokevirtual 165, 3) := dk_182 0 165 (dk_at dksX0_priceOf_2 7 rfl rfl)
theorem dX0_priceOf_58 : decode cX0_priceOf 58 = .ok (.ifCond .eq 7, 3) := dk_153 0 7 (dk_at dksX0_priceOf_2 10 rfl rfl)
theorem dX0_priceOf_61 : decode cX0_priceOf 61 = .ok (.iconst 1, 1) := dk_4 (dk_at dksX0_priceOf_2 13 rfl rfl)
theorem dX0_priceOf_62 : decode cX0_priceOf 62 = .ok (.goto 4, 3) := dk_167 0 4 (dk_at dksX0_priceOf_2 14 rfl rfl)
theorem dX0_priceOf_65 : decode cX0_priceOf 65 = .ok (.iconst 0, 1) := dk_3 (dk_at dksX0_priceOf_2 17 rfl rfl)
theorem dX0_priceOf_66 : decode cX0_priceOf 66 = .ok (.iadd, 1) := dk_96 (dk_at dksX0_priceOf_2 18 rfl rfl)
theorem dX0_priceOf_67 : decode cX0_priceOf 67 = .ok (.istore_n 2, 1) := dk_61 (dk_at dksX0_priceOf_2 19 rfl rfl)
theorem dX0_priceOf_68 : decode cX0_priceOf 68 = .ok (.iinc 5 1, 3) := dk_132 5 1 (dk_at dksX0_priceOf_2 20 rfl rfl)
theorem dX0_priceOf_71 : decode cX0_priceOf 71 = .ok (.goto (-36), 3) := dk_167 255 220 (dk_at dksX0_priceOf_3 0 rfl rfl)
theorem dX0_priceOf_74 : decode cX0_priceOf 74 = .ok (.aload_n 0, 1) := dk_42 (dk_at dksX0_priceOf_3 3 rfl rfl)
theorem dX0_priceOf_75 : decode cX0_priceOf 75 = .ok (.getfield 30, 3) := dk_180 0 30 (dk_at dksX0_priceOf_3 4 rfl rfl)
theorem dX0_priceOf_78 : decode cX0_priceOf 78 = .ok (.bipush 8, 2) := dk_16 8 (dk_at dksX0_priceOf_3 7 rfl rfl)
theorem dX0_priceOf_80 : decode cX0_priceOf 80 = .ok (.aload_n 1, 1) := dk_43 (dk_at dksX0_priceOf_3 9 rfl rfl)
theorem dX0_priceOf_81 : decode cX0_priceOf 81 = .ok (.invokevirtual 199, 3) := dk_182 0 199 (dk_at dksX0_priceOf_3 10 rfl rfl)
theorem dX0_priceOf_84 : decode cX0_priceOf 84 = .ok (.iastore, 1) := dk_79 (dk_at dksX0_priceOf_3 13 rfl rfl)
theorem dX0_priceOf_85 : decode cX0_priceOf 85 = .ok (.aload_n 0, 1) := dk_42 (dk_at dksX0_priceOf_3 14 rfl rfl)
theorem dX0_priceOf_86 : decode cX0_priceOf 86 = .ok (.getfield 30, 3) := dk_180 0 30 (dk_at dksX0_priceOf_3 15 rfl rfl)
theorem dX0_priceOf_89 : decode cX0_priceOf 89 = .ok (.bipush 9, 2) := dk_16 9 (dk_at dksX0_priceOf_3 18 rfl rfl)
theorem dX0_priceOf_91 : decode cX0_priceOf 91 = .ok (.aload_n 1, 1) := dk_43 (dk_at dksX0_priceOf_3 20 rfl rfl)
theorem dX0_priceOf_92 : decode cX0_priceOf 92 = .ok (.invokevirtual 202, 3) := dk_182 0 202 (dk_at dksX0_priceOf_3 21 rfl rfl)
theorem dX0_priceOf_95 : decode cX0_priceOf 95 = .ok (.iastore, 1) := dk_79 (dk_at dksX0_priceOf_4 0 rfl rfl)
theorem dX0_priceOf_96 : decode cX0_priceOf 96 = .ok (.aload_n 0, 1) := dk_42 (dk_at dksX0_priceOf_4 1 rfl rfl)
theorem dX0_priceOf_97 : decode cX0_priceOf 97 = .ok (.getfield 30, 3) := dk_180 0 30 (dk_at dksX0_priceOf_4 2 rfl rfl)
theorem dX0_priceOf_100 : decode cX0_priceOf 100 = .ok (.bipush 10, 2) := dk_16 10 (dk_at dksX0_priceOf_4 5 rfl rfl)
theorem dX0_priceOf_102 : decode cX0_priceOf 102 = .ok (.iload_n 2, 1) := dk_28 (dk_at dksX0_priceOf_4 7 rfl rfl)
theorem dX0_priceOf_103 : decode cX0_priceOf 103 = .ok (.iastore, 1) := dk_79 (dk_at dksX0_priceOf_4 8 rfl rfl)
theorem dX0_priceOf_104 : decode cX0_priceOf 104 = .ok (.lconst 0, 1) := dk_9 (dk_at dksX0_priceOf_4 9 rfl rfl)
theorem dX0_priceOf_105 : decode cX0_priceOf 105 = .ok (.ldc2_w 205, 3) := dk_20 0 205 (dk_at dksX0_priceOf_4 10 rfl rfl)
theorem dX0_priceOf_108 : decode cX0_priceOf 108 = .ok (.aload_n 0, 1) := dk_42 (dk_at dksX0_priceOf_4 13 rfl rfl)
theorem dX0_priceOf_109 : decode cX0_priceOf 109 = .ok (.invokevirtual 168, 3) := dk_182 0 168 (dk_at dksX0_priceOf_4 14 rfl rfl)
theorem dX0_priceOf_112 : decode cX0_priceOf 112 = .ok (.getfield 195, 3) := dk_180 0 195 (dk_at dksX0_priceOf_4 17 rfl rfl)
theorem dX0_priceOf_115 : decode cX0_priceOf 115 = .ok (.aload_n 0, 1) := dk_42 (dk_at dksX0_priceOf_4 20 rfl rfl)
theorem dX0_priceOf_116 : decode cX0_priceOf 116 = .ok (.getfield 30, 3) := dk_180 0 30 (dk_at dksX0_priceOf_4 21 rfl rfl)
theorem dX0_priceOf_119 : decode cX0_priceOf 119 = .ok (.invokeinterface 207 2, 5) := by decide +kernel
theorem dX0_priceOf_124 : decode cX0_priceOf 124 = .ok (.invokestatic 213, 3) := dk_184 0 213 (dk_at dksX0_priceOf_5 5 rfl rfl)
theorem dX0_priceOf_127 : decode cX0_priceOf 127 = .ok (.invokestatic 219, 3) := dk_184 0 219 (dk_at dksX0_priceOf_5 8 rfl rfl)
theorem dX0_priceOf_130 : decode cX0_priceOf 130 = .ok (.l2i, 1) := dk_136 (dk_at dksX0_priceOf_5 11 rfl rfl)
theorem dX0_priceOf_131 : decode cX0_priceOf 131 = .ok (.ireturn, 1) := dk_172 (dk_at dksX0_priceOf_5 12 rfl rfl)
def dkwX0_stop_1 : List UInt8 := [182, 1, 102, 62, 29, 2, 159, 0, 5, 29, 172, 132, 2, 1, 167, 255, 232, 2, 172]
abbrev dktX0_stop_1 : List UInt8 := dkwX0_stop_1 ++ []
def dkwX0_stop_0 : List UInt8 := [42, 27, 182, 0, 243, 154, 0, 5, 2, 172, 3, 61, 28, 8, 162, 0, 25, 42, 27, 3, 28, 3]
abbrev dktX0_stop_0 : List UInt8 := dkwX0_stop_0 ++ dktX0_stop_1
theorem dksX0_stop_0 : cX0_stop.data.toList.drop 0 = dktX0_stop_0 := by decide +kernel
theorem dksX0_stop_1 : cX0_stop.data.toList.drop 22 = dktX0_stop_1 := dk_seg dksX0_stop_0 22 rfl rfl
theorem dX0_stop_0 : decode cX0_stop 0 = .ok (.aload_n 0, 1) := dk_42 (dk_at dksX0_stop_0 0 rfl rfl)
theorem dX0_stop_1 : decode cX0_stop 1 = .ok (.iload_n 1, 1) := dk_27 (dk_at dksX0_stop_0 1 rfl rfl)
theorem dX0_stop_2 : decode cX0_stop 2 = .ok (.invokevirtual 243, 3) := dk_182 0 243 (dk_at dksX0_stop_0 2 rfl rfl)
theorem dX0_stop_5 : decode cX0_stop 5 = .ok (.ifCond .ne 5, 3) := dk_154 0 5 (dk_at dksX0_stop_0 5 rfl rfl)
theorem dX0_stop_8 : decode cX0_stop 8 = .ok (.iconst (-1), 1) := dk_2 (dk_at dksX0_stop_0 8 rfl rfl)
theorem dX0_stop_9 : decode cX0_stop 9 = .ok (.ireturn, 1) := dk_172 (dk_at dksX0_stop_0 9 rfl rfl)
theorem dX0_stop_10 : decode cX0_stop 10 = .ok (.iconst 0, 1) := dk_3 (dk_at dksX0_stop_0 10 rfl rfl)
theorem dX0_stop_11 : decode cX0_stop 11 = .ok (.istore_n 2, 1) := dk_61 (dk_at dksX0_stop_0 11 rfl rfl)
theorem dX0_stop_12 : decode cX0_stop 12 = .ok (.iload_n 2, 1) := dk_28 (dk_at dksX0_stop_0 12 rfl rfl)
theorem dX0_stop_13 : decode cX0_stop 13 = .ok (.iconst 5, 1) := dk_8 (dk_at dksX0_stop_0 13 rfl rfl)
theorem dX0_stop_14 : decode cX0_stop 14 = .ok (.if_icmp .ge 25, 3) := dk_162 0 25 (dk_at dksX0_stop_0 14 rfl rfl)
theorem dX0_stop_17 : decode cX0_stop 17 = .ok (.aload_n 0, 1) := dk_42 (dk_at dksX0_stop_0 17 rfl rfl)
theorem dX0_stop_18 : decode cX0_stop 18 = .ok (.iload_n 1, 1) := dk_27 (dk_at dksX0_stop_0 18 rfl rfl)
theorem dX0_stop_19 : decode cX0_stop 19 = .ok (.iconst 0, 1) := dk_3 (dk_at dksX0_stop_0 19 rfl rfl)
theorem dX0_stop_20 : decode cX0_stop 20 = .ok (.iload_n 2, 1) := dk_28 (dk_at dksX0_stop_0 20 rfl rfl)
theorem dX0_stop_21 : decode cX0_stop 21 = .ok (.iconst 0, 1) := dk_3 (dk_at dksX0_stop_0 21 rfl rfl)
theorem dX0_stop_22 : decode cX0_stop 22 = .ok (.invokevirtual 358, 3) := dk_182 1 102 (dk_at dksX0_stop_1 0 rfl rfl)
theorem dX0_stop_25 : decode cX0_stop 25 = .ok (.istore_n 3, 1) := dk_62 (dk_at dksX0_stop_1 3 rfl rfl)
theorem dX0_stop_26 : decode cX0_stop 26 = .ok (.iload_n 3, 1) := dk_29 (dk_at dksX0_stop_1 4 rfl rfl)
theorem dX0_stop_27 : decode cX0_stop 27 = .ok (.iconst (-1), 1) := dk_2 (dk_at dksX0_stop_1 5 rfl rfl)
theorem dX0_stop_28 : decode cX0_stop 28 = .ok (.if_icmp .eq 5, 3) := dk_159 0 5 (dk_at dksX0_stop_1 6 rfl rfl)
theorem dX0_stop_31 : decode cX0_stop 31 = .ok (.iload_n 3, 1) := dk_29 (dk_at dksX0_stop_1 9 rfl rfl)
theorem dX0_stop_32 : decode cX0_stop 32 = .ok (.ireturn, 1) := dk_172 (dk_at dksX0_stop_1 10 rfl rfl)
theorem dX0_stop_33 : decode cX0_stop 33 = .ok (.iinc 2 1, 3) := dk_132 2 1 (dk_at dksX0_stop_1 11 rfl rfl)
theorem dX0_stop_36 : decode cX0_stop 36 = .ok (.goto (-24), 3) := dk_167 255 232 (dk_at dksX0_stop_1 14 rfl rfl)
theorem dX0_stop_39 : decode cX0_stop 39 = .ok (.iconst (-1), 1) := dk_2 (dk_at dksX0_stop_1 17 rfl rfl)
theorem dX0_stop_40 : decode cX0_stop 40 = .ok (.ireturn, 1) := dk_172 (dk_at dksX0_stop_1 18 rfl rfl)
def dkwX0_stops_2 : List UInt8 := [182, 1, 102, 54, 6, 21, 6, 2, 159, 0, 6, 21, 6, 172, 132, 5, 1, 167, 255, 216, 2, 172]
abbrev dktX0_stops_2 : List UInt8 := dkwX0_stops_2 ++ []
def dkwX0_stops_1 : List UInt8 := [21, 5, 16, 26, 162, 0, 39, 42, 27, 21, 5, 4, 96, 29, 4, 100, 21, 4, 4, 21, 5, 120, 128]
abbrev dktX0_stops_1 : List UInt8 := dkwX0_stops_1 ++ dktX0_stops_2
def dkwX0_stops_0 : List UInt8 := [29, 154, 0, 20, 42, 27, 21, 4, 182, 0, 249, 153, 0, 7, 2, 167, 0, 5, 21, 4, 172, 28, 54, 5]
abbrev dktX0_stops_0 : List UInt8 := dkwX0_stops_0 ++ dktX0_stops_1
theorem dksX0_stops_0 : cX0_stops.data.toList.drop 0 = dktX0_stops_0 := by decide +kernel
theorem dksX0_stops_1 : cX0_stops.data.toList.drop 24 = dktX0_stops_1 := dk_seg dksX0_stops_0 24 rfl rfl
theorem dksX0_stops_2 : cX0_stops.data.toList.drop 47 = dktX0_stops_2 := dk_seg dksX0_stops_1 23 rfl rfl
theorem dX0_stops_0 : decode cX0_stops 0 = .ok (.iload_n 3, 1) := dk_29 (dk_at dksX0_stops_0 0 rfl rfl)
theorem dX0_stops_1 : decode cX0_stops 1 = .ok (.ifCond .ne 20, 3) := dk_154 0 20 (dk_at dksX0_stops_0 1 rfl rfl)
theorem dX0_stops_4 : decode cX0_stops 4 = .ok (.aload_n 0, 1) := dk_42 (dk_at dksX0_stops_0 4 rfl rfl)
theorem dX0_stops_5 : decode cX0_stops 5 = .ok (.iload_n 1, 1) := dk_27 (dk_at dksX0_stops_0 5 rfl rfl)
theorem dX0_stops_6 : decode cX0_stops 6 = .ok (.iload 4, 2) := dk_21 4 (dk_at dksX0_stops_0 6 rfl rfl)
theorem dX0_stops_8 : decode cX0_stops 8 = .ok (.invokevirtual 249, 3) := dk_182 0 249 (dk_at dksX0_stops_0 8 rfl rfl)
theorem dX0_stops_11 : decode cX0_stops 11 = .ok (.ifCond .eq 7, 3) := dk_153 0 7 (dk_at dksX0_stops_0 11 rfl rfl)
theorem dX0_stops_14 : decode cX0_stops 14 = .ok (.iconst (-1), 1) := dk_2 (dk_at dksX0_stops_0 14 rfl rfl)
theorem dX0_stops_15 : decode cX0_stops 15 = .ok (.goto 5, 3) := dk_167 0 5 (dk_at dksX0_stops_0 15 rfl rfl)
theorem dX0_stops_18 : decode cX0_stops 18 = .ok (.iload 4, 2) := dk_21 4 (dk_at dksX0_stops_0 18 rfl rfl)
theorem dX0_stops_20 : decode cX0_stops 20 = .ok (.ireturn, 1) := dk_172 (dk_at dksX0_stops_0 20 rfl rfl)
theorem dX0_stops_21 : decode cX0_stops 21 = .ok (.iload_n 2, 1) := dk_28 (dk_at dksX0_stops_0 21 rfl rfl)
theorem dX0_stops_22 : decode cX0_stops 22 = .ok (.istore 5, 2) := dk_54 5 (dk_at dksX0_stops_0 22 rfl rfl)
theorem dX0_stops_24 : decode cX0_stops 24 = .ok (.iload 5, 2) := dk_21 5 (dk_at dksX0_stops_1 0 rfl rfl)
theorem dX0_stops_26 : decode cX0_stops 26 = .ok (.bipush 26, 2) := dk_16 26 (dk_at dksX0_stops_1 2 rfl rfl)
theorem dX0_stops_28 : decode cX0_stops 28 = .ok (.if_icmp .ge 39, 3) := dk_162 0 39 (dk_at dksX0_stops_1 4 rfl rfl)
theorem dX0_stops_31 : decode cX0_stops 31 = .ok (.aload_n 0, 1) := dk_42 (dk_at dksX0_stops_1 7 rfl rfl)
theorem dX0_stops_32 : decode cX0_stops 32 = .ok (.iload_n 1, 1) := dk_27 (dk_at dksX0_stops_1 8 rfl rfl)
theorem dX0_stops_33 : decode cX0_stops 33 = .ok (.iload 5, 2) := dk_21 5 (dk_at dksX0_stops_1 9 rfl rfl)
theorem dX0_stops_35 : decode cX0_stops 35 = .ok (.iconst 1, 1) := dk_4 (dk_at dksX0_stops_1 11 rfl rfl)
theorem dX0_stops_36 : decode cX0_stops 36 = .ok (.iadd, 1) := dk_96 (dk_at dksX0_stops_1 12 rfl rfl)
theorem dX0_stops_37 : decode cX0_stops 37 = .ok (.iload_n 3, 1) := dk_29 (dk_at dksX0_stops_1 13 rfl rfl)
theorem dX0_stops_38 : decode cX0_stops 38 = .ok (.iconst 1, 1) := dk_4 (dk_at dksX0_stops_1 14 rfl rfl)
theorem dX0_stops_39 : decode cX0_stops 39 = .ok (.isub, 1) := dk_100 (dk_at dksX0_stops_1 15 rfl rfl)
theorem dX0_stops_40 : decode cX0_stops 40 = .ok (.iload 4, 2) := dk_21 4 (dk_at dksX0_stops_1 16 rfl rfl)
theorem dX0_stops_42 : decode cX0_stops 42 = .ok (.iconst 1, 1) := dk_4 (dk_at dksX0_stops_1 18 rfl rfl)
theorem dX0_stops_43 : decode cX0_stops 43 = .ok (.iload 5, 2) := dk_21 5 (dk_at dksX0_stops_1 19 rfl rfl)
theorem dX0_stops_45 : decode cX0_stops 45 = .ok (.ishl, 1) := dk_120 (dk_at dksX0_stops_1 21 rfl rfl)
theorem dX0_stops_46 : decode cX0_stops 46 = .ok (.ior, 1) := dk_128 (dk_at dksX0_stops_1 22 rfl rfl)
theorem dX0_stops_47 : decode cX0_stops 47 = .ok (.invokevirtual 358, 3) := dk_182 1 102 (dk_at dksX0_stops_2 0 rfl rfl)
theorem dX0_stops_50 : decode cX0_stops 50 = .ok (.istore 6, 2) := dk_54 6 (dk_at dksX0_stops_2 3 rfl rfl)
theorem dX0_stops_52 : decode cX0_stops 52 = .ok (.iload 6, 2) := dk_21 6 (dk_at dksX0_stops_2 5 rfl rfl)
theorem dX0_stops_54 : decode cX0_stops 54 = .ok (.iconst (-1), 1) := dk_2 (dk_at dksX0_stops_2 7 rfl rfl)
theorem dX0_stops_55 : decode cX0_stops 55 = .ok (.if_icmp .eq 6, 3) := dk_159 0 6 (dk_at dksX0_stops_2 8 rfl rfl)
theorem dX0_stops_58 : decode cX0_stops 58 = .ok (.iload 6, 2) := dk_21 6 (dk_at dksX0_stops_2 11 rfl rfl)
theorem dX0_stops_60 : decode cX0_stops 60 = .ok (.ireturn, 1) := dk_172 (dk_at dksX0_stops_2 13 rfl rfl)
theorem dX0_stops_61 : decode cX0_stops 61 = .ok (.iinc 5 1, 3) := dk_132 5 1 (dk_at dksX0_stops_2 14 rfl rfl)
theorem dX0_stops_64 : decode cX0_stops 64 = .ok (.goto (-40), 3) := dk_167 255 216 (dk_at dksX0_stops_2 17 rfl rfl)
theorem dX0_stops_67 : decode cX0_stops 67 = .ok (.iconst (-1), 1) := dk_2 (dk_at dksX0_stops_2 20 rfl rfl)
theorem dX0_stops_68 : decode cX0_stops 68 = .ok (.ireturn, 1) := dk_172 (dk_at dksX0_stops_2 21 rfl rfl)
def dkwX0_spared_2 : List UInt8 := [153, 0, 7, 29, 167, 0, 4, 28, 172]
abbrev dktX0_spared_2 : List UInt8 := dkwX0_spared_2 ++ []
def dkwX0_spared_1 : List UInt8 := [21, 5, 29, 163, 0, 6, 167, 0, 9, 21, 5, 62, 21, 4, 61, 132, 4, 1, 167, 255, 221, 27]
abbrev dktX0_spared_1 : List UInt8 := dkwX0_spared_1 ++ dktX0_spared_2
def dkwX0_spared_0 : List UInt8 := [3, 61, 2, 62, 3, 54, 4, 21, 4, 16, 26, 162, 0, 34, 42, 4, 21, 4, 120, 182, 1, 106, 54, 5]
abbrev dktX0_spared_0 : List UInt8 := dkwX0_spared_0 ++ dktX0_spared_1
theorem dksX0_spared_0 : cX0_spared.data.toList.drop 0 = dktX0_spared_0 := by decide +kernel
theorem dksX0_spared_1 : cX0_spared.data.toList.drop 24 = dktX0_spared_1 := dk_seg dksX0_spared_0 24 rfl rfl
theorem dksX0_spared_2 : cX0_spared.data.toList.drop 46 = dktX0_spared_2 := dk_seg dksX0_spared_1 22 rfl rfl
theorem dX0_spared_0 : decode cX0_spared 0 = .ok (.iconst 0, 1) := dk_3 (dk_at dksX0_spared_0 0 rfl rfl)
theorem dX0_spared_1 : decode cX0_spared 1 = .ok (.istore_n 2, 1) := dk_61 (dk_at dksX0_spared_0 1 rfl rfl)
theorem dX0_spared_2 : decode cX0_spared 2 = .ok (.iconst (-1), 1) := dk_2 (dk_at dksX0_spared_0 2 rfl rfl)
theorem dX0_spared_3 : decode cX0_spared 3 = .ok (.istore_n 3, 1) := dk_62 (dk_at dksX0_spared_0 3 rfl rfl)
theorem dX0_spared_4 : decode cX0_spared 4 = .ok (.iconst 0, 1) := dk_3 (dk_at dksX0_spared_0 4 rfl rfl)
theorem dX0_spared_5 : decode cX0_spared 5 = .ok (.istore 4, 2) := dk_54 4 (dk_at dksX0_spared_0 5 rfl rfl)
theorem dX0_spared_7 : decode cX0_spared 7 = .ok (.iload 4, 2) := dk_21 4 (dk_at dksX0_spared_0 7 rfl rfl)
theorem dX0_spared_9 : decode cX0_spared 9 = .ok (.bipush 26, 2) := dk_16 26 (dk_at dksX0_spared_0 9 rfl rfl)
theorem dX0_spared_11 : decode cX0_spared 11 = .ok (.if_icmp .ge 34, 3) := dk_162 0 34 (dk_at dksX0_spared_0 11 rfl rfl)
theorem dX0_spared_14 : decode cX0_spared 14 = .ok (.aload_n 0, 1) := dk_42 (dk_at dksX0_spared_0 14 rfl rfl)
theorem dX0_spared_15 : decode cX0_spared 15 = .ok (.iconst 1, 1) := dk_4 (dk_at dksX0_spared_0 15 rfl rfl)
theorem dX0_spared_16 : decode cX0_spared 16 = .ok (.iload 4, 2) := dk_21 4 (dk_at dksX0_spared_0 16 rfl rfl)
theorem dX0_spared_18 : decode cX0_spared 18 = .ok (.ishl, 1) := dk_120 (dk_at dksX0_spared_0 18 rfl rfl)
theorem dX0_spared_19 : decode cX0_spared 19 = .ok (.invokevirtual 362, 3) := dk_182 1 106 (dk_at dksX0_spared_0 19 rfl rfl)
theorem dX0_spared_22 : decode cX0_spared 22 = .ok (.istore 5, 2) := dk_54 5 (dk_at dksX0_spared_0 22 rfl rfl)
theorem dX0_spared_24 : decode cX0_spared 24 = .ok (.iload 5, 2) := dk_21 5 (dk_at dksX0_spared_1 0 rfl rfl)
theorem dX0_spared_26 : decode cX0_spared 26 = .ok (.iload_n 3, 1) := dk_29 (dk_at dksX0_spared_1 2 rfl rfl)
theorem dX0_spared_27 : decode cX0_spared 27 = .ok (.if_icmp .gt 6, 3) := dk_163 0 6 (dk_at dksX0_spared_1 3 rfl rfl)
theorem dX0_spared_30 : decode cX0_spared 30 = .ok (.goto 9, 3) := dk_167 0 9 (dk_at dksX0_spared_1 6 rfl rfl)
theorem dX0_spared_33 : decode cX0_spared 33 = .ok (.iload 5, 2) := dk_21 5 (dk_at dksX0_spared_1 9 rfl rfl)
theorem dX0_spared_35 : decode cX0_spared 35 = .ok (.istore_n 3, 1) := dk_62 (dk_at dksX0_spared_1 11 rfl rfl)
theorem dX0_spared_36 : decode cX0_spared 36 = .ok (.iload 4, 2) := dk_21 4 (dk_at dksX0_spared_1 12 rfl rfl)
theorem dX0_spared_38 : decode cX0_spared 38 = .ok (.istore_n 2, 1) := dk_61 (dk_at dksX0_spared_1 14 rfl rfl)
theorem dX0_spared_39 : decode cX0_spared 39 = .ok (.iinc 4 1, 3) := dk_132 4 1 (dk_at dksX0_spared_1 15 rfl rfl)
theorem dX0_spared_42 : decode cX0_spared 42 = .ok (.goto (-35), 3) := dk_167 255 221 (dk_at dksX0_spared_1 18 rfl rfl)
theorem dX0_spared_45 : decode cX0_spared 45 = .ok (.iload_n 1, 1) := dk_27 (dk_at dksX0_spared_1 21 rfl rfl)
theorem dX0_spared_46 : decode cX0_spared 46 = .ok (.ifCond .eq 7, 3) := dk_153 0 7 (dk_at dksX0_spared_2 0 rfl rfl)
theorem dX0_spared_49 : decode cX0_spared 49 = .ok (.iload_n 3, 1) := dk_29 (dk_at dksX0_spared_2 3 rfl rfl)
theorem dX0_spared_50 : decode cX0_spared 50 = .ok (.goto 4, 3) := dk_167 0 4 (dk_at dksX0_spared_2 4 rfl rfl)
theorem dX0_spared_53 : decode cX0_spared 53 = .ok (.iload_n 2, 1) := dk_28 (dk_at dksX0_spared_2 7 rfl rfl)
theorem dX0_spared_54 : decode cX0_spared 54 = .ok (.ireturn, 1) := dk_172 (dk_at dksX0_spared_2 8 rfl rfl)
def dkwX0_lost_1 : List UInt8 := [153, 0, 7, 3, 167, 0, 4, 4, 96, 61, 132, 3, 1, 167, 255, 223, 28, 172]
abbrev dktX0_lost_1 : List UInt8 := dkwX0_lost_1 ++ []
def dkwX0_lost_0 : List UInt8 := [3, 61, 3, 62, 29, 42, 180, 0, 12, 180, 0, 66, 4, 46, 162, 0, 26, 28, 42, 29, 27, 182, 0, 249]
abbrev dktX0_lost_0 : List UInt8 := dkwX0_lost_0 ++ dktX0_lost_1
theorem dksX0_lost_0 : cX0_lost.data.toList.drop 0 = dktX0_lost_0 := by decide +kernel
theorem dksX0_lost_1 : cX0_lost.data.toList.drop 24 = dktX0_lost_1 := dk_seg dksX0_lost_0 24 rfl rfl
theorem dX0_lost_0 : decode cX0_lost 0 = .ok (.iconst 0, 1) := dk_3 (dk_at dksX0_lost_0 0 rfl rfl)
theorem dX0_lost_1 : decode cX0_lost 1 = .ok (.istore_n 2, 1) := dk_61 (dk_at dksX0_lost_0 1 rfl rfl)
theorem dX0_lost_2 : decode cX0_lost 2 = .ok (.iconst 0, 1) := dk_3 (dk_at dksX0_lost_0 2 rfl rfl)
theorem dX0_lost_3 : decode cX0_lost 3 = .ok (.istore_n 3, 1) := dk_62 (dk_at dksX0_lost_0 3 rfl rfl)
theorem dX0_lost_4 : decode cX0_lost 4 = .ok (.iload_n 3, 1) := dk_29 (dk_at dksX0_lost_0 4 rfl rfl)
theorem dX0_lost_5 : decode cX0_lost 5 = .ok (.aload_n 0, 1) := dk_42 (dk_at dksX0_lost_0 5 rfl rfl)
theorem dX0_lost_6 : decode cX0_lost 6 = .ok (.getfield 12, 3) := dk_180 0 12 (dk_at dksX0_lost_0 6 rfl rfl)
theorem dX0_lost_9 : decode cX0_lost 9 = .ok (.getfield 66, 3) := dk_180 0 66 (dk_at dksX0_lost_0 9 rfl rfl)
theorem dX0_lost_12 : decode cX0_lost 12 = .ok (.iconst 1, 1) := dk_4 (dk_at dksX0_lost_0 12 rfl rfl)
theorem dX0_lost_13 : decode cX0_lost 13 = .ok (.iaload, 1) := dk_46 (dk_at dksX0_lost_0 13 rfl rfl)
theorem dX0_lost_14 : decode cX0_lost 14 = .ok (.if_icmp .ge 26, 3) := dk_162 0 26 (dk_at dksX0_lost_0 14 rfl rfl)
theorem dX0_lost_17 : decode cX0_lost 17 = .ok (.iload_n 2, 1) := dk_28 (dk_at dksX0_lost_0 17 rfl rfl)
theorem dX0_lost_18 : decode cX0_lost 18 = .ok (.aload_n 0, 1) := dk_42 (dk_at dksX0_lost_0 18 rfl rfl)
theorem dX0_lost_19 : decode cX0_lost 19 = .ok (.iload_n 3, 1) := dk_29 (dk_at dksX0_lost_0 19 rfl rfl)
theorem dX0_lost_20 : decode cX0_lost 20 = .ok (.iload_n 1, 1) := dk_27 (dk_at dksX0_lost_0 20 rfl rfl)
theorem dX0_lost_21 : decode cX0_lost 21 = .ok (.invokevirtual 249, 3) := dk_182 0 249 (dk_at dksX0_lost_0 21 rfl rfl)
theorem dX0_lost_24 : decode cX0_lost 24 = .ok (.ifCond .eq 7, 3) := dk_153 0 7 (dk_at dksX0_lost_1 0 rfl rfl)
theorem dX0_lost_27 : decode cX0_lost 27 = .ok (.iconst 0, 1) := dk_3 (dk_at dksX0_lost_1 3 rfl rfl)
theorem dX0_lost_28 : decode cX0_lost 28 = .ok (.goto 4, 3) := dk_167 0 4 (dk_at dksX0_lost_1 4 rfl rfl)
theorem dX0_lost_31 : decode cX0_lost 31 = .ok (.iconst 1, 1) := dk_4 (dk_at dksX0_lost_1 7 rfl rfl)
theorem dX0_lost_32 : decode cX0_lost 32 = .ok (.iadd, 1) := dk_96 (dk_at dksX0_lost_1 8 rfl rfl)
theorem dX0_lost_33 : decode cX0_lost 33 = .ok (.istore_n 2, 1) := dk_61 (dk_at dksX0_lost_1 9 rfl rfl)
theorem dX0_lost_34 : decode cX0_lost 34 = .ok (.iinc 3 1, 3) := dk_132 3 1 (dk_at dksX0_lost_1 10 rfl rfl)
theorem dX0_lost_37 : decode cX0_lost 37 = .ok (.goto (-33), 3) := dk_167 255 223 (dk_at dksX0_lost_1 13 rfl rfl)
theorem dX0_lost_40 : decode cX0_lost 40 = .ok (.iload_n 2, 1) := dk_28 (dk_at dksX0_lost_1 16 rfl rfl)
theorem dX0_lost_41 : decode cX0_lost 41 = .ok (.ireturn, 1) := dk_172 (dk_at dksX0_lost_1 17 rfl rfl)
def dkwX0_power_6 : List UInt8 := [184, 1, 109, 21, 4, 184, 1, 118, 172]
abbrev dktX0_power_6 : List UInt8 := dkwX0_power_6 ++ []
def dkwX0_power_5 : List UInt8 := [4, 167, 0, 4, 3, 54, 9, 21, 8, 4, 100, 21, 5, 126, 54, 8, 167, 255, 178, 21, 7, 21, 6]
abbrev dktX0_power_5 : List UInt8 := dkwX0_power_5 ++ dktX0_power_6
def dkwX0_power_4 : List UInt8 := [21, 10, 184, 1, 109, 21, 6, 4, 100, 21, 10, 100, 184, 1, 109, 104, 96, 54, 7, 21, 8, 153, 0, 7]
abbrev dktX0_power_4 : List UInt8 := dkwX0_power_4 ++ dktX0_power_5
def dkwX0_power_3 : List UInt8 := [21, 8, 182, 0, 249, 153, 0, 38, 42, 27, 21, 8, 4, 29, 120, 128, 182, 0, 249, 154, 0, 24, 21, 7]
abbrev dktX0_power_3 : List UInt8 := dkwX0_power_3 ++ dktX0_power_4
def dkwX0_power_2 : List UInt8 := [54, 7, 21, 5, 54, 8, 4, 54, 9, 21, 9, 153, 0, 79, 21, 8, 184, 0, 152, 54, 10, 42, 27]
abbrev dktX0_power_2 : List UInt8 := dkwX0_power_2 ++ dktX0_power_3
def dkwX0_power_1 : List UInt8 := [184, 0, 77, 154, 0, 5, 2, 172, 28, 4, 29, 120, 2, 130, 126, 54, 5, 28, 184, 0, 152, 54, 6, 3]
abbrev dktX0_power_1 : List UInt8 := dkwX0_power_1 ++ dktX0_power_2
def dkwX0_power_0 : List UInt8 := [42, 27, 182, 0, 243, 153, 0, 25, 28, 184, 1, 115, 153, 0, 18, 29, 184, 0, 70, 153, 0, 11, 28, 29]
abbrev dktX0_power_0 : List UInt8 := dkwX0_power_0 ++ dktX0_power_1
theorem dksX0_power_0 : cX0_power.data.toList.drop 0 = dktX0_power_0 := by decide +kernel
theorem dksX0_power_1 : cX0_power.data.toList.drop 24 = dktX0_power_1 := dk_seg dksX0_power_0 24 rfl rfl
theorem dksX0_power_2 : cX0_power.data.toList.drop 48 = dktX0_power_2 := dk_seg dksX0_power_1 24 rfl rfl
theorem dksX0_power_3 : cX0_power.data.toList.drop 71 = dktX0_power_3 := dk_seg dksX0_power_2 23 rfl rfl
theorem dksX0_power_4 : cX0_power.data.toList.drop 95 = dktX0_power_4 := dk_seg dksX0_power_3 24 rfl rfl
theorem dksX0_power_5 : cX0_power.data.toList.drop 119 = dktX0_power_5 := dk_seg dksX0_power_4 24 rfl rfl
theorem dksX0_power_6 : cX0_power.data.toList.drop 142 = dktX0_power_6 := dk_seg dksX0_power_5 23 rfl rfl
theorem dX0_power_0 : decode cX0_power 0 = .ok (.aload_n 0, 1) := dk_42 (dk_at dksX0_power_0 0 rfl rfl)
theorem dX0_power_1 : decode cX0_power 1 = .ok (.iload_n 1, 1) := dk_27 (dk_at dksX0_power_0 1 rfl rfl)
theorem dX0_power_2 : decode cX0_power 2 = .ok (.invokevirtual 243, 3) := dk_182 0 243 (dk_at dksX0_power_0 2 rfl rfl)
theorem dX0_power_5 : decode cX0_power 5 = .ok (.ifCond .eq 25, 3) := dk_153 0 25 (dk_at dksX0_power_0 5 rfl rfl)
theorem dX0_power_8 : decode cX0_power 8 = .ok (.iload_n 2, 1) := dk_28 (dk_at dksX0_power_0 8 rfl rfl)
theorem dX0_power_9 : decode cX0_power 9 = .ok (.invokestatic 371, 3) := dk_184 1 115 (dk_at dksX0_power_0 9 rfl rfl)
theorem dX0_power_12 : decode cX0_power 12 = .ok (.ifCond .eq 18, 3) := dk_153 0 18 (dk_at dksX0_power_0 12 rfl rfl)
theorem dX0_power_15 : decode cX0_power 15 = .ok (.iload_n 3, 1) := dk_29 (dk_at dksX0_power_0 15 rfl rfl)
theorem dX0_power_16 : decode cX0_power 16 = .ok (.invokestatic 70, 3) := dk_184 0 70 (dk_at dksX0_power_0 16 rfl rfl)
theorem dX0_power_19 : decode cX0_power 19 = .ok (.ifCond .eq 11, 3) := dk_153 0 11 (dk_at dksX0_power_0 19 rfl rfl)
theorem dX0_power_22 : decode cX0_power 22 = .ok (.iload_n 2, 1) := dk_28 (dk_at dksX0_power_0 22 rfl rfl)
theorem dX0_power_23 : decode cX0_power 23 = .ok (.iload_n 3, 1) := dk_29 (dk_at dksX0_power_0 23 rfl rfl)
theorem dX0_power_24 : decode cX0_power 24 = .ok (.invokestatic 77, 3) := dk_184 0 77 (dk_at dksX0_power_1 0 rfl rfl)
theorem dX0_power_27 : decode cX0_power 27 = .ok (.ifCond .ne 5, 3) := dk_154 0 5 (dk_at dksX0_power_1 3 rfl rfl)
theorem dX0_power_30 : decode cX0_power 30 = .ok (.iconst (-1), 1) := dk_2 (dk_at dksX0_power_1 6 rfl rfl)
theorem dX0_power_31 : decode cX0_power 31 = .ok (.ireturn, 1) := dk_172 (dk_at dksX0_power_1 7 rfl rfl)
theorem dX0_power_32 : decode cX0_power 32 = .ok (.iload_n 2, 1) := dk_28 (dk_at dksX0_power_1 8 rfl rfl)
theorem dX0_power_33 : decode cX0_power 33 = .ok (.iconst 1, 1) := dk_4 (dk_at dksX0_power_1 9 rfl rfl)
theorem dX0_power_34 : decode cX0_power 34 = .ok (.iload_n 3, 1) := dk_29 (dk_at dksX0_power_1 10 rfl rfl)
theorem dX0_power_35 : decode cX0_power 35 = .ok (.ishl, 1) := dk_120 (dk_at dksX0_power_1 11 rfl rfl)
theorem dX0_power_36 : decode cX0_power 36 = .ok (.iconst (-1), 1) := dk_2 (dk_at dksX0_power_1 12 rfl rfl)
theorem dX0_power_37 : decode cX0_power 37 = .ok (.ixor, 1) := dk_130 (dk_at dksX0_power_1 13 rfl rfl)
theorem dX0_power_38 : decode cX0_power 38 = .ok (.iand, 1) := dk_126 (dk_at dksX0_power_1 14 rfl rfl)
theorem dX0_power_39 : decode cX0_power 39 = .ok (.istore 5, 2) := dk_54 5 (dk_at dksX0_power_1 15 rfl rfl)
theorem dX0_power_41 : decode cX0_power 41 = .ok (.iload_n 2, 1) := dk_28 (dk_at dksX0_power_1 17 rfl rfl)
theorem dX0_power_42 : decode cX0_power 42 = .ok (.invokestatic 152, 3) := dk_184 0 152 (dk_at dksX0_power_1 18 rfl rfl)
theorem dX0_power_45 : decode cX0_power 45 = .ok (.istore 6, 2) := dk_54 6 (dk_at dksX0_power_1 21 rfl rfl)
theorem dX0_power_47 : decode cX0_power 47 = .ok (.iconst 0, 1) := dk_3 (dk_at dksX0_power_1 23 rfl rfl)
theorem dX0_power_48 : decode cX0_power 48 = .ok (.istore 7, 2) := dk_54 7 (dk_at dksX0_power_2 0 rfl rfl)
theorem dX0_power_50 : decode cX0_power 50 = .ok (.iload 5, 2) := dk_21 5 (dk_at dksX0_power_2 2 rfl rfl)
theorem dX0_power_52 : decode cX0_power 52 = .ok (.istore 8, 2) := dk_54 8 (dk_at dksX0_power_2 4 rfl rfl)
theorem dX0_power_54 : decode cX0_power 54 = .ok (.iconst 1, 1) := dk_4 (dk_at dksX0_power_2 6 rfl rfl)
theorem dX0_power_55 : decode cX0_power 55 = .ok (.istore 9, 2) := dk_54 9 (dk_at dksX0_power_2 7 rfl rfl)
theorem dX0_power_57 : decode cX0_power 57 = .ok (.iload 9, 2) := dk_21 9 (dk_at dksX0_power_2 9 rfl rfl)
theorem dX0_power_59 : decode cX0_power 59 = .ok (.ifCond .eq 79, 3) := dk_153 0 79 (dk_at dksX0_power_2 11 rfl rfl)
theorem dX0_power_62 : decode cX0_power 62 = .ok (.iload 8, 2) := dk_21 8 (dk_at dksX0_power_2 14 rfl rfl)
theorem dX0_power_64 : decode cX0_power 64 = .ok (.invokestatic 152, 3) := dk_184 0 152 (dk_at dksX0_power_2 16 rfl rfl)
theorem dX0_power_67 : decode cX0_power 67 = .ok (.istore 10, 2) := dk_54 10 (dk_at dksX0_power_2 19 rfl rfl)
theorem dX0_power_69 : decode cX0_power 69 = .ok (.aload_n 0, 1) := dk_42 (dk_at dksX0_power_2 21 rfl rfl)
theorem dX0_power_70 : decode cX0_power 70 = .ok (.iload_n 1, 1) := dk_27 (dk_at dksX0_power_2 22 rfl rfl)
theorem dX0_power_71 : decode cX0_power 71 = .ok (.iload 8, 2) := dk_21 8 (dk_at dksX0_power_3 0 rfl rfl)
theorem dX0_power_73 : decode cX0_power 73 = .ok (.invokevirtual 249, 3) := dk_182 0 249 (dk_at dksX0_power_3 2 rfl rfl)
theorem dX0_power_76 : decode cX0_power 76 = .ok (.ifCond .eq 38, 3) := dk_153 0 38 (dk_at dksX0_power_3 5 rfl rfl)
theorem dX0_power_79 : decode cX0_power 79 = .ok (.aload_n 0, 1) := dk_42 (dk_at dksX0_power_3 8 rfl rfl)
theorem dX0_power_80 : decode cX0_power 80 = .ok (.iload_n 1, 1) := dk_27 (dk_at dksX0_power_3 9 rfl rfl)
theorem dX0_power_81 : decode cX0_power 81 = .ok (.iload 8, 2) := dk_21 8 (dk_at dksX0_power_3 10 rfl rfl)
theorem dX0_power_83 : decode cX0_power 83 = .ok (.iconst 1, 1) := dk_4 (dk_at dksX0_power_3 12 rfl rfl)
theorem dX0_power_84 : decode cX0_power 84 = .ok (.iload_n 3, 1) := dk_29 (dk_at dksX0_power_3 13 rfl rfl)
theorem dX0_power_85 : decode cX0_power 85 = .ok (.ishl, 1) := dk_120 (dk_at dksX0_power_3 14 rfl rfl)
theorem dX0_power_86 : decode cX0_power 86 = .ok (.ior, 1) := dk_128 (dk_at dksX0_power_3 15 rfl rfl)
theorem dX0_power_87 : decode cX0_power 87 = .ok (.invokevirtual 249, 3) := dk_182 0 249 (dk_at dksX0_power_3 16 rfl rfl)
theorem dX0_power_90 : decode cX0_power 90 = .ok (.ifCond .ne 24, 3) := dk_154 0 24 (dk_at dksX0_power_3 19 rfl rfl)
theorem dX0_power_93 : decode cX0_power 93 = .ok (.iload 7, 2) := dk_21 7 (dk_at dksX0_power_3 22 rfl rfl)
theorem dX0_power_95 : decode cX0_power 95 = .ok (.iload 10, 2) := dk_21 10 (dk_at dksX0_power_4 0 rfl rfl)
theorem dX0_power_97 : decode cX0_power 97 = .ok (.invokestatic 365, 3) := dk_184 1 109 (dk_at dksX0_power_4 2 rfl rfl)
theorem dX0_power_100 : decode cX0_power 100 = .ok (.iload 6, 2) := dk_21 6 (dk_at dksX0_power_4 5 rfl rfl)
theorem dX0_power_102 : decode cX0_power 102 = .ok (.iconst 1, 1) := dk_4 (dk_at dksX0_power_4 7 rfl rfl)
theorem dX0_power_103 : decode cX0_power 103 = .ok (.isub, 1) := dk_100 (dk_at dksX0_power_4 8 rfl rfl)
theorem dX0_power_104 : decode cX0_power 104 = .ok (.iload 10, 2) := dk_21 10 (dk_at dksX0_power_4 9 rfl rfl)
theorem dX0_power_106 : decode cX0_power 106 = .ok (.isub, 1) := dk_100 (dk_at dksX0_power_4 11 rfl rfl)
theorem dX0_power_107 : decode cX0_power 107 = .ok (.invokestatic 365, 3) := dk_184 1 109 (dk_at dksX0_power_4 12 rfl rfl)
theorem dX0_power_110 : decode cX0_power 110 = .ok (.imul, 1) := dk_104 (dk_at dksX0_power_4 15 rfl rfl)
theorem dX0_power_111 : decode cX0_power 111 = .ok (.iadd, 1) := dk_96 (dk_at dksX0_power_4 16 rfl rfl)
theorem dX0_power_112 : decode cX0_power 112 = .ok (.istore 7, 2) := dk_54 7 (dk_at dksX0_power_4 17 rfl rfl)
theorem dX0_power_114 : decode cX0_power 114 = .ok (.iload 8, 2) := dk_21 8 (dk_at dksX0_power_4 19 rfl rfl)
theorem dX0_power_116 : decode cX0_power 116 = .ok (.ifCond .eq 7, 3) := dk_153 0 7 (dk_at dksX0_power_4 21 rfl rfl)
theorem dX0_power_119 : decode cX0_power 119 = .ok (.iconst 1, 1) := dk_4 (dk_at dksX0_power_5 0 rfl rfl)
theorem dX0_power_120 : decode cX0_power 120 = .ok (.goto 4, 3) := dk_167 0 4 (dk_at dksX0_power_5 1 rfl rfl)
theorem dX0_power_123 : decode cX0_power 123 = .ok (.iconst 0, 1) := dk_3 (dk_at dksX0_power_5 4 rfl rfl)
theorem dX0_power_124 : decode cX0_power 124 = .ok (.istore 9, 2) := dk_54 9 (dk_at dksX0_power_5 5 rfl rfl)
theorem dX0_power_126 : decode cX0_power 126 = .ok (.iload 8, 2) := dk_21 8 (dk_at dksX0_power_5 7 rfl rfl)
theorem dX0_power_128 : decode cX0_power 128 = .ok (.iconst 1, 1) := dk_4 (dk_at dksX0_power_5 9 rfl rfl)
theorem dX0_power_129 : decode cX0_power 129 = .ok (.isub, 1) := dk_100 (dk_at dksX0_power_5 10 rfl rfl)
theorem dX0_power_130 : decode cX0_power 130 = .ok (.iload 5, 2) := dk_21 5 (dk_at dksX0_power_5 11 rfl rfl)
theorem dX0_power_132 : decode cX0_power 132 = .ok (.iand, 1) := dk_126 (dk_at dksX0_power_5 13 rfl rfl)
theorem dX0_power_133 : decode cX0_power 133 = .ok (.istore 8, 2) := dk_54 8 (dk_at dksX0_power_5 14 rfl rfl)
theorem dX0_power_135 : decode cX0_power 135 = .ok (.goto (-78), 3) := dk_167 255 178 (dk_at dksX0_power_5 16 rfl rfl)
theorem dX0_power_138 : decode cX0_power 138 = .ok (.iload 7, 2) := dk_21 7 (dk_at dksX0_power_5 19 rfl rfl)
theorem dX0_power_140 : decode cX0_power 140 = .ok (.iload 6, 2) := dk_21 6 (dk_at dksX0_power_5 21 rfl rfl)
theorem dX0_power_142 : decode cX0_power 142 = .ok (.invokestatic 365, 3) := dk_184 1 109 (dk_at dksX0_power_6 0 rfl rfl)
theorem dX0_power_145 : decode cX0_power 145 = .ok (.iload 4, 2) := dk_21 4 (dk_at dksX0_power_6 3 rfl rfl)
theorem dX0_power_147 : decode cX0_power 147 = .ok (.invokestatic 374, 3) := dk_184 1 118 (dk_at dksX0_power_6 5 rfl rfl)
theorem dX0_power_150 : decode cX0_power 150 = .ok (.ireturn, 1) := dk_172 (dk_at dksX0_power_6 8 rfl rfl)
def dkwX0_isGroup_0 : List UInt8 := [26, 184, 0, 237, 153, 0, 16, 26, 184, 0, 152, 16, 10, 163, 0, 7, 4, 167, 0, 4, 3, 172]
abbrev dktX0_isGroup_0 : List UInt8 := dkwX0_isGroup_0 ++ []
theorem dksX0_isGroup_0 : cX0_isGroup.data.toList.drop 0 = dktX0_isGroup_0 := by decide +kernel
theorem dX0_isGroup_0 : decode cX0_isGroup 0 = .ok (.iload_n 0, 1) := dk_26 (dk_at dksX0_isGroup_0 0 rfl rfl)
theorem dX0_isGroup_1 : decode cX0_isGroup 1 = .ok (.invokestatic 237, 3) := dk_184 0 237 (dk_at dksX0_isGroup_0 1 rfl rfl)
theorem dX0_isGroup_4 : decode cX0_isGroup 4 = .ok (.ifCond .eq 16, 3) := dk_153 0 16 (dk_at dksX0_isGroup_0 4 rfl rfl)
theorem dX0_isGroup_7 : decode cX0_isGroup 7 = .ok (.iload_n 0, 1) := dk_26 (dk_at dksX0_isGroup_0 7 rfl rfl)
theorem dX0_isGroup_8 : decode cX0_isGroup 8 = .ok (.invokestatic 152, 3) := dk_184 0 152 (dk_at dksX0_isGroup_0 8 rfl rfl)
theorem dX0_isGroup_11 : decode cX0_isGroup 11 = .ok (.bipush 10, 2) := dk_16 10 (dk_at dksX0_isGroup_0 11 rfl rfl)
theorem dX0_isGroup_13 : decode cX0_isGroup 13 = .ok (.if_icmp .gt 7, 3) := dk_163 0 7 (dk_at dksX0_isGroup_0 13 rfl rfl)
theorem dX0_isGroup_16 : decode cX0_isGroup 16 = .ok (.iconst 1, 1) := dk_4 (dk_at dksX0_isGroup_0 16 rfl rfl)
theorem dX0_isGroup_17 : decode cX0_isGroup 17 = .ok (.goto 4, 3) := dk_167 0 4 (dk_at dksX0_isGroup_0 17 rfl rfl)
theorem dX0_isGroup_20 : decode cX0_isGroup 20 = .ok (.iconst 0, 1) := dk_3 (dk_at dksX0_isGroup_0 20 rfl rfl)
theorem dX0_isGroup_21 : decode cX0_isGroup 21 = .ok (.ireturn, 1) := dk_172 (dk_at dksX0_isGroup_0 21 rfl rfl)
def dkwX0_orders_0 : List UInt8 := [26, 5, 162, 0, 7, 4, 167, 0, 11, 26, 26, 4, 100, 184, 1, 109, 104, 172]
abbrev dktX0_orders_0 : List UInt8 := dkwX0_orders_0 ++ []
theorem dksX0_orders_0 : cX0_orders.data.toList.drop 0 = dktX0_orders_0 := by decide +kernel
theorem dX0_orders_0 : decode cX0_orders 0 = .ok (.iload_n 0, 1) := dk_26 (dk_at dksX0_orders_0 0 rfl rfl)
theorem dX0_orders_1 : decode cX0_orders 1 = .ok (.iconst 2, 1) := dk_5 (dk_at dksX0_orders_0 1 rfl rfl)
theorem dX0_orders_2 : decode cX0_orders 2 = .ok (.if_icmp .ge 7, 3) := dk_162 0 7 (dk_at dksX0_orders_0 2 rfl rfl)
theorem dX0_orders_5 : decode cX0_orders 5 = .ok (.iconst 1, 1) := dk_4 (dk_at dksX0_orders_0 5 rfl rfl)
theorem dX0_orders_6 : decode cX0_orders 6 = .ok (.goto 11, 3) := dk_167 0 11 (dk_at dksX0_orders_0 6 rfl rfl)
theorem dX0_orders_9 : decode cX0_orders 9 = .ok (.iload_n 0, 1) := dk_26 (dk_at dksX0_orders_0 9 rfl rfl)
theorem dX0_orders_10 : decode cX0_orders 10 = .ok (.iload_n 0, 1) := dk_26 (dk_at dksX0_orders_0 10 rfl rfl)
theorem dX0_orders_11 : decode cX0_orders 11 = .ok (.iconst 1, 1) := dk_4 (dk_at dksX0_orders_0 11 rfl rfl)
theorem dX0_orders_12 : decode cX0_orders 12 = .ok (.isub, 1) := dk_100 (dk_at dksX0_orders_0 12 rfl rfl)
theorem dX0_orders_13 : decode cX0_orders 13 = .ok (.invokestatic 365, 3) := dk_184 1 109 (dk_at dksX0_orders_0 13 rfl rfl)
theorem dX0_orders_16 : decode cX0_orders 16 = .ok (.imul, 1) := dk_104 (dk_at dksX0_orders_0 16 rfl rfl)
theorem dX0_orders_17 : decode cX0_orders 17 = .ok (.ireturn, 1) := dk_172 (dk_at dksX0_orders_0 17 rfl rfl)
def dkwX0_inLowest_0 : List UInt8 := [27, 26, 184, 1, 112, 62, 28, 153, 0, 9, 27, 29, 108, 167, 0, 6, 26, 29, 108, 172]
abbrev dktX0_inLowest_0 : List UInt8 := dkwX0_inLowest_0 ++ []
theorem dksX0_inLowest_0 : cX0_inLowest.data.toList.drop 0 = dktX0_inLowest_0 := by decide +kernel
theorem dX0_inLowest_0 : decode cX0_inLowest 0 = .ok (.iload_n 1, 1) := dk_27 (dk_at dksX0_inLowest_0 0 rfl rfl)
theorem dX0_inLowest_1 : decode cX0_inLowest 1 = .ok (.iload_n 0, 1) := dk_26 (dk_at dksX0_inLowest_0 1 rfl rfl)
theorem dX0_inLowest_2 : decode cX0_inLowest 2 = .ok (.invokestatic 368, 3) := dk_184 1 112 (dk_at dksX0_inLowest_0 2 rfl rfl)
theorem dX0_inLowest_5 : decode cX0_inLowest 5 = .ok (.istore_n 3, 1) := dk_62 (dk_at dksX0_inLowest_0 5 rfl rfl)
theorem dX0_inLowest_6 : decode cX0_inLowest 6 = .ok (.iload_n 2, 1) := dk_28 (dk_at dksX0_inLowest_0 6 rfl rfl)
theorem dX0_inLowest_7 : decode cX0_inLowest 7 = .ok (.ifCond .eq 9, 3) := dk_153 0 9 (dk_at dksX0_inLowest_0 7 rfl rfl)
theorem dX0_inLowest_10 : decode cX0_inLowest 10 = .ok (.iload_n 1, 1) := dk_27 (dk_at dksX0_inLowest_0 10 rfl rfl)
theorem dX0_inLowest_11 : decode cX0_inLowest 11 = .ok (.iload_n 3, 1) := dk_29 (dk_at dksX0_inLowest_0 11 rfl rfl)
theorem dX0_inLowest_12 : decode cX0_inLowest 12 = .ok (.idiv, 1) := dk_108 (dk_at dksX0_inLowest_0 12 rfl rfl)
theorem dX0_inLowest_13 : decode cX0_inLowest 13 = .ok (.goto 6, 3) := dk_167 0 6 (dk_at dksX0_inLowest_0 13 rfl rfl)
theorem dX0_inLowest_16 : decode cX0_inLowest 16 = .ok (.iload_n 0, 1) := dk_26 (dk_at dksX0_inLowest_0 16 rfl rfl)
theorem dX0_inLowest_17 : decode cX0_inLowest 17 = .ok (.iload_n 3, 1) := dk_29 (dk_at dksX0_inLowest_0 17 rfl rfl)
theorem dX0_inLowest_18 : decode cX0_inLowest 18 = .ok (.idiv, 1) := dk_108 (dk_at dksX0_inLowest_0 18 rfl rfl)
theorem dX0_inLowest_19 : decode cX0_inLowest 19 = .ok (.ireturn, 1) := dk_172 (dk_at dksX0_inLowest_0 19 rfl rfl)
def dkwX0_common_0 : List UInt8 := [27, 154, 0, 7, 26, 167, 0, 10, 27, 26, 27, 112, 184, 1, 112, 172]
abbrev dktX0_common_0 : List UInt8 := dkwX0_common_0 ++ []
theorem dksX0_common_0 : cX0_common.data.toList.drop 0 = dktX0_common_0 := by decide +kernel
theorem dX0_common_0 : decode cX0_common 0 = .ok (.iload_n 1, 1) := dk_27 (dk_at dksX0_common_0 0 rfl rfl)
theorem dX0_common_1 : decode cX0_common 1 = .ok (.ifCond .ne 7, 3) := dk_154 0 7 (dk_at dksX0_common_0 1 rfl rfl)
theorem dX0_common_4 : decode cX0_common 4 = .ok (.iload_n 0, 1) := dk_26 (dk_at dksX0_common_0 4 rfl rfl)
theorem dX0_common_5 : decode cX0_common 5 = .ok (.goto 10, 3) := dk_167 0 10 (dk_at dksX0_common_0 5 rfl rfl)
theorem dX0_common_8 : decode cX0_common 8 = .ok (.iload_n 1, 1) := dk_27 (dk_at dksX0_common_0 8 rfl rfl)
theorem dX0_common_9 : decode cX0_common 9 = .ok (.iload_n 0, 1) := dk_26 (dk_at dksX0_common_0 9 rfl rfl)
theorem dX0_common_10 : decode cX0_common 10 = .ok (.iload_n 1, 1) := dk_27 (dk_at dksX0_common_0 10 rfl rfl)
theorem dX0_common_11 : decode cX0_common 11 = .ok (.irem, 1) := dk_112 (dk_at dksX0_common_0 11 rfl rfl)
theorem dX0_common_12 : decode cX0_common 12 = .ok (.invokestatic 368, 3) := dk_184 1 112 (dk_at dksX0_common_0 12 rfl rfl)
theorem dX0_common_15 : decode cX0_common 15 = .ok (.ireturn, 1) := dk_172 (dk_at dksX0_common_0 15 rfl rfl)
def dkwX0_party_3 : List UInt8 := [180, 0, 12, 180, 0, 66, 8, 46, 172]
abbrev dktX0_party_3 : List UInt8 := dkwX0_party_3 ++ []
def dkwX0_party_2 : List UInt8 := [180, 0, 12, 180, 0, 66, 8, 46, 27, 79, 42, 180, 0, 12, 180, 0, 66, 8, 92, 46, 4, 96, 79, 42]
abbrev dktX0_party_2 : List UInt8 := dkwX0_party_2 ++ dktX0_party_3
def dkwX0_party_1 : List UInt8 := [42, 180, 0, 12, 180, 0, 66, 8, 46, 7, 160, 0, 6, 16, 254, 172, 42, 180, 0, 12, 180, 1, 122, 42]
abbrev dktX0_party_1 : List UInt8 := dkwX0_party_1 ++ dktX0_party_2
def dkwX0_party_0 : List UInt8 := [27, 2, 160, 0, 15, 42, 180, 0, 12, 180, 0, 66, 8, 3, 79, 3, 172, 27, 184, 0, 237, 153, 0, 16]
abbrev dktX0_party_0 : List UInt8 := dkwX0_party_0 ++ dktX0_party_1
theorem dksX0_party_0 : cX0_party.data.toList.drop 0 = dktX0_party_0 := by decide +kernel
theorem dksX0_party_1 : cX0_party.data.toList.drop 24 = dktX0_party_1 := dk_seg dksX0_party_0 24 rfl rfl
theorem dksX0_party_2 : cX0_party.data.toList.drop 48 = dktX0_party_2 := dk_seg dksX0_party_1 24 rfl rfl
theorem dksX0_party_3 : cX0_party.data.toList.drop 72 = dktX0_party_3 := dk_seg dksX0_party_2 24 rfl rfl
theorem dX0_party_0 : decode cX0_party 0 = .ok (.iload_n 1, 1) := dk_27 (dk_at dksX0_party_0 0 rfl rfl)
theorem dX0_party_1 : decode cX0_party 1 = .ok (.iconst (-1), 1) := dk_2 (dk_at dksX0_party_0 1 rfl rfl)
theorem dX0_party_2 : decode cX0_party 2 = .ok (.if_icmp .ne 15, 3) := dk_160 0 15 (dk_at dksX0_party_0 2 rfl rfl)
theorem dX0_party_5 : decode cX0_party 5 = .ok (.aload_n 0, 1) := dk_42 (dk_at dksX0_party_0 5 rfl rfl)
theorem dX0_party_6 : decode cX0_party 6 = .ok (.getfield 12, 3) := dk_180 0 12 (dk_at dksX0_party_0 6 rfl rfl)
theorem dX0_party_9 : decode cX0_party 9 = .ok (.getfield 66, 3) := dk_180 0 66 (dk_at dksX0_party_0 9 rfl rfl)
theorem dX0_party_12 : decode cX0_party 12 = .ok (.iconst 5, 1) := dk_8 (dk_at dksX0_party_0 12 rfl rfl)
theorem dX0_party_13 : decode cX0_party 13 = .ok (.iconst 0, 1) := dk_3 (dk_at dksX0_party_0 13 rfl rfl)
theorem dX0_party_14 : decode cX0_party 14 = .ok (.iastore, 1) := dk_79 (dk_at dksX0_party_0 14 rfl rfl)
theorem dX0_party_15 : decode cX0_party 15 = .ok (.iconst 0, 1) := dk_3 (dk_at dksX0_party_0 15 rfl rfl)
theorem dX0_party_16 : decode cX0_party 16 = .ok (.ireturn, 1) := dk_172 (dk_at dksX0_party_0 16 rfl rfl)
theorem dX0_party_17 : decode cX0_party 17 = .ok (.iload_n 1, 1) := dk_27 (dk_at dksX0_party_0 17 rfl rfl)
theorem dX0_party_18 : decode cX0_party 18 = .ok (.invokestatic 237, 3) := dk_184 0 237 (dk_at dksX0_party_0 18 rfl rfl)
theorem dX0_party_21 : decode cX0_party 21 = .ok (.ifCond .eq 16, 3) := dk_153 0 16 (dk_at dksX0_party_0 21 rfl rfl)
theorem dX0_party_24 : decode cX0_party 24 = .ok (.aload_n 0, 1) := dk_42 (dk_at dksX0_party_1 0 rfl rfl)
theorem dX0_party_25 : decode cX0_party 25 = .ok (.getfield 12, 3) := dk_180 0 12 (dk_at dksX0_party_1 1 rfl rfl)
theorem dX0_party_28 : decode cX0_party 28 = .ok (.getfield 66, 3) := dk_180 0 66 (dk_at dksX0_party_1 4 rfl rfl)
theorem dX0_party_31 : decode cX0_party 31 = .ok (.iconst 5, 1) := dk_8 (dk_at dksX0_party_1 7 rfl rfl)
theorem dX0_party_32 : decode cX0_party 32 = .ok (.iaload, 1) := dk_46 (dk_at dksX0_party_1 8 rfl rfl)
theorem dX0_party_33 : decode cX0_party 33 = .ok (.iconst 4, 1) := dk_7 (dk_at dksX0_party_1 9 rfl rfl)
theorem dX0_party_34 : decode cX0_party 34 = .ok (.if_icmp .ne 6, 3) := dk_160 0 6 (dk_at dksX0_party_1 10 rfl rfl)
theorem dX0_party_37 : decode cX0_party 37 = .ok (.bipush (-2), 2) := dk_16 254 (dk_at dksX0_party_1 13 rfl rfl)
theorem dX0_party_39 : decode cX0_party 39 = .ok (.ireturn, 1) := dk_172 (dk_at dksX0_party_1 15 rfl rfl)
theorem dX0_party_40 : decode cX0_party 40 = .ok (.aload_n 0, 1) := dk_42 (dk_at dksX0_party_1 16 rfl rfl)
theorem dX0_party_41 : decode cX0_party 41 = .ok (.getfield 12, 3) := dk_180 0 12 (dk_at dksX0_party_1 17 rfl rfl)
theorem dX0_party_44 : decode cX0_party 44 = .ok (.getfield 378, 3) := dk_180 1 122 (dk_at dksX0_party_1 20 rfl rfl)
theorem dX0_party_47 : decode cX0_party 47 = .ok (.aload_n 0, 1) := dk_42 (dk_at dksX0_party_1 23 rfl rfl)
theorem dX0_party_48 : decode cX0_party 48 = .ok (.getfield 12, 3) := dk_180 0 12 (dk_at dksX0_party_2 0 rfl rfl)
theorem dX0_party_51 : decode cX0_party 51 = .ok (.getfield 66, 3) := dk_180 0 66 (dk_at dksX0_party_2 3 rfl rfl)
theorem dX0_party_54 : decode cX0_party 54 = .ok (.iconst 5, 1) := dk_8 (dk_at dksX0_party_2 6 rfl rfl)
theorem dX0_party_55 : decode cX0_party 55 = .ok (.iaload, 1) := dk_46 (dk_at dksX0_party_2 7 rfl rfl)
theorem dX0_party_56 : decode cX0_party 56 = .ok (.iload_n 1, 1) := dk_27 (dk_at dksX0_party_2 8 rfl rfl)
theorem dX0_party_57 : decode cX0_party 57 = .ok (.iastore, 1) := dk_79 (dk_at dksX0_party_2 9 rfl rfl)
theorem dX0_party_58 : decode cX0_party 58 = .ok (.aload_n 0, 1) := dk_42 (dk_at dksX0_party_2 10 rfl rfl)
theorem dX0_party_59 : decode cX0_party 59 = .ok (.getfield 12, 3) := dk_180 0 12 (dk_at dksX0_party_2 11 rfl rfl)
theorem dX0_party_62 : decode cX0_party 62 = .ok (.getfield 66, 3) := dk_180 0 66 (dk_at dksX0_party_2 14 rfl rfl)
theorem dX0_party_65 : decode cX0_party 65 = .ok (.iconst 5, 1) := dk_8 (dk_at dksX0_party_2 17 rfl rfl)
theorem dX0_party_66 : decode cX0_party 66 = .ok (.dup2, 1) := dk_92 (dk_at dksX0_party_2 18 rfl rfl)
theorem dX0_party_67 : decode cX0_party 67 = .ok (.iaload, 1) := dk_46 (dk_at dksX0_party_2 19 rfl rfl)
theorem dX0_party_68 : decode cX0_party 68 = .ok (.iconst 1, 1) := dk_4 (dk_at dksX0_party_2 20 rfl rfl)
theorem dX0_party_69 : decode cX0_party 69 = .ok (.iadd, 1) := dk_96 (dk_at dksX0_party_2 21 rfl rfl)
theorem dX0_party_70 : decode cX0_party 70 = .ok (.iastore, 1) := dk_79 (dk_at dksX0_party_2 22 rfl rfl)
theorem dX0_party_71 : decode cX0_party 71 = .ok (.aload_n 0, 1) := dk_42 (dk_at dksX0_party_2 23 rfl rfl)
theorem dX0_party_72 : decode cX0_party 72 = .ok (.getfield 12, 3) := dk_180 0 12 (dk_at dksX0_party_3 0 rfl rfl)
theorem dX0_party_75 : decode cX0_party 75 = .ok (.getfield 66, 3) := dk_180 0 66 (dk_at dksX0_party_3 3 rfl rfl)
theorem dX0_party_78 : decode cX0_party 78 = .ok (.iconst 5, 1) := dk_8 (dk_at dksX0_party_3 6 rfl rfl)
theorem dX0_party_79 : decode cX0_party 79 = .ok (.iaload, 1) := dk_46 (dk_at dksX0_party_3 7 rfl rfl)
theorem dX0_party_80 : decode cX0_party 80 = .ok (.ireturn, 1) := dk_172 (dk_at dksX0_party_3 8 rfl rfl)
def dkwX0_worth_1 : List UInt8 := [182, 1, 125, 167, 0, 4, 2, 172]
abbrev dktX0_worth_1 : List UInt8 := dkwX0_worth_1 ++ []
def dkwX0_worth_0 : List UInt8 := [27, 3, 4, 42, 180, 0, 12, 180, 0, 66, 8, 46, 120, 4, 100, 184, 0, 62, 153, 0, 11, 42, 27]
abbrev dktX0_worth_0 : List UInt8 := dkwX0_worth_0 ++ dktX0_worth_1
theorem dksX0_worth_0 : cX0_worth.data.toList.drop 0 = dktX0_worth_0 := by decide +kernel
theorem dksX0_worth_1 : cX0_worth.data.toList.drop 23 = dktX0_worth_1 := dk_seg dksX0_worth_0 23 rfl rfl
theorem dX0_worth_0 : decode cX0_worth 0 = .ok (.iload_n 1, 1) := dk_27 (dk_at dksX0_worth_0 0 rfl rfl)
theorem dX0_worth_1 : decode cX0_worth 1 = .ok (.iconst 0, 1) := dk_3 (dk_at dksX0_worth_0 1 rfl rfl)
theorem dX0_worth_2 : decode cX0_worth 2 = .ok (.iconst 1, 1) := dk_4 (dk_at dksX0_worth_0 2 rfl rfl)
theorem dX0_worth_3 : decode cX0_worth 3 = .ok (.aload_n 0, 1) := dk_42 (dk_at dksX0_worth_0 3 rfl rfl)
theorem dX0_worth_4 : decode cX0_worth 4 = .ok (.getfield 12, 3) := dk_180 0 12 (dk_at dksX0_worth_0 4 rfl rfl)
theorem dX0_worth_7 : decode cX0_worth 7 = .ok (.getfield 66, 3) := dk_180 0 66 (dk_at dksX0_worth_0 7 rfl rfl)
theorem dX0_worth_10 : decode cX0_worth 10 = .ok (.iconst 5, 1) := dk_8 (dk_at dksX0_worth_0 10 rfl rfl)
theorem dX0_worth_11 : decode cX0_worth 11 = .ok (.iaload, 1) := dk_46 (dk_at dksX0_worth_0 11 rfl rfl)
theorem dX0_worth_12 : decode cX0_worth 12 = .ok (.ishl, 1) := dk_120 (dk_at dksX0_worth_0 12 rfl rfl)
theorem dX0_worth_13 : decode cX0_worth 13 = .ok (.iconst 1, 1) := dk_4 (dk_at dksX0_worth_0 13 rfl rfl)
theorem dX0_worth_14 : decode cX0_worth 14 = .ok (.isub, 1) := dk_100 (dk_at dksX0_worth_0 14 rfl rfl)
theorem dX0_worth_15 : decode cX0_worth 15 = .ok (.invokestatic 62, 3) := dk_184 0 62 (dk_at dksX0_worth_0 15 rfl rfl)
theorem dX0_worth_18 : decode cX0_worth 18 = .ok (.ifCond .eq 11, 3) := dk_153 0 11 (dk_at dksX0_worth_0 18 rfl rfl)
theorem dX0_worth_21 : decode cX0_worth 21 = .ok (.aload_n 0, 1) := dk_42 (dk_at dksX0_worth_0 21 rfl rfl)
theorem dX0_worth_22 : decode cX0_worth 22 = .ok (.iload_n 1, 1) := dk_27 (dk_at dksX0_worth_0 22 rfl rfl)
theorem dX0_worth_23 : decode cX0_worth 23 = .ok (.invokevirtual 381, 3) := dk_182 1 125 (dk_at dksX0_worth_1 0 rfl rfl)
theorem dX0_worth_26 : decode cX0_worth 26 = .ok (.goto 4, 3) := dk_167 0 4 (dk_at dksX0_worth_1 3 rfl rfl)
theorem dX0_worth_29 : decode cX0_worth 29 = .ok (.iconst (-1), 1) := dk_2 (dk_at dksX0_worth_1 6 rfl rfl)
theorem dX0_worth_30 : decode cX0_worth 30 = .ok (.ireturn, 1) := dk_172 (dk_at dksX0_worth_1 7 rfl rfl)
def dkwX0_worthOf_2 : List UInt8 := [42, 28, 182, 1, 106, 172]
abbrev dktX0_worthOf_2 : List UInt8 := dkwX0_worthOf_2 ++ []
def dkwX0_worthOf_1 : List UInt8 := [153, 0, 15, 42, 180, 0, 12, 180, 1, 122, 29, 46, 167, 0, 4, 3, 128, 61, 132, 3, 1, 167, 255, 216]
abbrev dktX0_worthOf_1 : List UInt8 := dkwX0_worthOf_1 ++ dktX0_worthOf_2
def dkwX0_worthOf_0 : List UInt8 := [3, 61, 3, 62, 29, 42, 180, 0, 12, 180, 0, 66, 8, 46, 162, 0, 33, 28, 27, 29, 184, 0, 77]
abbrev dktX0_worthOf_0 : List UInt8 := dkwX0_worthOf_0 ++ dktX0_worthOf_1
theorem dksX0_worthOf_0 : cX0_worthOf.data.toList.drop 0 = dktX0_worthOf_0 := by decide +kernel
theorem dksX0_worthOf_1 : cX0_worthOf.data.toList.drop 23 = dktX0_worthOf_1 := dk_seg dksX0_worthOf_0 23 rfl rfl
theorem dksX0_worthOf_2 : cX0_worthOf.data.toList.drop 47 = dktX0_worthOf_2 := dk_seg dksX0_worthOf_1 24 rfl rfl
theorem dX0_worthOf_0 : decode cX0_worthOf 0 = .ok (.iconst 0, 1) := dk_3 (dk_at dksX0_worthOf_0 0 rfl rfl)
theorem dX0_worthOf_1 : decode cX0_worthOf 1 = .ok (.istore_n 2, 1) := dk_61 (dk_at dksX0_worthOf_0 1 rfl rfl)
theorem dX0_worthOf_2 : decode cX0_worthOf 2 = .ok (.iconst 0, 1) := dk_3 (dk_at dksX0_worthOf_0 2 rfl rfl)
theorem dX0_worthOf_3 : decode cX0_worthOf 3 = .ok (.istore_n 3, 1) := dk_62 (dk_at dksX0_worthOf_0 3 rfl rfl)
theorem dX0_worthOf_4 : decode cX0_worthOf 4 = .ok (.iload_n 3, 1) := dk_29 (dk_at dksX0_worthOf_0 4 rfl rfl)
theorem dX0_worthOf_5 : decode cX0_worthOf 5 = .ok (.aload_n 0, 1) := dk_42 (dk_at dksX0_worthOf_0 5 rfl rfl)
theorem dX0_worthOf_6 : decode cX0_worthOf 6 = .ok (.getfield 12, 3) := dk_180 0 12 (dk_at dksX0_worthOf_0 6 rfl rfl)
theorem dX0_worthOf_9 : decode cX0_worthOf 9 = .ok (.getfield 66, 3) := dk_180 0 66 (dk_at dksX0_worthOf_0 9 rfl rfl)
theorem dX0_worthOf_12 : decode cX0_worthOf 12 = .ok (.iconst 5, 1) := dk_8 (dk_at dksX0_worthOf_0 12 rfl rfl)
theorem dX0_worthOf_13 : decode cX0_worthOf 13 = .ok (.iaload, 1) := dk_46 (dk_at dksX0_worthOf_0 13 rfl rfl)
theorem dX0_worthOf_14 : decode cX0_worthOf 14 = .ok (.if_icmp .ge 33, 3) := dk_162 0 33 (dk_at dksX0_worthOf_0 14 rfl rfl)
theorem dX0_worthOf_17 : decode cX0_worthOf 17 = .ok (.iload_n 2, 1) := dk_28 (dk_at dksX0_worthOf_0 17 rfl rfl)
theorem dX0_worthOf_18 : decode cX0_worthOf 18 = .ok (.iload_n 1, 1) := dk_27 (dk_at dksX0_worthOf_0 18 rfl rfl)
theorem dX0_worthOf_19 : decode cX0_worthOf 19 = .ok (.iload_n 3, 1) := dk_29 (dk_at dksX0_worthOf_0 19 rfl rfl)
theorem dX0_worthOf_20 : decode cX0_worthOf 20 = .ok (.invokestatic 77, 3) := dk_184 0 77 (dk_at dksX0_worthOf_0 20 rfl rfl)
theorem dX0_worthOf_23 : decode cX0_worthOf 23 = .ok (.ifCond .eq 15, 3) := dk_153 0 15 (dk_at dksX0_worthOf_1 0 rfl rfl)
theorem dX0_worthOf_26 : decode cX0_worthOf 26 = .ok (.aload_n 0, 1) := dk_42 (dk_at dksX0_worthOf_1 3 rfl rfl)
theorem dX0_worthOf_27 : decode cX0_worthOf 27 = .ok (.getfield 12, 3) := dk_180 0 12 (dk_at dksX0_worthOf_1 4 rfl rfl)
theorem dX0_worthOf_30 : decode cX0_worthOf 30 = .ok (.getfield 378, 3) := dk_180 1 122 (dk_at dksX0_worthOf_1 7 rfl rfl)
theorem dX0_worthOf_33 : decode cX0_worthOf 33 = .ok (.iload_n 3, 1) := dk_29 (dk_at dksX0_worthOf_1 10 rfl rfl)
theorem dX0_worthOf_34 : decode cX0_worthOf 34 = .ok (.iaload, 1) := dk_46 (dk_at dksX0_worthOf_1 11 rfl rfl)
theorem dX0_worthOf_35 : decode cX0_worthOf 35 = .ok (.goto 4, 3) := dk_167 0 4 (dk_at dksX0_worthOf_1 12 rfl rfl)
theorem dX0_worthOf_38 : decode cX0_worthOf 38 = .ok (.iconst 0, 1) := dk_3 (dk_at dksX0_worthOf_1 15 rfl rfl)
theorem dX0_worthOf_39 : decode cX0_worthOf 39 = .ok (.ior, 1) := dk_128 (dk_at dksX0_worthOf_1 16 rfl rfl)
theorem dX0_worthOf_40 : decode cX0_worthOf 40 = .ok (.istore_n 2, 1) := dk_61 (dk_at dksX0_worthOf_1 17 rfl rfl)
theorem dX0_worthOf_41 : decode cX0_worthOf 41 = .ok (.iinc 3 1, 3) := dk_132 3 1 (dk_at dksX0_worthOf_1 18 rfl rfl)
theorem dX0_worthOf_44 : decode cX0_worthOf 44 = .ok (.goto (-40), 3) := dk_167 255 216 (dk_at dksX0_worthOf_1 21 rfl rfl)
theorem dX0_worthOf_47 : decode cX0_worthOf 47 = .ok (.aload_n 0, 1) := dk_42 (dk_at dksX0_worthOf_2 0 rfl rfl)
theorem dX0_worthOf_48 : decode cX0_worthOf 48 = .ok (.iload_n 2, 1) := dk_28 (dk_at dksX0_worthOf_2 1 rfl rfl)
theorem dX0_worthOf_49 : decode cX0_worthOf 49 = .ok (.invokevirtual 362, 3) := dk_182 1 106 (dk_at dksX0_worthOf_2 2 rfl rfl)
theorem dX0_worthOf_52 : decode cX0_worthOf 52 = .ok (.ireturn, 1) := dk_172 (dk_at dksX0_worthOf_2 5 rfl rfl)
def dkwX0_core_3 : List UInt8 := [182, 1, 132, 153, 0, 12, 42, 180, 0, 37, 28, 46, 167, 0, 4, 2, 172]
abbrev dktX0_core_3 : List UInt8 := dkwX0_core_3 ++ []
def dkwX0_core_2 : List UInt8 := [162, 0, 20, 42, 180, 0, 40, 29, 42, 29, 182, 1, 125, 79, 132, 3, 1, 167, 255, 227, 42, 3, 27]
abbrev dktX0_core_2 : List UInt8 := dkwX0_core_2 ++ dktX0_core_3
def dkwX0_core_1 : List UInt8 := [184, 0, 62, 154, 0, 5, 2, 172, 3, 62, 29, 4, 42, 180, 0, 12, 180, 0, 66, 8, 46, 120]
abbrev dktX0_core_1 : List UInt8 := dkwX0_core_1 ++ dktX0_core_2
def dkwX0_core_0 : List UInt8 := [27, 3, 16, 30, 184, 0, 62, 153, 0, 22, 28, 3, 42, 180, 0, 12, 180, 0, 66, 8, 46, 4, 100]
abbrev dktX0_core_0 : List UInt8 := dkwX0_core_0 ++ dktX0_core_1
theorem dksX0_core_0 : cX0_core.data.toList.drop 0 = dktX0_core_0 := by decide +kernel
theorem dksX0_core_1 : cX0_core.data.toList.drop 23 = dktX0_core_1 := dk_seg dksX0_core_0 23 rfl rfl
theorem dksX0_core_2 : cX0_core.data.toList.drop 45 = dktX0_core_2 := dk_seg dksX0_core_1 22 rfl rfl
theorem dksX0_core_3 : cX0_core.data.toList.drop 68 = dktX0_core_3 := dk_seg dksX0_core_2 23 rfl rfl
theorem dX0_core_0 : decode cX0_core 0 = .ok (.iload_n 1, 1) := dk_27 (dk_at dksX0_core_0 0 rfl rfl)
theorem dX0_core_1 : decode cX0_core 1 = .ok (.iconst 0, 1) := dk_3 (dk_at dksX0_core_0 1 rfl rfl)
theorem dX0_core_2 : decode cX0_core 2 = .ok (.bipush 30, 2) := dk_16 30 (dk_at dksX0_core_0 2 rfl rfl)
theorem dX0_core_4 : decode cX0_core 4 = .ok (.invokestatic 62, 3) := dk_184 0 62 (dk_at dksX0_core_0 4 rfl rfl)
theorem dX0_core_7 : decode cX0_core 7 = .ok (.ifCond .eq 22, 3) := dk_153 0 22 (dk_at dksX0_core_0 7 rfl rfl)
theorem dX0_core_10 : decode cX0_core 10 = .ok (.iload_n 2, 1) := dk_28 (dk_at dksX0_core_0 10 rfl rfl)
theorem dX0_core_11 : decode cX0_core 11 = .ok (.iconst 0, 1) := dk_3 (dk_at dksX0_core_0 11 rfl rfl)
theorem dX0_core_12 : decode cX0_core 12 = .ok (.aload_n 0, 1) := dk_42 (dk_at dksX0_core_0 12 rfl rfl)
theorem dX0_core_13 : decode cX0_core 13 = .ok (.getfield 12, 3) := dk_180 0 12 (dk_at dksX0_core_0 13 rfl rfl)
theorem dX0_core_16 : decode cX0_core 16 = .ok (.getfield 66, 3) := dk_180 0 66 (dk_at dksX0_core_0 16 rfl rfl)
theorem dX0_core_19 : decode cX0_core 19 = .ok (.iconst 5, 1) := dk_8 (dk_at dksX0_core_0 19 rfl rfl)
theorem dX0_core_20 : decode cX0_core 20 = .ok (.iaload, 1) := dk_46 (dk_at dksX0_core_0 20 rfl rfl)
theorem dX0_core_21 : decode cX0_core 21 = .ok (.iconst 1, 1) := dk_4 (dk_at dksX0_core_0 21 rfl rfl)
theorem dX0_core_22 : decode cX0_core 22 = .ok (.isub, 1) := dk_100 (dk_at dksX0_core_0 22 rfl rfl)
theorem dX0_core_23 : decode cX0_core 23 = .ok (.invokestatic 62, 3) := dk_184 0 62 (dk_at dksX0_core_1 0 rfl rfl)
theorem dX0_core_26 : decode cX0_core 26 = .ok (.ifCond .ne 5, 3) := dk_154 0 5 (dk_at dksX0_core_1 3 rfl rfl)
theorem dX0_core_29 : decode cX0_core 29 = .ok (.iconst (-1), 1) := dk_2 (dk_at dksX0_core_1 6 rfl rfl)
theorem dX0_core_30 : decode cX0_core 30 = .ok (.ireturn, 1) := dk_172 (dk_at dksX0_core_1 7 rfl rfl)
theorem dX0_core_31 : decode cX0_core 31 = .ok (.iconst 0, 1) := dk_3 (dk_at dksX0_core_1 8 rfl rfl)
theorem dX0_core_32 : decode cX0_core 32 = .ok (.istore_n 3, 1) := dk_62 (dk_at dksX0_core_1 9 rfl rfl)
theorem dX0_core_33 : decode cX0_core 33 = .ok (.iload_n 3, 1) := dk_29 (dk_at dksX0_core_1 10 rfl rfl)
theorem dX0_core_34 : decode cX0_core 34 = .ok (.iconst 1, 1) := dk_4 (dk_at dksX0_core_1 11 rfl rfl)
theorem dX0_core_35 : decode cX0_core 35 = .ok (.aload_n 0, 1) := dk_42 (dk_at dksX0_core_1 12 rfl rfl)
theorem dX0_core_36 : decode cX0_core 36 = .ok (.getfield 12, 3) := dk_180 0 12 (dk_at dksX0_core_1 13 rfl rfl)
theorem dX0_core_39 : decode cX0_core 39 = .ok (.getfield 66, 3) := dk_180 0 66 (dk_at dksX0_core_1 16 rfl rfl)
theorem dX0_core_42 : decode cX0_core 42 = .ok (.iconst 5, 1) := dk_8 (dk_at dksX0_core_1 19 rfl rfl)
theorem dX0_core_43 : decode cX0_core 43 = .ok (.iaload, 1) := dk_46 (dk_at dksX0_core_1 20 rfl rfl)
theorem dX0_core_44 : decode cX0_core 44 = .ok (.ishl, 1) := dk_120 (dk_at dksX0_core_1 21 rfl rfl)
theorem dX0_core_45 : decode cX0_core 45 = .ok (.if_icmp .ge 20, 3) := dk_162 0 20 (dk_at dksX0_core_2 0 rfl rfl)
theorem dX0_core_48 : decode cX0_core 48 = .ok (.aload_n 0, 1) := dk_42 (dk_at dksX0_core_2 3 rfl rfl)
theorem dX0_core_49 : decode cX0_core 49 = .ok (.getfield 40, 3) := dk_180 0 40 (dk_at dksX0_core_2 4 rfl rfl)
theorem dX0_core_52 : decode cX0_core 52 = .ok (.iload_n 3, 1) := dk_29 (dk_at dksX0_core_2 7 rfl rfl)
theorem dX0_core_53 : decode cX0_core 53 = .ok (.aload_n 0, 1) := dk_42 (dk_at dksX0_core_2 8 rfl rfl)
theorem dX0_core_54 : decode cX0_core 54 = .ok (.iload_n 3, 1) := dk_29 (dk_at dksX0_core_2 9 rfl rfl)
theorem dX0_core_55 : decode cX0_core 55 = .ok (.invokevirtual 381, 3) := dk_182 1 125 (dk_at dksX0_core_2 10 rfl rfl)
theorem dX0_core_58 : decode cX0_core 58 = .ok (.iastore, 1) := dk_79 (dk_at dksX0_core_2 13 rfl rfl)
theorem dX0_core_59 : decode cX0_core 59 = .ok (.iinc 3 1, 3) := dk_132 3 1 (dk_at dksX0_core_2 14 rfl rfl)
theorem dX0_core_62 : decode cX0_core 62 = .ok (.goto (-29), 3) := dk_167 255 227 (dk_at dksX0_core_2 17 rfl rfl)
theorem dX0_core_65 : decode cX0_core 65 = .ok (.aload_n 0, 1) := dk_42 (dk_at dksX0_core_2 20 rfl rfl)
theorem dX0_core_66 : decode cX0_core 66 = .ok (.iconst 0, 1) := dk_3 (dk_at dksX0_core_2 21 rfl rfl)
theorem dX0_core_67 : decode cX0_core 67 = .ok (.iload_n 1, 1) := dk_27 (dk_at dksX0_core_2 22 rfl rfl)
theorem dX0_core_68 : decode cX0_core 68 = .ok (.invokevirtual 388, 3) := dk_182 1 132 (dk_at dksX0_core_3 0 rfl rfl)
theorem dX0_core_71 : decode cX0_core 71 = .ok (.ifCond .eq 12, 3) := dk_153 0 12 (dk_at dksX0_core_3 3 rfl rfl)
theorem dX0_core_74 : decode cX0_core 74 = .ok (.aload_n 0, 1) := dk_42 (dk_at dksX0_core_3 6 rfl rfl)
theorem dX0_core_75 : decode cX0_core 75 = .ok (.getfield 37, 3) := dk_180 0 37 (dk_at dksX0_core_3 7 rfl rfl)
theorem dX0_core_78 : decode cX0_core 78 = .ok (.iload_n 2, 1) := dk_28 (dk_at dksX0_core_3 10 rfl rfl)
theorem dX0_core_79 : decode cX0_core 79 = .ok (.iaload, 1) := dk_46 (dk_at dksX0_core_3 11 rfl rfl)
theorem dX0_core_80 : decode cX0_core 80 = .ok (.goto 4, 3) := dk_167 0 4 (dk_at dksX0_core_3 12 rfl rfl)
theorem dX0_core_83 : decode cX0_core 83 = .ok (.iconst (-1), 1) := dk_2 (dk_at dksX0_core_3 15 rfl rfl)
theorem dX0_core_84 : decode cX0_core 84 = .ok (.ireturn, 1) := dk_172 (dk_at dksX0_core_3 16 rfl rfl)
def dkwX0_shares_2 : List UInt8 := [100, 182, 1, 132, 153, 0, 5, 4, 172, 132, 3, 1, 167, 255, 226, 3, 172]
abbrev dktX0_shares_2 : List UInt8 := dkwX0_shares_2 ++ []
def dkwX0_shares_1 : List UInt8 := [182, 1, 128, 172, 3, 62, 29, 28, 163, 0, 31, 42, 180, 0, 37, 27, 29, 79, 42, 27, 4, 96, 28, 29]
abbrev dktX0_shares_1 : List UInt8 := dkwX0_shares_1 ++ dktX0_shares_2
def dkwX0_shares_0 : List UInt8 := [27, 42, 180, 0, 12, 180, 0, 66, 8, 46, 4, 100, 160, 0, 15, 42, 180, 0, 37, 27, 28, 79, 42]
abbrev dktX0_shares_0 : List UInt8 := dkwX0_shares_0 ++ dktX0_shares_1
theorem dksX0_shares_0 : cX0_shares.data.toList.drop 0 = dktX0_shares_0 := by decide +kernel
theorem dksX0_shares_1 : cX0_shares.data.toList.drop 23 = dktX0_shares_1 := dk_seg dksX0_shares_0 23 rfl rfl
theorem dksX0_shares_2 : cX0_shares.data.toList.drop 47 = dktX0_shares_2 := dk_seg dksX0_shares_1 24 rfl rfl
theorem dX0_shares_0 : decode cX0_shares 0 = .ok (.iload_n 1, 1) := dk_27 (dk_at dksX0_shares_0 0 rfl rfl)
theorem dX0_shares_1 : decode cX0_shares 1 = .ok (.aload_n 0, 1) := dk_42 (dk_at dksX0_shares_0 1 rfl rfl)
theorem dX0_shares_2 : decode cX0_shares 2 = .ok (.getfield 12, 3) := dk_180 0 12 (dk_at dksX0_shares_0 2 rfl rfl)
theorem dX0_shares_5 : decode cX0_shares 5 = .ok (.getfield 66, 3) := dk_180 0 66 (dk_at dksX0_shares_0 5 rfl rfl)
theorem dX0_shares_8 : decode cX0_shares 8 = .ok (.iconst 5, 1) := dk_8 (dk_at dksX0_shares_0 8 rfl rfl)
theorem dX0_shares_9 : decode cX0_shares 9 = .ok (.iaload, 1) := dk_46 (dk_at dksX0_shares_0 9 rfl rfl)
theorem dX0_shares_10 : decode cX0_shares 10 = .ok (.iconst 1, 1) := dk_4 (dk_at dksX0_shares_0 10 rfl rfl)
theorem dX0_shares_11 : decode cX0_shares 11 = .ok (.isub, 1) := dk_100 (dk_at dksX0_shares_0 11 rfl rfl)
theorem dX0_shares_12 : decode cX0_shares 12 = .ok (.if_icmp .ne 15, 3) := dk_160 0 15 (dk_at dksX0_shares_0 12 rfl rfl)
theorem dX0_shares_15 : decode cX0_shares 15 = .ok (.aload_n 0, 1) := dk_42 (dk_at dksX0_shares_0 15 rfl rfl)
theorem dX0_shares_16 : decode cX0_shares 16 = .ok (.getfield 37, 3) := dk_180 0 37 (dk_at dksX0_shares_0 16 rfl rfl)
theorem dX0_shares_19 : decode cX0_shares 19 = .ok (.iload_n 1, 1) := dk_27 (dk_at dksX0_shares_0 19 rfl rfl)
theorem dX0_shares_20 : decode cX0_shares 20 = .ok (.iload_n 2, 1) := dk_28 (dk_at dksX0_shares_0 20 rfl rfl)
theorem dX0_shares_21 : decode cX0_shares 21 = .ok (.iastore, 1) := dk_79 (dk_at dksX0_shares_0 21 rfl rfl)
theorem dX0_shares_22 : decode cX0_shares 22 = .ok (.aload_n 0, 1) := dk_42 (dk_at dksX0_shares_0 22 rfl rfl)
theorem dX0_shares_23 : decode cX0_shares 23 = .ok (.invokevirtual 384, 3) := dk_182 1 128 (dk_at dksX0_shares_1 0 rfl rfl)
theorem dX0_shares_26 : decode cX0_shares 26 = .ok (.ireturn, 1) := dk_172 (dk_at dksX0_shares_1 3 rfl rfl)
theorem dX0_shares_27 : decode cX0_shares 27 = .ok (.iconst 0, 1) := dk_3 (dk_at dksX0_shares_1 4 rfl rfl)
theorem dX0_shares_28 : decode cX0_shares 28 = .ok (.istore_n 3, 1) := dk_62 (dk_at dksX0_shares_1 5 rfl rfl)
theorem dX0_shares_29 : decode cX0_shares 29 = .ok (.iload_n 3, 1) := dk_29 (dk_at dksX0_shares_1 6 rfl rfl)
theorem dX0_shares_30 : decode cX0_shares 30 = .ok (.iload_n 2, 1) := dk_28 (dk_at dksX0_shares_1 7 rfl rfl)
theorem dX0_shares_31 : decode cX0_shares 31 = .ok (.if_icmp .gt 31, 3) := dk_163 0 31 (dk_at dksX0_shares_1 8 rfl rfl)
theorem dX0_shares_34 : decode cX0_shares 34 = .ok (.aload_n 0, 1) := dk_42 (dk_at dksX0_shares_1 11 rfl rfl)
theorem dX0_shares_35 : decode cX0_shares 35 = .ok (.getfield 37, 3) := dk_180 0 37 (dk_at dksX0_shares_1 12 rfl rfl)
theorem dX0_shares_38 : decode cX0_shares 38 = .ok (.iload_n 1, 1) := dk_27 (dk_at dksX0_shares_1 15 rfl rfl)
theorem dX0_shares_39 : decode cX0_shares 39 = .ok (.iload_n 3, 1) := dk_29 (dk_at dksX0_shares_1 16 rfl rfl)
theorem dX0_shares_40 : decode cX0_shares 40 = .ok (.iastore, 1) := dk_79 (dk_at dksX0_shares_1 17 rfl rfl)
theorem dX0_shares_41 : decode cX0_shares 41 = .ok (.aload_n 0, 1) := dk_42 (dk_at dksX0_shares_1 18 rfl rfl)
theorem dX0_shares_42 : decode cX0_shares 42 = .ok (.iload_n 1, 1) := dk_27 (dk_at dksX0_shares_1 19 rfl rfl)
theorem dX0_shares_43 : decode cX0_shares 43 = .ok (.iconst 1, 1) := dk_4 (dk_at dksX0_shares_1 20 rfl rfl)
theorem dX0_shares_44 : decode cX0_shares 44 = .ok (.iadd, 1) := dk_96 (dk_at dksX0_shares_1 21 rfl rfl)
theorem dX0_shares_45 : decode cX0_shares 45 = .ok (.iload_n 2, 1) := dk_28 (dk_at dksX0_shares_1 22 rfl rfl)
theorem dX0_shares_46 : decode cX0_shares 46 = .ok (.iload_n 3, 1) := dk_29 (dk_at dksX0_shares_1 23 rfl rfl)
theorem dX0_shares_47 : decode cX0_shares 47 = .ok (.isub, 1) := dk_100 (dk_at dksX0_shares_2 0 rfl rfl)
theorem dX0_shares_48 : decode cX0_shares 48 = .ok (.invokevirtual 388, 3) := dk_182 1 132 (dk_at dksX0_shares_2 1 rfl rfl)
theorem dX0_shares_51 : decode cX0_shares 51 = .ok (.ifCond .eq 5, 3) := dk_153 0 5 (dk_at dksX0_shares_2 4 rfl rfl)
theorem dX0_shares_54 : decode cX0_shares 54 = .ok (.iconst 1, 1) := dk_4 (dk_at dksX0_shares_2 7 rfl rfl)
theorem dX0_shares_55 : decode cX0_shares 55 = .ok (.ireturn, 1) := dk_172 (dk_at dksX0_shares_2 8 rfl rfl)
theorem dX0_shares_56 : decode cX0_shares 56 = .ok (.iinc 3 1, 3) := dk_132 3 1 (dk_at dksX0_shares_2 9 rfl rfl)
theorem dX0_shares_59 : decode cX0_shares 59 = .ok (.goto (-30), 3) := dk_167 255 226 (dk_at dksX0_shares_2 12 rfl rfl)
theorem dX0_shares_62 : decode cX0_shares 62 = .ok (.iconst 0, 1) := dk_3 (dk_at dksX0_shares_2 15 rfl rfl)
theorem dX0_shares_63 : decode cX0_shares 63 = .ok (.ireturn, 1) := dk_172 (dk_at dksX0_shares_2 16 rfl rfl)
def dkwX0_areKept_3 : List UInt8 := [3, 172, 132, 1, 1, 167, 255, 182, 4, 172]
abbrev dktX0_areKept_3 : List UInt8 := dkwX0_areKept_3 ++ []
def dkwX0_areKept_2 : List UInt8 := [29, 46, 167, 0, 4, 3, 96, 61, 132, 3, 1, 167, 255, 219, 28, 42, 180, 0, 40, 27, 46, 162, 0, 5]
abbrev dktX0_areKept_2 : List UInt8 := dkwX0_areKept_2 ++ dktX0_areKept_3
def dkwX0_areKept_1 : List UInt8 := [180, 0, 12, 180, 0, 66, 8, 46, 162, 0, 30, 28, 27, 29, 184, 0, 77, 153, 0, 12, 42, 180, 0, 37]
abbrev dktX0_areKept_1 : List UInt8 := dkwX0_areKept_1 ++ dktX0_areKept_2
def dkwX0_areKept_0 : List UInt8 := [4, 60, 27, 4, 42, 180, 0, 12, 180, 0, 66, 8, 46, 120, 162, 0, 65, 3, 61, 3, 62, 29, 42]
abbrev dktX0_areKept_0 : List UInt8 := dkwX0_areKept_0 ++ dktX0_areKept_1
theorem dksX0_areKept_0 : cX0_areKept.data.toList.drop 0 = dktX0_areKept_0 := by decide +kernel
theorem dksX0_areKept_1 : cX0_areKept.data.toList.drop 23 = dktX0_areKept_1 := dk_seg dksX0_areKept_0 23 rfl rfl
theorem dksX0_areKept_2 : cX0_areKept.data.toList.drop 47 = dktX0_areKept_2 := dk_seg dksX0_areKept_1 24 rfl rfl
theorem dksX0_areKept_3 : cX0_areKept.data.toList.drop 71 = dktX0_areKept_3 := dk_seg dksX0_areKept_2 24 rfl rfl
theorem dX0_areKept_0 : decode cX0_areKept 0 = .ok (.iconst 1, 1) := dk_4 (dk_at dksX0_areKept_0 0 rfl rfl)
theorem dX0_areKept_1 : decode cX0_areKept 1 = .ok (.istore_n 1, 1) := dk_60 (dk_at dksX0_areKept_0 1 rfl rfl)
theorem dX0_areKept_2 : decode cX0_areKept 2 = .ok (.iload_n 1, 1) := dk_27 (dk_at dksX0_areKept_0 2 rfl rfl)
theorem dX0_areKept_3 : decode cX0_areKept 3 = .ok (.iconst 1, 1) := dk_4 (dk_at dksX0_areKept_0 3 rfl rfl)
theorem dX0_areKept_4 : decode cX0_areKept 4 = .ok (.aload_n 0, 1) := dk_42 (dk_at dksX0_areKept_0 4 rfl rfl)
theorem dX0_areKept_5 : decode cX0_areKept 5 = .ok (.getfield 12, 3) := dk_180 0 12 (dk_at dksX0_areKept_0 5 rfl rfl)
theorem dX0_areKept_8 : decode cX0_areKept 8 = .ok (.getfield 66, 3) := dk_180 0 66 (dk_at dksX0_areKept_0 8 rfl rfl)
theorem dX0_areKept_11 : decode cX0_areKept 11 = .ok (.iconst 5, 1) := dk_8 (dk_at dksX0_areKept_0 11 rfl rfl)
theorem dX0_areKept_12 : decode cX0_areKept 12 = .ok (.iaload, 1) := dk_46 (dk_at dksX0_areKept_0 12 rfl rfl)
theorem dX0_areKept_13 : decode cX0_areKept 13 = .ok (.ishl, 1) := dk_120 (dk_at dksX0_areKept_0 13 rfl rfl)
theorem dX0_areKept_14 : decode cX0_areKept 14 = .ok (.if_icmp .ge 65, 3) := dk_162 0 65 (dk_at dksX0_areKept_0 14 rfl rfl)
theorem dX0_areKept_17 : decode cX0_areKept 17 = .ok (.iconst 0, 1) := dk_3 (dk_at dksX0_areKept_0 17 rfl rfl)
theorem dX0_areKept_18 : decode cX0_areKept 18 = .ok (.istore_n 2, 1) := dk_61 (dk_at dksX0_areKept_0 18 rfl rfl)
theorem dX0_areKept_19 : decode cX0_areKept 19 = .ok (.iconst 0, 1) := dk_3 (dk_at dksX0_areKept_0 19 rfl rfl)
theorem dX0_areKept_20 : decode cX0_areKept 20 = .ok (.istore_n 3, 1) := dk_62 (dk_at dksX0_areKept_0 20 rfl rfl)
theorem dX0_areKept_21 : decode cX0_areKept 21 = .ok (.iload_n 3, 1) := dk_29 (dk_at dksX0_areKept_0 21 rfl rfl)
theorem dX0_areKept_22 : decode cX0_areKept 22 = .ok (.aload_n 0, 1) := dk_42 (dk_at dksX0_areKept_0 22 rfl rfl)
theorem dX0_areKept_23 : decode cX0_areKept 23 = .ok (.getfield 12, 3) := dk_180 0 12 (dk_at dksX0_areKept_1 0 rfl rfl)
theorem dX0_areKept_26 : decode cX0_areKept 26 = .ok (.getfield 66, 3) := dk_180 0 66 (dk_at dksX0_areKept_1 3 rfl rfl)
theorem dX0_areKept_29 : decode cX0_areKept 29 = .ok (.iconst 5, 1) := dk_8 (dk_at dksX0_areKept_1 6 rfl rfl)
theorem dX0_areKept_30 : decode cX0_areKept 30 = .ok (.iaload, 1) := dk_46 (dk_at dksX0_areKept_1 7 rfl rfl)
theorem dX0_areKept_31 : decode cX0_areKept 31 = .ok (.if_icmp .ge 30, 3) := dk_162 0 30 (dk_at dksX0_areKept_1 8 rfl rfl)
theorem dX0_areKept_34 : decode cX0_areKept 34 = .ok (.iload_n 2, 1) := dk_28 (dk_at dksX0_areKept_1 11 rfl rfl)
theorem dX0_areKept_35 : decode cX0_areKept 35 = .ok (.iload_n 1, 1) := dk_27 (dk_at dksX0_areKept_1 12 rfl rfl)
theorem dX0_areKept_36 : decode cX0_areKept 36 = .ok (.iload_n 3, 1) := dk_29 (dk_at dksX0_areKept_1 13 rfl rfl)
theorem dX0_areKept_37 : decode cX0_areKept 37 = .ok (.invokestatic 77, 3) := dk_184 0 77 (dk_at dksX0_areKept_1 14 rfl rfl)
theorem dX0_areKept_40 : decode cX0_areKept 40 = .ok (.ifCond .eq 12, 3) := dk_153 0 12 (dk_at dksX0_areKept_1 17 rfl rfl)
theorem dX0_areKept_43 : decode cX0_areKept 43 = .ok (.aload_n 0, 1) := dk_42 (dk_at dksX0_areKept_1 20 rfl rfl)
theorem dX0_areKept_44 : decode cX0_areKept 44 = .ok (.getfield 37, 3) := dk_180 0 37 (dk_at dksX0_areKept_1 21 rfl rfl)
theorem dX0_areKept_47 : decode cX0_areKept 47 = .ok (.iload_n 3, 1) := dk_29 (dk_at dksX0_areKept_2 0 rfl rfl)
theorem dX0_areKept_48 : decode cX0_areKept 48 = .ok (.iaload, 1) := dk_46 (dk_at dksX0_areKept_2 1 rfl rfl)
theorem dX0_areKept_49 : decode cX0_areKept 49 = .ok (.goto 4, 3) := dk_167 0 4 (dk_at dksX0_areKept_2 2 rfl rfl)
theorem dX0_areKept_52 : decode cX0_areKept 52 = .ok (.iconst 0, 1) := dk_3 (dk_at dksX0_areKept_2 5 rfl rfl)
theorem dX0_areKept_53 : decode cX0_areKept 53 = .ok (.iadd, 1) := dk_96 (dk_at dksX0_areKept_2 6 rfl rfl)
theorem dX0_areKept_54 : decode cX0_areKept 54 = .ok (.istore_n 2, 1) := dk_61 (dk_at dksX0_areKept_2 7 rfl rfl)
theorem dX0_areKept_55 : decode cX0_areKept 55 = .ok (.iinc 3 1, 3) := dk_132 3 1 (dk_at dksX0_areKept_2 8 rfl rfl)
theorem dX0_areKept_58 : decode cX0_areKept 58 = .ok (.goto (-37), 3) := dk_167 255 219 (dk_at dksX0_areKept_2 11 rfl rfl)
theorem dX0_areKept_61 : decode cX0_areKept 61 = .ok (.iload_n 2, 1) := dk_28 (dk_at dksX0_areKept_2 14 rfl rfl)
theorem dX0_areKept_62 : decode cX0_areKept 62 = .ok (.aload_n 0, 1) := dk_42 (dk_at dksX0_areKept_2 15 rfl rfl)
theorem dX0_areKept_63 : decode cX0_areKept 63 = .ok (.getfield 40, 3) := dk_180 0 40 (dk_at dksX0_areKept_2 16 rfl rfl)
theorem dX0_areKept_66 : decode cX0_areKept 66 = .ok (.iload_n 1, 1) := dk_27 (dk_at dksX0_areKept_2 19 rfl rfl)
theorem dX0_areKept_67 : decode cX0_areKept 67 = .ok (.iaload, 1) := dk_46 (dk_at dksX0_areKept_2 20 rfl rfl)
theorem dX0_areKept_68 : decode cX0_areKept 68 = .ok (.if_icmp .ge 5, 3) := dk_162 0 5 (dk_at dksX0_areKept_2 21 rfl rfl)
theorem dX0_areKept_71 : decode cX0_areKept 71 = .ok (.iconst 0, 1) := dk_3 (dk_at dksX0_areKept_3 0 rfl rfl)
theorem dX0_areKept_72 : decode cX0_areKept 72 = .ok (.ireturn, 1) := dk_172 (dk_at dksX0_areKept_3 1 rfl rfl)
theorem dX0_areKept_73 : decode cX0_areKept 73 = .ok (.iinc 1 1, 3) := dk_132 1 1 (dk_at dksX0_areKept_3 2 rfl rfl)
theorem dX0_areKept_76 : decode cX0_areKept 76 = .ok (.goto (-74), 3) := dk_167 255 182 (dk_at dksX0_areKept_3 5 rfl rfl)
theorem dX0_areKept_79 : decode cX0_areKept 79 = .ok (.iconst 1, 1) := dk_4 (dk_at dksX0_areKept_3 8 rfl rfl)
theorem dX0_areKept_80 : decode cX0_areKept 80 = .ok (.ireturn, 1) := dk_172 (dk_at dksX0_areKept_3 9 rfl rfl)
def dkwX0_game_6 : List UInt8 := [180, 0, 46, 21, 5, 46, 172, 132, 5, 1, 167, 255, 220, 2, 172]
abbrev dktX0_game_6 : List UInt8 := dkwX0_game_6 ++ []
def dkwX0_game_5 : List UInt8 := [180, 1, 135, 162, 0, 33, 21, 4, 153, 0, 28, 42, 27, 3, 21, 5, 182, 1, 138, 153, 0, 11, 42]
abbrev dktX0_game_5 : List UInt8 := dkwX0_game_5 ++ dktX0_game_6
def dkwX0_game_4 : List UInt8 := [54, 4, 29, 154, 0, 14, 21, 4, 153, 0, 7, 4, 167, 0, 4, 3, 172, 3, 54, 5, 21, 5, 42]
abbrev dktX0_game_4 : List UInt8 := dkwX0_game_4 ++ dktX0_game_5
def dkwX0_game_3 : List UInt8 := [181, 1, 135, 132, 4, 1, 167, 255, 213, 42, 180, 0, 43, 3, 184, 1, 147, 42, 27, 3, 182, 1, 144]
abbrev dktX0_game_3 : List UInt8 := dkwX0_game_3 ++ dktX0_game_4
def dkwX0_game_2 : List UInt8 := [154, 0, 6, 167, 0, 24, 42, 180, 0, 46, 42, 180, 1, 135, 21, 4, 79, 42, 89, 180, 1, 135, 4, 96]
abbrev dktX0_game_2 : List UInt8 := dkwX0_game_2 ++ dktX0_game_3
def dkwX0_game_1 : List UInt8 := [16, 254, 172, 42, 3, 181, 1, 135, 3, 54, 4, 21, 4, 16, 26, 162, 0, 42, 28, 21, 4, 184, 0, 77]
abbrev dktX0_game_1 : List UInt8 := dkwX0_game_1 ++ dktX0_game_2
def dkwX0_game_0 : List UInt8 := [42, 27, 182, 0, 243, 153, 0, 19, 28, 184, 1, 115, 153, 0, 12, 42, 27, 3, 182, 0, 249, 154, 0, 6]
abbrev dktX0_game_0 : List UInt8 := dkwX0_game_0 ++ dktX0_game_1
theorem dksX0_game_0 : cX0_game.data.toList.drop 0 = dktX0_game_0 := by decide +kernel
theorem dksX0_game_1 : cX0_game.data.toList.drop 24 = dktX0_game_1 := dk_seg dksX0_game_0 24 rfl rfl
theorem dksX0_game_2 : cX0_game.data.toList.drop 48 = dktX0_game_2 := dk_seg dksX0_game_1 24 rfl rfl
theorem dksX0_game_3 : cX0_game.data.toList.drop 72 = dktX0_game_3 := dk_seg dksX0_game_2 24 rfl rfl
theorem dksX0_game_4 : cX0_game.data.toList.drop 95 = dktX0_game_4 := dk_seg dksX0_game_3 23 rfl rfl
theorem dksX0_game_5 : cX0_game.data.toList.drop 118 = dktX0_game_5 := dk_seg dksX0_game_4 23 rfl rfl
theorem dksX0_game_6 : cX0_game.data.toList.drop 141 = dktX0_game_6 := dk_seg dksX0_game_5 23 rfl rfl
theorem dX0_game_0 : decode cX0_game 0 = .ok (.aload_n 0, 1) := dk_42 (dk_at dksX0_game_0 0 rfl rfl)
theorem dX0_game_1 : decode cX0_game 1 = .ok (.iload_n 1, 1) := dk_27 (dk_at dksX0_game_0 1 rfl rfl)
theorem dX0_game_2 : decode cX0_game 2 = .ok (.invokevirtual 243, 3) := dk_182 0 243 (dk_at dksX0_game_0 2 rfl rfl)
theorem dX0_game_5 : decode cX0_game 5 = .ok (.ifCond .eq 19, 3) := dk_153 0 19 (dk_at dksX0_game_0 5 rfl rfl)
theorem dX0_game_8 : decode cX0_game 8 = .ok (.iload_n 2, 1) := dk_28 (dk_at dksX0_game_0 8 rfl rfl)
theorem dX0_game_9 : decode cX0_game 9 = .ok (.invokestatic 371, 3) := dk_184 1 115 (dk_at dksX0_game_0 9 rfl rfl)
theorem dX0_game_12 : decode cX0_game 12 = .ok (.ifCond .eq 12, 3) := dk_153 0 12 (dk_at dksX0_game_0 12 rfl rfl)
theorem dX0_game_15 : decode cX0_game 15 = .ok (.aload_n 0, 1) := dk_42 (dk_at dksX0_game_0 15 rfl rfl)
theorem dX0_game_16 : decode cX0_game 16 = .ok (.iload_n 1, 1) := dk_27 (dk_at dksX0_game_0 16 rfl rfl)
theorem dX0_game_17 : decode cX0_game 17 = .ok (.iconst 0, 1) := dk_3 (dk_at dksX0_game_0 17 rfl rfl)
theorem dX0_game_18 : decode cX0_game 18 = .ok (.invokevirtual 249, 3) := dk_182 0 249 (dk_at dksX0_game_0 18 rfl rfl)
theorem dX0_game_21 : decode cX0_game 21 = .ok (.ifCond .ne 6, 3) := dk_154 0 6 (dk_at dksX0_game_0 21 rfl rfl)
theorem dX0_game_24 : decode cX0_game 24 = .ok (.bipush (-2), 2) := dk_16 254 (dk_at dksX0_game_1 0 rfl rfl)
theorem dX0_game_26 : decode cX0_game 26 = .ok (.ireturn, 1) := dk_172 (dk_at dksX0_game_1 2 rfl rfl)
theorem dX0_game_27 : decode cX0_game 27 = .ok (.aload_n 0, 1) := dk_42 (dk_at dksX0_game_1 3 rfl rfl)
theorem dX0_game_28 : decode cX0_game 28 = .ok (.iconst 0, 1) := dk_3 (dk_at dksX0_game_1 4 rfl rfl)
theorem dX0_game_29 : decode cX0_game 29 = .ok (.putfield 391, 3) := dk_181 1 135 (dk_at dksX0_game_1 5 rfl rfl)
theorem dX0_game_32 : decode cX0_game 32 = .ok (.iconst 0, 1) := dk_3 (dk_at dksX0_game_1 8 rfl rfl)
theorem dX0_game_33 : decode cX0_game 33 = .ok (.istore 4, 2) := dk_54 4 (dk_at dksX0_game_1 9 rfl rfl)
theorem dX0_game_35 : decode cX0_game 35 = .ok (.iload 4, 2) := dk_21 4 (dk_at dksX0_game_1 11 rfl rfl)
theorem dX0_game_37 : decode cX0_game 37 = .ok (.bipush 26, 2) := dk_16 26 (dk_at dksX0_game_1 13 rfl rfl)
theorem dX0_game_39 : decode cX0_game 39 = .ok (.if_icmp .ge 42, 3) := dk_162 0 42 (dk_at dksX0_game_1 15 rfl rfl)
theorem dX0_game_42 : decode cX0_game 42 = .ok (.iload_n 2, 1) := dk_28 (dk_at dksX0_game_1 18 rfl rfl)
theorem dX0_game_43 : decode cX0_game 43 = .ok (.iload 4, 2) := dk_21 4 (dk_at dksX0_game_1 19 rfl rfl)
theorem dX0_game_45 : decode cX0_game 45 = .ok (.invokestatic 77, 3) := dk_184 0 77 (dk_at dksX0_game_1 21 rfl rfl)
theorem dX0_game_48 : decode cX0_game 48 = .ok (.ifCond .ne 6, 3) := dk_154 0 6 (dk_at dksX0_game_2 0 rfl rfl)
theorem dX0_game_51 : decode cX0_game 51 = .ok (.goto 24, 3) := dk_167 0 24 (dk_at dksX0_game_2 3 rfl rfl)
theorem dX0_game_54 : decode cX0_game 54 = .ok (.aload_n 0, 1) := dk_42 (dk_at dksX0_game_2 6 rfl rfl)
theorem dX0_game_55 : decode cX0_game 55 = .ok (.getfield 46, 3) := dk_180 0 46 (dk_at dksX0_game_2 7 rfl rfl)
theorem dX0_game_58 : decode cX0_game 58 = .ok (.aload_n 0, 1) := dk_42 (dk_at dksX0_game_2 10 rfl rfl)
theorem dX0_game_59 : decode cX0_game 59 = .ok (.getfield 391, 3) := dk_180 1 135 (dk_at dksX0_game_2 11 rfl rfl)
theorem dX0_game_62 : decode cX0_game 62 = .ok (.iload 4, 2) := dk_21 4 (dk_at dksX0_game_2 14 rfl rfl)
theorem dX0_game_64 : decode cX0_game 64 = .ok (.iastore, 1) := dk_79 (dk_at dksX0_game_2 16 rfl rfl)
theorem dX0_game_65 : decode cX0_game 65 = .ok (.aload_n 0, 1) := dk_42 (dk_at dksX0_game_2 17 rfl rfl)
theorem dX0_game_66 : decode cX0_game 66 = .ok (.dup, 1) := dk_89 (dk_at dksX0_game_2 18 rfl rfl)
theorem dX0_game_67 : decode cX0_game 67 = .ok (.getfield 391, 3) := dk_180 1 135 (dk_at dksX0_game_2 19 rfl rfl)
theorem dX0_game_70 : decode cX0_game 70 = .ok (.iconst 1, 1) := dk_4 (dk_at dksX0_game_2 22 rfl rfl)
theorem dX0_game_71 : decode cX0_game 71 = .ok (.iadd, 1) := dk_96 (dk_at dksX0_game_2 23 rfl rfl)
theorem dX0_game_72 : decode cX0_game 72 = .ok (.putfield 391, 3) := dk_181 1 135 (dk_at dksX0_game_3 0 rfl rfl)
theorem dX0_game_75 : decode cX0_game 75 = .ok (.iinc 4 1, 3) := dk_132 4 1 (dk_at dksX0_game_3 3 rfl rfl)
theorem dX0_game_78 : decode cX0_game 78 = .ok (.goto (-43), 3) := dk_167 255 213 (dk_at dksX0_game_3 6 rfl rfl)
theorem dX0_game_81 : decode cX0_game 81 = .ok (.aload_n 0, 1) := dk_42 (dk_at dksX0_game_3 9 rfl rfl)
theorem dX0_game_82 : decode cX0_game 82 = .ok (.getfield 43, 3) := dk_180 0 43 (dk_at dksX0_game_3 10 rfl rfl)
theorem dX0_game_85 : decode cX0_game 85 = .ok (.iconst 0, 1) := dk_3 (dk_at dksX0_game_3 13 rfl rfl)
theorem dX0_game_86 : decode cX0_game 86 = .ok (.invokestatic 403, 3) := dk_184 1 147 (dk_at dksX0_game_3 14 rfl rfl)
theorem dX0_game_89 : decode cX0_game 89 = .ok (.aload_n 0, 1) := dk_42 (dk_at dksX0_game_3 17 rfl rfl)
theorem dX0_game_90 : decode cX0_game 90 = .ok (.iload_n 1, 1) := dk_27 (dk_at dksX0_game_3 18 rfl rfl)
theorem dX0_game_91 : decode cX0_game 91 = .ok (.iconst 0, 1) := dk_3 (dk_at dksX0_game_3 19 rfl rfl)
theorem dX0_game_92 : decode cX0_game 92 = .ok (.invokevirtual 400, 3) := dk_182 1 144 (dk_at dksX0_game_3 20 rfl rfl)
theorem dX0_game_95 : decode cX0_game 95 = .ok (.istore 4, 2) := dk_54 4 (dk_at dksX0_game_4 0 rfl rfl)
theorem dX0_game_97 : decode cX0_game 97 = .ok (.iload_n 3, 1) := dk_29 (dk_at dksX0_game_4 2 rfl rfl)
theorem dX0_game_98 : decode cX0_game 98 = .ok (.ifCond .ne 14, 3) := dk_154 0 14 (dk_at dksX0_game_4 3 rfl rfl)
theorem dX0_game_101 : decode cX0_game 101 = .ok (.iload 4, 2) := dk_21 4 (dk_at dksX0_game_4 6 rfl rfl)
theorem dX0_game_103 : decode cX0_game 103 = .ok (.ifCond .eq 7, 3) := dk_153 0 7 (dk_at dksX0_game_4 8 rfl rfl)
theorem dX0_game_106 : decode cX0_game 106 = .ok (.iconst 1, 1) := dk_4 (dk_at dksX0_game_4 11 rfl rfl)
theorem dX0_game_107 : decode cX0_game 107 = .ok (.goto 4, 3) := dk_167 0 4 (dk_at dksX0_game_4 12 rfl rfl)
theorem dX0_game_110 : decode cX0_game 110 = .ok (.iconst 0, 1) := dk_3 (dk_at dksX0_game_4 15 rfl rfl)
theorem dX0_game_111 : decode cX0_game 111 = .ok (.ireturn, 1) := dk_172 (dk_at dksX0_game_4 16 rfl rfl)
theorem dX0_game_112 : decode cX0_game 112 = .ok (.iconst 0, 1) := dk_3 (dk_at dksX0_game_4 17 rfl rfl)
theorem dX0_game_113 : decode cX0_game 113 = .ok (.istore 5, 2) := dk_54 5 (dk_at dksX0_game_4 18 rfl rfl)
theorem dX0_game_115 : decode cX0_game 115 = .ok (.iload 5, 2) := dk_21 5 (dk_at dksX0_game_4 20 rfl rfl)
theorem dX0_game_117 : decode cX0_game 117 = .ok (.aload_n 0, 1) := dk_42 (dk_at dksX0_game_4 22 rfl rfl)
theorem dX0_game_118 : decode cX0_game 118 = .ok (.getfield 391, 3) := dk_180 1 135 (dk_at dksX0_game_5 0 rfl rfl)
theorem dX0_game_121 : decode cX0_game 121 = .ok (.if_icmp .ge 33, 3) := dk_162 0 33 (dk_at dksX0_game_5 3 rfl rfl)
theorem dX0_game_124 : decode cX0_game 124 = .ok (.iload 4, 2) := dk_21 4 (dk_at dksX0_game_5 6 rfl rfl)
theorem dX0_game_126 : decode cX0_game 126 = .ok (.ifCond .eq 28, 3) := dk_153 0 28 (dk_at dksX0_game_5 8 rfl rfl)
theorem dX0_game_129 : decode cX0_game 129 = .ok (.aload_n 0, 1) := dk_42 (dk_at dksX0_game_5 11 rfl rfl)
theorem dX0_game_130 : decode cX0_game 130 = .ok (.iload_n 1, 1) := dk_27 (dk_at dksX0_game_5 12 rfl rfl)
theorem dX0_game_131 : decode cX0_game 131 = .ok (.iconst 0, 1) := dk_3 (dk_at dksX0_game_5 13 rfl rfl)
theorem dX0_game_132 : decode cX0_game 132 = .ok (.iload 5, 2) := dk_21 5 (dk_at dksX0_game_5 14 rfl rfl)
theorem dX0_game_134 : decode cX0_game 134 = .ok (.invokevirtual 394, 3) := dk_182 1 138 (dk_at dksX0_game_5 16 rfl rfl)
theorem dX0_game_137 : decode cX0_game 137 = .ok (.ifCond .eq 11, 3) := dk_153 0 11 (dk_at dksX0_game_5 19 rfl rfl)
theorem dX0_game_140 : decode cX0_game 140 = .ok (.aload_n 0, 1) := dk_42 (dk_at dksX0_game_5 22 rfl rfl)
theorem dX0_game_141 : decode cX0_game 141 = .ok (.getfield 46, 3) := dk_180 0 46 (dk_at dksX0_game_6 0 rfl rfl)
theorem dX0_game_144 : decode cX0_game 144 = .ok (.iload 5, 2) := dk_21 5 (dk_at dksX0_game_6 3 rfl rfl)
theorem dX0_game_146 : decode cX0_game 146 = .ok (.iaload, 1) := dk_46 (dk_at dksX0_game_6 5 rfl rfl)
theorem dX0_game_147 : decode cX0_game 147 = .ok (.ireturn, 1) := dk_172 (dk_at dksX0_game_6 6 rfl rfl)
theorem dX0_game_148 : decode cX0_game 148 = .ok (.iinc 5 1, 3) := dk_132 5 1 (dk_at dksX0_game_6 7 rfl rfl)
theorem dX0_game_151 : decode cX0_game 151 = .ok (.goto (-36), 3) := dk_167 255 220 (dk_at dksX0_game_6 10 rfl rfl)
theorem dX0_game_154 : decode cX0_game 154 = .ok (.iconst (-1), 1) := dk_2 (dk_at dksX0_game_6 13 rfl rfl)
theorem dX0_game_155 : decode cX0_game 155 = .ok (.ireturn, 1) := dk_172 (dk_at dksX0_game_6 14 rfl rfl)
def dkwX0_doesWin_4 : List UInt8 := [153, 0, 7, 4, 167, 0, 4, 5, 145, 84, 29, 172]
abbrev dktX0_doesWin_4 : List UInt8 := dkwX0_doesWin_4 ++ []
def dkwX0_doesWin_3 : List UInt8 := [182, 1, 138, 153, 0, 7, 4, 167, 0, 4, 3, 62, 132, 4, 1, 167, 255, 214, 42, 180, 0, 43, 28, 29]
abbrev dktX0_doesWin_3 : List UInt8 := dkwX0_doesWin_3 ++ dktX0_doesWin_4
def dkwX0_doesWin_2 : List UInt8 := [180, 1, 135, 162, 0, 39, 29, 154, 0, 35, 28, 21, 4, 184, 0, 77, 154, 0, 18, 42, 27, 28, 21, 4]
abbrev dktX0_doesWin_2 : List UInt8 := dkwX0_doesWin_2 ++ dktX0_doesWin_3
def dkwX0_doesWin_1 : List UInt8 := [180, 0, 43, 28, 51, 4, 160, 0, 7, 4, 167, 0, 4, 3, 172, 3, 62, 3, 54, 4, 21, 4, 42]
abbrev dktX0_doesWin_1 : List UInt8 := dkwX0_doesWin_1 ++ dktX0_doesWin_2
def dkwX0_doesWin_0 : List UInt8 := [28, 4, 42, 180, 1, 135, 120, 4, 100, 160, 0, 5, 4, 172, 42, 180, 0, 43, 28, 51, 153, 0, 19, 42]
abbrev dktX0_doesWin_0 : List UInt8 := dkwX0_doesWin_0 ++ dktX0_doesWin_1
theorem dksX0_doesWin_0 : cX0_doesWin.data.toList.drop 0 = dktX0_doesWin_0 := by decide +kernel
theorem dksX0_doesWin_1 : cX0_doesWin.data.toList.drop 24 = dktX0_doesWin_1 := dk_seg dksX0_doesWin_0 24 rfl rfl
theorem dksX0_doesWin_2 : cX0_doesWin.data.toList.drop 47 = dktX0_doesWin_2 := dk_seg dksX0_doesWin_1 23 rfl rfl
theorem dksX0_doesWin_3 : cX0_doesWin.data.toList.drop 71 = dktX0_doesWin_3 := dk_seg dksX0_doesWin_2 24 rfl rfl
theorem dksX0_doesWin_4 : cX0_doesWin.data.toList.drop 95 = dktX0_doesWin_4 := dk_seg dksX0_doesWin_3 24 rfl rfl
theorem dX0_doesWin_0 : decode cX0_doesWin 0 = .ok (.iload_n 2, 1) := dk_28 (dk_at dksX0_doesWin_0 0 rfl rfl)
theorem dX0_doesWin_1 : decode cX0_doesWin 1 = .ok (.iconst 1, 1) := dk_4 (dk_at dksX0_doesWin_0 1 rfl rfl)
theorem dX0_doesWin_2 : decode cX0_doesWin 2 = .ok (.aload_n 0, 1) := dk_42 (dk_at dksX0_doesWin_0 2 rfl rfl)
theorem dX0_doesWin_3 : decode cX0_doesWin 3 = .ok (.getfield 391, 3) := dk_180 1 135 (dk_at dksX0_doesWin_0 3 rfl rfl)
theorem dX0_doesWin_6 : decode cX0_doesWin 6 = .ok (.ishl, 1) := dk_120 (dk_at dksX0_doesWin_0 6 rfl rfl)
theorem dX0_doesWin_7 : decode cX0_doesWin 7 = .ok (.iconst 1, 1) := dk_4 (dk_at dksX0_doesWin_0 7 rfl rfl)
theorem dX0_doesWin_8 : decode cX0_doesWin 8 = .ok (.isub, 1) := dk_100 (dk_at dksX0_doesWin_0 8 rfl rfl)
theorem dX0_doesWin_9 : decode cX0_doesWin 9 = .ok (.if_icmp .ne 5, 3) := dk_160 0 5 (dk_at dksX0_doesWin_0 9 rfl rfl)
theorem dX0_doesWin_12 : decode cX0_doesWin 12 = .ok (.iconst 1, 1) := dk_4 (dk_at dksX0_doesWin_0 12 rfl rfl)
theorem dX0_doesWin_13 : decode cX0_doesWin 13 = .ok (.ireturn, 1) := dk_172 (dk_at dksX0_doesWin_0 13 rfl rfl)
theorem dX0_doesWin_14 : decode cX0_doesWin 14 = .ok (.aload_n 0, 1) := dk_42 (dk_at dksX0_doesWin_0 14 rfl rfl)
theorem dX0_doesWin_15 : decode cX0_doesWin 15 = .ok (.getfield 43, 3) := dk_180 0 43 (dk_at dksX0_doesWin_0 15 rfl rfl)
theorem dX0_doesWin_18 : decode cX0_doesWin 18 = .ok (.iload_n 2, 1) := dk_28 (dk_at dksX0_doesWin_0 18 rfl rfl)
theorem dX0_doesWin_19 : decode cX0_doesWin 19 = .ok (.baload, 1) := dk_51 (dk_at dksX0_doesWin_0 19 rfl rfl)
theorem dX0_doesWin_20 : decode cX0_doesWin 20 = .ok (.ifCond .eq 19, 3) := dk_153 0 19 (dk_at dksX0_doesWin_0 20 rfl rfl)
theorem dX0_doesWin_23 : decode cX0_doesWin 23 = .ok (.aload_n 0, 1) := dk_42 (dk_at dksX0_doesWin_0 23 rfl rfl)
theorem dX0_doesWin_24 : decode cX0_doesWin 24 = .ok (.getfield 43, 3) := dk_180 0 43 (dk_at dksX0_doesWin_1 0 rfl rfl)
theorem dX0_doesWin_27 : decode cX0_doesWin 27 = .ok (.iload_n 2, 1) := dk_28 (dk_at dksX0_doesWin_1 3 rfl rfl)
theorem dX0_doesWin_28 : decode cX0_doesWin 28 = .ok (.baload, 1) := dk_51 (dk_at dksX0_doesWin_1 4 rfl rfl)
theorem dX0_doesWin_29 : decode cX0_doesWin 29 = .ok (.iconst 1, 1) := dk_4 (dk_at dksX0_doesWin_1 5 rfl rfl)
theorem dX0_doesWin_30 : decode cX0_doesWin 30 = .ok (.if_icmp .ne 7, 3) := dk_160 0 7 (dk_at dksX0_doesWin_1 6 rfl rfl)
theorem dX0_doesWin_33 : decode cX0_doesWin 33 = .ok (.iconst 1, 1) := dk_4 (dk_at dksX0_doesWin_1 9 rfl rfl)
theorem dX0_doesWin_34 : decode cX0_doesWin 34 = .ok (.goto 4, 3) := dk_167 0 4 (dk_at dksX0_doesWin_1 10 rfl rfl)
theorem dX0_doesWin_37 : decode cX0_doesWin 37 = .ok (.iconst 0, 1) := dk_3 (dk_at dksX0_doesWin_1 13 rfl rfl)
theorem dX0_doesWin_38 : decode cX0_doesWin 38 = .ok (.ireturn, 1) := dk_172 (dk_at dksX0_doesWin_1 14 rfl rfl)
theorem dX0_doesWin_39 : decode cX0_doesWin 39 = .ok (.iconst 0, 1) := dk_3 (dk_at dksX0_doesWin_1 15 rfl rfl)
theorem dX0_doesWin_40 : decode cX0_doesWin 40 = .ok (.istore_n 3, 1) := dk_62 (dk_at dksX0_doesWin_1 16 rfl rfl)
theorem dX0_doesWin_41 : decode cX0_doesWin 41 = .ok (.iconst 0, 1) := dk_3 (dk_at dksX0_doesWin_1 17 rfl rfl)
theorem dX0_doesWin_42 : decode cX0_doesWin 42 = .ok (.istore 4, 2) := dk_54 4 (dk_at dksX0_doesWin_1 18 rfl rfl)
theorem dX0_doesWin_44 : decode cX0_doesWin 44 = .ok (.iload 4, 2) := dk_21 4 (dk_at dksX0_doesWin_1 20 rfl rfl)
theorem dX0_doesWin_46 : decode cX0_doesWin 46 = .ok (.aload_n 0, 1) := dk_42 (dk_at dksX0_doesWin_1 22 rfl rfl)
theorem dX0_doesWin_47 : decode cX0_doesWin 47 = .ok (.getfield 391, 3) := dk_180 1 135 (dk_at dksX0_doesWin_2 0 rfl rfl)
theorem dX0_doesWin_50 : decode cX0_doesWin 50 = .ok (.if_icmp .ge 39, 3) := dk_162 0 39 (dk_at dksX0_doesWin_2 3 rfl rfl)
theorem dX0_doesWin_53 : decode cX0_doesWin 53 = .ok (.iload_n 3, 1) := dk_29 (dk_at dksX0_doesWin_2 6 rfl rfl)
theorem dX0_doesWin_54 : decode cX0_doesWin 54 = .ok (.ifCond .ne 35, 3) := dk_154 0 35 (dk_at dksX0_doesWin_2 7 rfl rfl)
theorem dX0_doesWin_57 : decode cX0_doesWin 57 = .ok (.iload_n 2, 1) := dk_28 (dk_at dksX0_doesWin_2 10 rfl rfl)
theorem dX0_doesWin_58 : decode cX0_doesWin 58 = .ok (.iload 4, 2) := dk_21 4 (dk_at dksX0_doesWin_2 11 rfl rfl)
theorem dX0_doesWin_60 : decode cX0_doesWin 60 = .ok (.invokestatic 77, 3) := dk_184 0 77 (dk_at dksX0_doesWin_2 13 rfl rfl)
theorem dX0_doesWin_63 : decode cX0_doesWin 63 = .ok (.ifCond .ne 18, 3) := dk_154 0 18 (dk_at dksX0_doesWin_2 16 rfl rfl)
theorem dX0_doesWin_66 : decode cX0_doesWin 66 = .ok (.aload_n 0, 1) := dk_42 (dk_at dksX0_doesWin_2 19 rfl rfl)
theorem dX0_doesWin_67 : decode cX0_doesWin 67 = .ok (.iload_n 1, 1) := dk_27 (dk_at dksX0_doesWin_2 20 rfl rfl)
theorem dX0_doesWin_68 : decode cX0_doesWin 68 = .ok (.iload_n 2, 1) := dk_28 (dk_at dksX0_doesWin_2 21 rfl rfl)
theorem dX0_doesWin_69 : decode cX0_doesWin 69 = .ok (.iload 4, 2) := dk_21 4 (dk_at dksX0_doesWin_2 22 rfl rfl)
theorem dX0_doesWin_71 : decode cX0_doesWin 71 = .ok (.invokevirtual 394, 3) := dk_182 1 138 (dk_at dksX0_doesWin_3 0 rfl rfl)
theorem dX0_doesWin_74 : decode cX0_doesWin 74 = .ok (.ifCond .eq 7, 3) := dk_153 0 7 (dk_at dksX0_doesWin_3 3 rfl rfl)
theorem dX0_doesWin_77 : decode cX0_doesWin 77 = .ok (.iconst 1, 1) := dk_4 (dk_at dksX0_doesWin_3 6 rfl rfl)
theorem dX0_doesWin_78 : decode cX0_doesWin 78 = .ok (.goto 4, 3) := dk_167 0 4 (dk_at dksX0_doesWin_3 7 rfl rfl)
theorem dX0_doesWin_81 : decode cX0_doesWin 81 = .ok (.iconst 0, 1) := dk_3 (dk_at dksX0_doesWin_3 10 rfl rfl)
theorem dX0_doesWin_82 : decode cX0_doesWin 82 = .ok (.istore_n 3, 1) := dk_62 (dk_at dksX0_doesWin_3 11 rfl rfl)
theorem dX0_doesWin_83 : decode cX0_doesWin 83 = .ok (.iinc 4 1, 3) := dk_132 4 1 (dk_at dksX0_doesWin_3 12 rfl rfl)
theorem dX0_doesWin_86 : decode cX0_doesWin 86 = .ok (.goto (-42), 3) := dk_167 255 214 (dk_at dksX0_doesWin_3 15 rfl rfl)
theorem dX0_doesWin_89 : decode cX0_doesWin 89 = .ok (.aload_n 0, 1) := dk_42 (dk_at dksX0_doesWin_3 18 rfl rfl)
theorem dX0_doesWin_90 : decode cX0_doesWin 90 = .ok (.getfield 43, 3) := dk_180 0 43 (dk_at dksX0_doesWin_3 19 rfl rfl)
theorem dX0_doesWin_93 : decode cX0_doesWin 93 = .ok (.iload_n 2, 1) := dk_28 (dk_at dksX0_doesWin_3 22 rfl rfl)
theorem dX0_doesWin_94 : decode cX0_doesWin 94 = .ok (.iload_n 3, 1) := dk_29 (dk_at dksX0_doesWin_3 23 rfl rfl)
theorem dX0_doesWin_95 : decode cX0_doesWin 95 = .ok (.ifCond .eq 7, 3) := dk_153 0 7 (dk_at dksX0_doesWin_4 0 rfl rfl)
theorem dX0_doesWin_98 : decode cX0_doesWin 98 = .ok (.iconst 1, 1) := dk_4 (dk_at dksX0_doesWin_4 3 rfl rfl)
theorem dX0_doesWin_99 : decode cX0_doesWin 99 = .ok (.goto 4, 3) := dk_167 0 4 (dk_at dksX0_doesWin_4 4 rfl rfl)
theorem dX0_doesWin_102 : decode cX0_doesWin 102 = .ok (.iconst 2, 1) := dk_5 (dk_at dksX0_doesWin_4 7 rfl rfl)
theorem dX0_doesWin_103 : decode cX0_doesWin 103 = .ok (.i2b, 1) := dk_145 (dk_at dksX0_doesWin_4 8 rfl rfl)
theorem dX0_doesWin_104 : decode cX0_doesWin 104 = .ok (.bastore, 1) := dk_84 (dk_at dksX0_doesWin_4 9 rfl rfl)
theorem dX0_doesWin_105 : decode cX0_doesWin 105 = .ok (.iload_n 3, 1) := dk_29 (dk_at dksX0_doesWin_4 10 rfl rfl)
theorem dX0_doesWin_106 : decode cX0_doesWin 106 = .ok (.ireturn, 1) := dk_172 (dk_at dksX0_doesWin_4 11 rfl rfl)
def dkwX0_isGood_1 : List UInt8 := [182, 1, 144, 154, 0, 7, 4, 167, 0, 4, 3, 172]
abbrev dktX0_isGood_1 : List UInt8 := dkwX0_isGood_1 ++ []
def dkwX0_isGood_0 : List UInt8 := [42, 27, 42, 28, 4, 29, 120, 128, 182, 1, 141, 182, 0, 249, 153, 0, 20, 42, 27, 28, 4, 29, 120, 128]
abbrev dktX0_isGood_0 : List UInt8 := dkwX0_isGood_0 ++ dktX0_isGood_1
theorem dksX0_isGood_0 : cX0_isGood.data.toList.drop 0 = dktX0_isGood_0 := by decide +kernel
theorem dksX0_isGood_1 : cX0_isGood.data.toList.drop 24 = dktX0_isGood_1 := dk_seg dksX0_isGood_0 24 rfl rfl
theorem dX0_isGood_0 : decode cX0_isGood 0 = .ok (.aload_n 0, 1) := dk_42 (dk_at dksX0_isGood_0 0 rfl rfl)
theorem dX0_isGood_1 : decode cX0_isGood 1 = .ok (.iload_n 1, 1) := dk_27 (dk_at dksX0_isGood_0 1 rfl rfl)
theorem dX0_isGood_2 : decode cX0_isGood 2 = .ok (.aload_n 0, 1) := dk_42 (dk_at dksX0_isGood_0 2 rfl rfl)
theorem dX0_isGood_3 : decode cX0_isGood 3 = .ok (.iload_n 2, 1) := dk_28 (dk_at dksX0_isGood_0 3 rfl rfl)
theorem dX0_isGood_4 : decode cX0_isGood 4 = .ok (.iconst 1, 1) := dk_4 (dk_at dksX0_isGood_0 4 rfl rfl)
theorem dX0_isGood_5 : decode cX0_isGood 5 = .ok (.iload_n 3, 1) := dk_29 (dk_at dksX0_isGood_0 5 rfl rfl)
theorem dX0_isGood_6 : decode cX0_isGood 6 = .ok (.ishl, 1) := dk_120 (dk_at dksX0_isGood_0 6 rfl rfl)
theorem dX0_isGood_7 : decode cX0_isGood 7 = .ok (.ior, 1) := dk_128 (dk_at dksX0_isGood_0 7 rfl rfl)
theorem dX0_isGood_8 : decode cX0_isGood 8 = .ok (.invokevirtual 397, 3) := dk_182 1 141 (dk_at dksX0_isGood_0 8 rfl rfl)
theorem dX0_isGood_11 : decode cX0_isGood 11 = .ok (.invokevirtual 249, 3) := dk_182 0 249 (dk_at dksX0_isGood_0 11 rfl rfl)
theorem dX0_isGood_14 : decode cX0_isGood 14 = .ok (.ifCond .eq 20, 3) := dk_153 0 20 (dk_at dksX0_isGood_0 14 rfl rfl)
theorem dX0_isGood_17 : decode cX0_isGood 17 = .ok (.aload_n 0, 1) := dk_42 (dk_at dksX0_isGood_0 17 rfl rfl)
theorem dX0_isGood_18 : decode cX0_isGood 18 = .ok (.iload_n 1, 1) := dk_27 (dk_at dksX0_isGood_0 18 rfl rfl)
theorem dX0_isGood_19 : decode cX0_isGood 19 = .ok (.iload_n 2, 1) := dk_28 (dk_at dksX0_isGood_0 19 rfl rfl)
theorem dX0_isGood_20 : decode cX0_isGood 20 = .ok (.iconst 1, 1) := dk_4 (dk_at dksX0_isGood_0 20 rfl rfl)
theorem dX0_isGood_21 : decode cX0_isGood 21 = .ok (.iload_n 3, 1) := dk_29 (dk_at dksX0_isGood_0 21 rfl rfl)
theorem dX0_isGood_22 : decode cX0_isGood 22 = .ok (.ishl, 1) := dk_120 (dk_at dksX0_isGood_0 22 rfl rfl)
theorem dX0_isGood_23 : decode cX0_isGood 23 = .ok (.ior, 1) := dk_128 (dk_at dksX0_isGood_0 23 rfl rfl)
theorem dX0_isGood_24 : decode cX0_isGood 24 = .ok (.invokevirtual 400, 3) := dk_182 1 144 (dk_at dksX0_isGood_1 0 rfl rfl)
theorem dX0_isGood_27 : decode cX0_isGood 27 = .ok (.ifCond .ne 7, 3) := dk_154 0 7 (dk_at dksX0_isGood_1 3 rfl rfl)
theorem dX0_isGood_30 : decode cX0_isGood 30 = .ok (.iconst 1, 1) := dk_4 (dk_at dksX0_isGood_1 6 rfl rfl)
theorem dX0_isGood_31 : decode cX0_isGood 31 = .ok (.goto 4, 3) := dk_167 0 4 (dk_at dksX0_isGood_1 7 rfl rfl)
theorem dX0_isGood_34 : decode cX0_isGood 34 = .ok (.iconst 0, 1) := dk_3 (dk_at dksX0_isGood_1 10 rfl rfl)
theorem dX0_isGood_35 : decode cX0_isGood 35 = .ok (.ireturn, 1) := dk_172 (dk_at dksX0_isGood_1 11 rfl rfl)
def dkwX0_outOf_1 : List UInt8 := [180, 0, 46, 29, 46, 120, 167, 0, 4, 3, 128, 61, 132, 3, 1, 167, 255, 222, 28, 172]
abbrev dktX0_outOf_1 : List UInt8 := dkwX0_outOf_1 ++ []
def dkwX0_outOf_0 : List UInt8 := [3, 61, 3, 62, 29, 42, 180, 1, 135, 162, 0, 32, 28, 27, 29, 184, 0, 77, 153, 0, 14, 4, 42]
abbrev dktX0_outOf_0 : List UInt8 := dkwX0_outOf_0 ++ dktX0_outOf_1
theorem dksX0_outOf_0 : cX0_outOf.data.toList.drop 0 = dktX0_outOf_0 := by decide +kernel
theorem dksX0_outOf_1 : cX0_outOf.data.toList.drop 23 = dktX0_outOf_1 := dk_seg dksX0_outOf_0 23 rfl rfl
theorem dX0_outOf_0 : decode cX0_outOf 0 = .ok (.iconst 0, 1) := dk_3 (dk_at dksX0_outOf_0 0 rfl rfl)
theorem dX0_outOf_1 : decode cX0_outOf 1 = .ok (.istore_n 2, 1) := dk_61 (dk_at dksX0_outOf_0 1 rfl rfl)
theorem dX0_outOf_2 : decode cX0_outOf 2 = .ok (.iconst 0, 1) := dk_3 (dk_at dksX0_outOf_0 2 rfl rfl)
theorem dX0_outOf_3 : decode cX0_outOf 3 = .ok (.istore_n 3, 1) := dk_62 (dk_at dksX0_outOf_0 3 rfl rfl)
theorem dX0_outOf_4 : decode cX0_outOf 4 = .ok (.iload_n 3, 1) := dk_29 (dk_at dksX0_outOf_0 4 rfl rfl)
theorem dX0_outOf_5 : decode cX0_outOf 5 = .ok (.aload_n 0, 1) := dk_42 (dk_at dksX0_outOf_0 5 rfl rfl)
theorem dX0_outOf_6 : decode cX0_outOf 6 = .ok (.getfield 391, 3) := dk_180 1 135 (dk_at dksX0_outOf_0 6 rfl rfl)
theorem dX0_outOf_9 : decode cX0_outOf 9 = .ok (.if_icmp .ge 32, 3) := dk_162 0 32 (dk_at dksX0_outOf_0 9 rfl rfl)
theorem dX0_outOf_12 : decode cX0_outOf 12 = .ok (.iload_n 2, 1) := dk_28 (dk_at dksX0_outOf_0 12 rfl rfl)
theorem dX0_outOf_13 : decode cX0_outOf 13 = .ok (.iload_n 1, 1) := dk_27 (dk_at dksX0_outOf_0 13 rfl rfl)
theorem dX0_outOf_14 : decode cX0_outOf 14 = .ok (.iload_n 3, 1) := dk_29 (dk_at dksX0_outOf_0 14 rfl rfl)
theorem dX0_outOf_15 : decode cX0_outOf 15 = .ok (.invokestatic 77, 3) := dk_184 0 77 (dk_at dksX0_outOf_0 15 rfl rfl)
theorem dX0_outOf_18 : decode cX0_outOf 18 = .ok (.ifCond .eq 14, 3) := dk_153 0 14 (dk_at dksX0_outOf_0 18 rfl rfl)
theorem dX0_outOf_21 : decode cX0_outOf 21 = .ok (.iconst 1, 1) := dk_4 (dk_at dksX0_outOf_0 21 rfl rfl)
theorem dX0_outOf_22 : decode cX0_outOf 22 = .ok (.aload_n 0, 1) := dk_42 (dk_at dksX0_outOf_0 22 rfl rfl)
theorem dX0_outOf_23 : decode cX0_outOf 23 = .ok (.getfield 46, 3) := dk_180 0 46 (dk_at dksX0_outOf_1 0 rfl rfl)
theorem dX0_outOf_26 : decode cX0_outOf 26 = .ok (.iload_n 3, 1) := dk_29 (dk_at dksX0_outOf_1 3 rfl rfl)
theorem dX0_outOf_27 : decode cX0_outOf 27 = .ok (.iaload, 1) := dk_46 (dk_at dksX0_outOf_1 4 rfl rfl)
theorem dX0_outOf_28 : decode cX0_outOf 28 = .ok (.ishl, 1) := dk_120 (dk_at dksX0_outOf_1 5 rfl rfl)
theorem dX0_outOf_29 : decode cX0_outOf 29 = .ok (.goto 4, 3) := dk_167 0 4 (dk_at dksX0_outOf_1 6 rfl rfl)
theorem dX0_outOf_32 : decode cX0_outOf 32 = .ok (.iconst 0, 1) := dk_3 (dk_at dksX0_outOf_1 9 rfl rfl)
theorem dX0_outOf_33 : decode cX0_outOf 33 = .ok (.ior, 1) := dk_128 (dk_at dksX0_outOf_1 10 rfl rfl)
theorem dX0_outOf_34 : decode cX0_outOf 34 = .ok (.istore_n 2, 1) := dk_61 (dk_at dksX0_outOf_1 11 rfl rfl)
theorem dX0_outOf_35 : decode cX0_outOf 35 = .ok (.iinc 3 1, 3) := dk_132 3 1 (dk_at dksX0_outOf_1 12 rfl rfl)
theorem dX0_outOf_38 : decode cX0_outOf 38 = .ok (.goto (-34), 3) := dk_167 255 222 (dk_at dksX0_outOf_1 15 rfl rfl)
theorem dX0_outOf_41 : decode cX0_outOf 41 = .ok (.iload_n 2, 1) := dk_28 (dk_at dksX0_outOf_1 18 rfl rfl)
theorem dX0_outOf_42 : decode cX0_outOf 42 = .ok (.ireturn, 1) := dk_172 (dk_at dksX0_outOf_1 19 rfl rfl)
def dkwX0_signsFor_3 : List UInt8 := [29, 167, 0, 9, 42, 180, 0, 49, 28, 46, 172, 132, 3, 1, 167, 255, 212, 2, 172]
abbrev dktX0_signsFor_3 : List UInt8 := dkwX0_signsFor_3 ++ []
def dkwX0_signsFor_2 : List UInt8 := [42, 180, 0, 49, 2, 184, 1, 164, 42, 27, 3, 3, 29, 182, 1, 160, 153, 0, 19, 28, 2, 160, 0, 7]
abbrev dktX0_signsFor_2 : List UInt8 := dkwX0_signsFor_2 ++ dktX0_signsFor_3
def dkwX0_signsFor_1 : List UInt8 := [184, 0, 70, 153, 0, 11, 27, 28, 184, 0, 77, 154, 0, 5, 2, 172, 4, 62, 29, 16, 6, 163, 0, 44]
abbrev dktX0_signsFor_1 : List UInt8 := dkwX0_signsFor_1 ++ dktX0_signsFor_2
def dkwX0_signsFor_0 : List UInt8 := [27, 184, 0, 237, 153, 0, 32, 27, 184, 0, 152, 16, 6, 163, 0, 23, 28, 2, 159, 0, 20, 28]
abbrev dktX0_signsFor_0 : List UInt8 := dkwX0_signsFor_0 ++ dktX0_signsFor_1
theorem dksX0_signsFor_0 : cX0_signsFor.data.toList.drop 0 = dktX0_signsFor_0 := by decide +kernel
theorem dksX0_signsFor_1 : cX0_signsFor.data.toList.drop 22 = dktX0_signsFor_1 := dk_seg dksX0_signsFor_0 22 rfl rfl
theorem dksX0_signsFor_2 : cX0_signsFor.data.toList.drop 46 = dktX0_signsFor_2 := dk_seg dksX0_signsFor_1 24 rfl rfl
theorem dksX0_signsFor_3 : cX0_signsFor.data.toList.drop 70 = dktX0_signsFor_3 := dk_seg dksX0_signsFor_2 24 rfl rfl
theorem dX0_signsFor_0 : decode cX0_signsFor 0 = .ok (.iload_n 1, 1) := dk_27 (dk_at dksX0_signsFor_0 0 rfl rfl)
theorem dX0_signsFor_1 : decode cX0_signsFor 1 = .ok (.invokestatic 237, 3) := dk_184 0 237 (dk_at dksX0_signsFor_0 1 rfl rfl)
theorem dX0_signsFor_4 : decode cX0_signsFor 4 = .ok (.ifCond .eq 32, 3) := dk_153 0 32 (dk_at dksX0_signsFor_0 4 rfl rfl)
theorem dX0_signsFor_7 : decode cX0_signsFor 7 = .ok (.iload_n 1, 1) := dk_27 (dk_at dksX0_signsFor_0 7 rfl rfl)
theorem dX0_signsFor_8 : decode cX0_signsFor 8 = .ok (.invokestatic 152, 3) := dk_184 0 152 (dk_at dksX0_signsFor_0 8 rfl rfl)
theorem dX0_signsFor_11 : decode cX0_signsFor 11 = .ok (.bipush 6, 2) := dk_16 6 (dk_at dksX0_signsFor_0 11 rfl rfl)
theorem dX0_signsFor_13 : decode cX0_signsFor 13 = .ok (.if_icmp .gt 23, 3) := dk_163 0 23 (dk_at dksX0_signsFor_0 13 rfl rfl)
theorem dX0_signsFor_16 : decode cX0_signsFor 16 = .ok (.iload_n 2, 1) := dk_28 (dk_at dksX0_signsFor_0 16 rfl rfl)
theorem dX0_signsFor_17 : decode cX0_signsFor 17 = .ok (.iconst (-1), 1) := dk_2 (dk_at dksX0_signsFor_0 17 rfl rfl)
theorem dX0_signsFor_18 : decode cX0_signsFor 18 = .ok (.if_icmp .eq 20, 3) := dk_159 0 20 (dk_at dksX0_signsFor_0 18 rfl rfl)
theorem dX0_signsFor_21 : decode cX0_signsFor 21 = .ok (.iload_n 2, 1) := dk_28 (dk_at dksX0_signsFor_0 21 rfl rfl)
theorem dX0_signsFor_22 : decode cX0_signsFor 22 = .ok (.invokestatic 70, 3) := dk_184 0 70 (dk_at dksX0_signsFor_1 0 rfl rfl)
theorem dX0_signsFor_25 : decode cX0_signsFor 25 = .ok (.ifCond .eq 11, 3) := dk_153 0 11 (dk_at dksX0_signsFor_1 3 rfl rfl)
theorem dX0_signsFor_28 : decode cX0_signsFor 28 = .ok (.iload_n 1, 1) := dk_27 (dk_at dksX0_signsFor_1 6 rfl rfl)
theorem dX0_signsFor_29 : decode cX0_signsFor 29 = .ok (.iload_n 2, 1) := dk_28 (dk_at dksX0_signsFor_1 7 rfl rfl)
theorem dX0_signsFor_30 : decode cX0_signsFor 30 = .ok (.invokestatic 77, 3) := dk_184 0 77 (dk_at dksX0_signsFor_1 8 rfl rfl)
theorem dX0_signsFor_33 : decode cX0_signsFor 33 = .ok (.ifCond .ne 5, 3) := dk_154 0 5 (dk_at dksX0_signsFor_1 11 rfl rfl)
theorem dX0_signsFor_36 : decode cX0_signsFor 36 = .ok (.iconst (-1), 1) := dk_2 (dk_at dksX0_signsFor_1 14 rfl rfl)
theorem dX0_signsFor_37 : decode cX0_signsFor 37 = .ok (.ireturn, 1) := dk_172 (dk_at dksX0_signsFor_1 15 rfl rfl)
theorem dX0_signsFor_38 : decode cX0_signsFor 38 = .ok (.iconst 1, 1) := dk_4 (dk_at dksX0_signsFor_1 16 rfl rfl)
theorem dX0_signsFor_39 : decode cX0_signsFor 39 = .ok (.istore_n 3, 1) := dk_62 (dk_at dksX0_signsFor_1 17 rfl rfl)
theorem dX0_signsFor_40 : decode cX0_signsFor 40 = .ok (.iload_n 3, 1) := dk_29 (dk_at dksX0_signsFor_1 18 rfl rfl)
theorem dX0_signsFor_41 : decode cX0_signsFor 41 = .ok (.bipush 6, 2) := dk_16 6 (dk_at dksX0_signsFor_1 19 rfl rfl)
theorem dX0_signsFor_43 : decode cX0_signsFor 43 = .ok (.if_icmp .gt 44, 3) := dk_163 0 44 (dk_at dksX0_signsFor_1 21 rfl rfl)
theorem dX0_signsFor_46 : decode cX0_signsFor 46 = .ok (.aload_n 0, 1) := dk_42 (dk_at dksX0_signsFor_2 0 rfl rfl)
theorem dX0_signsFor_47 : decode cX0_signsFor 47 = .ok (.getfield 49, 3) := dk_180 0 49 (dk_at dksX0_signsFor_2 1 rfl rfl)
theorem dX0_signsFor_50 : decode cX0_signsFor 50 = .ok (.iconst (-1), 1) := dk_2 (dk_at dksX0_signsFor_2 4 rfl rfl)
theorem dX0_signsFor_51 : decode cX0_signsFor 51 = .ok (.invokestatic 420, 3) := dk_184 1 164 (dk_at dksX0_signsFor_2 5 rfl rfl)
theorem dX0_signsFor_54 : decode cX0_signsFor 54 = .ok (.aload_n 0, 1) := dk_42 (dk_at dksX0_signsFor_2 8 rfl rfl)
theorem dX0_signsFor_55 : decode cX0_signsFor 55 = .ok (.iload_n 1, 1) := dk_27 (dk_at dksX0_signsFor_2 9 rfl rfl)
theorem dX0_signsFor_56 : decode cX0_signsFor 56 = .ok (.iconst 0, 1) := dk_3 (dk_at dksX0_signsFor_2 10 rfl rfl)
theorem dX0_signsFor_57 : decode cX0_signsFor 57 = .ok (.iconst 0, 1) := dk_3 (dk_at dksX0_signsFor_2 11 rfl rfl)
theorem dX0_signsFor_58 : decode cX0_signsFor 58 = .ok (.iload_n 3, 1) := dk_29 (dk_at dksX0_signsFor_2 12 rfl rfl)
theorem dX0_signsFor_59 : decode cX0_signsFor 59 = .ok (.invokevirtual 416, 3) := dk_182 1 160 (dk_at dksX0_signsFor_2 13 rfl rfl)
theorem dX0_signsFor_62 : decode cX0_signsFor 62 = .ok (.ifCond .eq 19, 3) := dk_153 0 19 (dk_at dksX0_signsFor_2 16 rfl rfl)
theorem dX0_signsFor_65 : decode cX0_signsFor 65 = .ok (.iload_n 2, 1) := dk_28 (dk_at dksX0_signsFor_2 19 rfl rfl)
theorem dX0_signsFor_66 : decode cX0_signsFor 66 = .ok (.iconst (-1), 1) := dk_2 (dk_at dksX0_signsFor_2 20 rfl rfl)
theorem dX0_signsFor_67 : decode cX0_signsFor 67 = .ok (.if_icmp .ne 7, 3) := dk_160 0 7 (dk_at dksX0_signsFor_2 21 rfl rfl)
theorem dX0_signsFor_70 : decode cX0_signsFor 70 = .ok (.iload_n 3, 1) := dk_29 (dk_at dksX0_signsFor_3 0 rfl rfl)
theorem dX0_signsFor_71 : decode cX0_signsFor 71 = .ok (.goto 9, 3) := dk_167 0 9 (dk_at dksX0_signsFor_3 1 rfl rfl)
theorem dX0_signsFor_74 : decode cX0_signsFor 74 = .ok (.aload_n 0, 1) := dk_42 (dk_at dksX0_signsFor_3 4 rfl rfl)
theorem dX0_signsFor_75 : decode cX0_signsFor 75 = .ok (.getfield 49, 3) := dk_180 0 49 (dk_at dksX0_signsFor_3 5 rfl rfl)
theorem dX0_signsFor_78 : decode cX0_signsFor 78 = .ok (.iload_n 2, 1) := dk_28 (dk_at dksX0_signsFor_3 8 rfl rfl)
theorem dX0_signsFor_79 : decode cX0_signsFor 79 = .ok (.iaload, 1) := dk_46 (dk_at dksX0_signsFor_3 9 rfl rfl)
theorem dX0_signsFor_80 : decode cX0_signsFor 80 = .ok (.ireturn, 1) := dk_172 (dk_at dksX0_signsFor_3 10 rfl rfl)
theorem dX0_signsFor_81 : decode cX0_signsFor 81 = .ok (.iinc 3 1, 3) := dk_132 3 1 (dk_at dksX0_signsFor_3 11 rfl rfl)
theorem dX0_signsFor_84 : decode cX0_signsFor 84 = .ok (.goto (-44), 3) := dk_167 255 212 (dk_at dksX0_signsFor_3 14 rfl rfl)
theorem dX0_signsFor_87 : decode cX0_signsFor 87 = .ok (.iconst (-1), 1) := dk_2 (dk_at dksX0_signsFor_3 17 rfl rfl)
theorem dX0_signsFor_88 : decode cX0_signsFor 88 = .ok (.ireturn, 1) := dk_172 (dk_at dksX0_signsFor_3 18 rfl rfl)
def dkwX0_signs_4 : List UInt8 := [182, 1, 160, 153, 0, 5, 4, 172, 132, 6, 1, 167, 255, 207, 3, 172]
abbrev dktX0_signs_4 : List UInt8 := dkwX0_signs_4 ++ []
def dkwX0_signs_3 : List UInt8 := [180, 0, 49, 21, 5, 21, 6, 79, 42, 27, 21, 5, 4, 96, 29, 21, 6, 4, 96, 184, 1, 158, 21, 4]
abbrev dktX0_signs_3 : List UInt8 := dkwX0_signs_3 ++ dktX0_signs_4
def dkwX0_signs_2 : List UInt8 := [167, 0, 4, 3, 172, 3, 54, 6, 21, 6, 29, 163, 0, 49, 21, 6, 21, 4, 162, 0, 42, 42]
abbrev dktX0_signs_2 : List UInt8 := dkwX0_signs_2 ++ dktX0_signs_3
def dkwX0_signs_1 : List UInt8 := [167, 255, 237, 21, 5, 16, 26, 160, 0, 22, 29, 21, 4, 160, 0, 14, 42, 182, 1, 155, 154, 0, 7, 4]
abbrev dktX0_signs_1 : List UInt8 := dkwX0_signs_1 ++ dktX0_signs_2
def dkwX0_signs_0 : List UInt8 := [28, 54, 5, 21, 5, 16, 26, 162, 0, 18, 27, 21, 5, 184, 0, 77, 154, 0, 9, 132, 5, 1]
abbrev dktX0_signs_0 : List UInt8 := dkwX0_signs_0 ++ dktX0_signs_1
theorem dksX0_signs_0 : cX0_signs.data.toList.drop 0 = dktX0_signs_0 := by decide +kernel
theorem dksX0_signs_1 : cX0_signs.data.toList.drop 22 = dktX0_signs_1 := dk_seg dksX0_signs_0 22 rfl rfl
theorem dksX0_signs_2 : cX0_signs.data.toList.drop 46 = dktX0_signs_2 := dk_seg dksX0_signs_1 24 rfl rfl
theorem dksX0_signs_3 : cX0_signs.data.toList.drop 68 = dktX0_signs_3 := dk_seg dksX0_signs_2 22 rfl rfl
theorem dksX0_signs_4 : cX0_signs.data.toList.drop 92 = dktX0_signs_4 := dk_seg dksX0_signs_3 24 rfl rfl
theorem dX0_signs_0 : decode cX0_signs 0 = .ok (.iload_n 2, 1) := dk_28 (dk_at dksX0_signs_0 0 rfl rfl)
theorem dX0_signs_1 : decode cX0_signs 1 = .ok (.istore 5, 2) := dk_54 5 (dk_at dksX0_signs_0 1 rfl rfl)
theorem dX0_signs_3 : decode cX0_signs 3 = .ok (.iload 5, 2) := dk_21 5 (dk_at dksX0_signs_0 3 rfl rfl)
theorem dX0_signs_5 : decode cX0_signs 5 = .ok (.bipush 26, 2) := dk_16 26 (dk_at dksX0_signs_0 5 rfl rfl)
theorem dX0_signs_7 : decode cX0_signs 7 = .ok (.if_icmp .ge 18, 3) := dk_162 0 18 (dk_at dksX0_signs_0 7 rfl rfl)
theorem dX0_signs_10 : decode cX0_signs 10 = .ok (.iload_n 1, 1) := dk_27 (dk_at dksX0_signs_0 10 rfl rfl)
theorem dX0_signs_11 : decode cX0_signs 11 = .ok (.iload 5, 2) := dk_21 5 (dk_at dksX0_signs_0 11 rfl rfl)
theorem dX0_signs_13 : decode cX0_signs 13 = .ok (.invokestatic 77, 3) := dk_184 0 77 (dk_at dksX0_signs_0 13 rfl rfl)
theorem dX0_signs_16 : decode cX0_signs 16 = .ok (.ifCond .ne 9, 3) := dk_154 0 9 (dk_at dksX0_signs_0 16 rfl rfl)
theorem dX0_signs_19 : decode cX0_signs 19 = .ok (.iinc 5 1, 3) := dk_132 5 1 (dk_at dksX0_signs_0 19 rfl rfl)
theorem dX0_signs_22 : decode cX0_signs 22 = .ok (.goto (-19), 3) := dk_167 255 237 (dk_at dksX0_signs_1 0 rfl rfl)
theorem dX0_signs_25 : decode cX0_signs 25 = .ok (.iload 5, 2) := dk_21 5 (dk_at dksX0_signs_1 3 rfl rfl)
theorem dX0_signs_27 : decode cX0_signs 27 = .ok (.bipush 26, 2) := dk_16 26 (dk_at dksX0_signs_1 5 rfl rfl)
theorem dX0_signs_29 : decode cX0_signs 29 = .ok (.if_icmp .ne 22, 3) := dk_160 0 22 (dk_at dksX0_signs_1 7 rfl rfl)
theorem dX0_signs_32 : decode cX0_signs 32 = .ok (.iload_n 3, 1) := dk_29 (dk_at dksX0_signs_1 10 rfl rfl)
theorem dX0_signs_33 : decode cX0_signs 33 = .ok (.iload 4, 2) := dk_21 4 (dk_at dksX0_signs_1 11 rfl rfl)
theorem dX0_signs_35 : decode cX0_signs 35 = .ok (.if_icmp .ne 14, 3) := dk_160 0 14 (dk_at dksX0_signs_1 13 rfl rfl)
theorem dX0_signs_38 : decode cX0_signs 38 = .ok (.aload_n 0, 1) := dk_42 (dk_at dksX0_signs_1 16 rfl rfl)
theorem dX0_signs_39 : decode cX0_signs 39 = .ok (.invokevirtual 411, 3) := dk_182 1 155 (dk_at dksX0_signs_1 17 rfl rfl)
theorem dX0_signs_42 : decode cX0_signs 42 = .ok (.ifCond .ne 7, 3) := dk_154 0 7 (dk_at dksX0_signs_1 20 rfl rfl)
theorem dX0_signs_45 : decode cX0_signs 45 = .ok (.iconst 1, 1) := dk_4 (dk_at dksX0_signs_1 23 rfl rfl)
theorem dX0_signs_46 : decode cX0_signs 46 = .ok (.goto 4, 3) := dk_167 0 4 (dk_at dksX0_signs_2 0 rfl rfl)
theorem dX0_signs_49 : decode cX0_signs 49 = .ok (.iconst 0, 1) := dk_3 (dk_at dksX0_signs_2 3 rfl rfl)
theorem dX0_signs_50 : decode cX0_signs 50 = .ok (.ireturn, 1) := dk_172 (dk_at dksX0_signs_2 4 rfl rfl)
theorem dX0_signs_51 : decode cX0_signs 51 = .ok (.iconst 0, 1) := dk_3 (dk_at dksX0_signs_2 5 rfl rfl)
theorem dX0_signs_52 : decode cX0_signs 52 = .ok (.istore 6, 2) := dk_54 6 (dk_at dksX0_signs_2 6 rfl rfl)
theorem dX0_signs_54 : decode cX0_signs 54 = .ok (.iload 6, 2) := dk_21 6 (dk_at dksX0_signs_2 8 rfl rfl)
theorem dX0_signs_56 : decode cX0_signs 56 = .ok (.iload_n 3, 1) := dk_29 (dk_at dksX0_signs_2 10 rfl rfl)
theorem dX0_signs_57 : decode cX0_signs 57 = .ok (.if_icmp .gt 49, 3) := dk_163 0 49 (dk_at dksX0_signs_2 11 rfl rfl)
theorem dX0_signs_60 : decode cX0_signs 60 = .ok (.iload 6, 2) := dk_21 6 (dk_at dksX0_signs_2 14 rfl rfl)
theorem dX0_signs_62 : decode cX0_signs 62 = .ok (.iload 4, 2) := dk_21 4 (dk_at dksX0_signs_2 16 rfl rfl)
theorem dX0_signs_64 : decode cX0_signs 64 = .ok (.if_icmp .ge 42, 3) := dk_162 0 42 (dk_at dksX0_signs_2 18 rfl rfl)
theorem dX0_signs_67 : decode cX0_signs 67 = .ok (.aload_n 0, 1) := dk_42 (dk_at dksX0_signs_2 21 rfl rfl)
theorem dX0_signs_68 : decode cX0_signs 68 = .ok (.getfield 49, 3) := dk_180 0 49 (dk_at dksX0_signs_3 0 rfl rfl)
theorem dX0_signs_71 : decode cX0_signs 71 = .ok (.iload 5, 2) := dk_21 5 (dk_at dksX0_signs_3 3 rfl rfl)
theorem dX0_signs_73 : decode cX0_signs 73 = .ok (.iload 6, 2) := dk_21 6 (dk_at dksX0_signs_3 5 rfl rfl)
theorem dX0_signs_75 : decode cX0_signs 75 = .ok (.iastore, 1) := dk_79 (dk_at dksX0_signs_3 7 rfl rfl)
theorem dX0_signs_76 : decode cX0_signs 76 = .ok (.aload_n 0, 1) := dk_42 (dk_at dksX0_signs_3 8 rfl rfl)
theorem dX0_signs_77 : decode cX0_signs 77 = .ok (.iload_n 1, 1) := dk_27 (dk_at dksX0_signs_3 9 rfl rfl)
theorem dX0_signs_78 : decode cX0_signs 78 = .ok (.iload 5, 2) := dk_21 5 (dk_at dksX0_signs_3 10 rfl rfl)
theorem dX0_signs_80 : decode cX0_signs 80 = .ok (.iconst 1, 1) := dk_4 (dk_at dksX0_signs_3 12 rfl rfl)
theorem dX0_signs_81 : decode cX0_signs 81 = .ok (.iadd, 1) := dk_96 (dk_at dksX0_signs_3 13 rfl rfl)
theorem dX0_signs_82 : decode cX0_signs 82 = .ok (.iload_n 3, 1) := dk_29 (dk_at dksX0_signs_3 14 rfl rfl)
theorem dX0_signs_83 : decode cX0_signs 83 = .ok (.iload 6, 2) := dk_21 6 (dk_at dksX0_signs_3 15 rfl rfl)
theorem dX0_signs_85 : decode cX0_signs 85 = .ok (.iconst 1, 1) := dk_4 (dk_at dksX0_signs_3 17 rfl rfl)
theorem dX0_signs_86 : decode cX0_signs 86 = .ok (.iadd, 1) := dk_96 (dk_at dksX0_signs_3 18 rfl rfl)
theorem dX0_signs_87 : decode cX0_signs 87 = .ok (.invokestatic 414, 3) := dk_184 1 158 (dk_at dksX0_signs_3 19 rfl rfl)
theorem dX0_signs_90 : decode cX0_signs 90 = .ok (.iload 4, 2) := dk_21 4 (dk_at dksX0_signs_3 22 rfl rfl)
theorem dX0_signs_92 : decode cX0_signs 92 = .ok (.invokevirtual 416, 3) := dk_182 1 160 (dk_at dksX0_signs_4 0 rfl rfl)
theorem dX0_signs_95 : decode cX0_signs 95 = .ok (.ifCond .eq 5, 3) := dk_153 0 5 (dk_at dksX0_signs_4 3 rfl rfl)
theorem dX0_signs_98 : decode cX0_signs 98 = .ok (.iconst 1, 1) := dk_4 (dk_at dksX0_signs_4 6 rfl rfl)
theorem dX0_signs_99 : decode cX0_signs 99 = .ok (.ireturn, 1) := dk_172 (dk_at dksX0_signs_4 7 rfl rfl)
theorem dX0_signs_100 : decode cX0_signs 100 = .ok (.iinc 6 1, 3) := dk_132 6 1 (dk_at dksX0_signs_4 8 rfl rfl)
theorem dX0_signs_103 : decode cX0_signs 103 = .ok (.goto (-49), 3) := dk_167 255 207 (dk_at dksX0_signs_4 11 rfl rfl)
theorem dX0_signs_106 : decode cX0_signs 106 = .ok (.iconst 0, 1) := dk_3 (dk_at dksX0_signs_4 14 rfl rfl)
theorem dX0_signs_107 : decode cX0_signs 107 = .ok (.ireturn, 1) := dk_172 (dk_at dksX0_signs_4 15 rfl rfl)
def dkwX0_isAnyMistaken_2 : List UInt8 := [172, 132, 2, 1, 167, 255, 221, 132, 1, 1, 167, 255, 200, 3, 172]
abbrev dktX0_isAnyMistaken_2 : List UInt8 := dkwX0_isAnyMistaken_2 ++ []
def dkwX0_isAnyMistaken_1 : List UInt8 := [180, 0, 12, 180, 0, 81, 27, 50, 42, 180, 0, 12, 180, 0, 81, 28, 50, 182, 1, 151, 153, 0, 5, 4]
abbrev dktX0_isAnyMistaken_1 : List UInt8 := dkwX0_isAnyMistaken_1 ++ dktX0_isAnyMistaken_2
def dkwX0_isAnyMistaken_0 : List UInt8 := [3, 60, 27, 42, 180, 0, 12, 180, 0, 66, 3, 46, 162, 0, 49, 3, 61, 28, 27, 162, 0, 36, 42, 42]
abbrev dktX0_isAnyMistaken_0 : List UInt8 := dkwX0_isAnyMistaken_0 ++ dktX0_isAnyMistaken_1
theorem dksX0_isAnyMistaken_0 : cX0_isAnyMistaken.data.toList.drop 0 = dktX0_isAnyMistaken_0 := by decide +kernel
theorem dksX0_isAnyMistaken_1 : cX0_isAnyMistaken.data.toList.drop 24 = dktX0_isAnyMistaken_1 := dk_seg dksX0_isAnyMistaken_0 24 rfl rfl
theorem dksX0_isAnyMistaken_2 : cX0_isAnyMistaken.data.toList.drop 48 = dktX0_isAnyMistaken_2 := dk_seg dksX0_isAnyMistaken_1 24 rfl rfl
theorem dX0_isAnyMistaken_0 : decode cX0_isAnyMistaken 0 = .ok (.iconst 0, 1) := dk_3 (dk_at dksX0_isAnyMistaken_0 0 rfl rfl)
theorem dX0_isAnyMistaken_1 : decode cX0_isAnyMistaken 1 = .ok (.istore_n 1, 1) := dk_60 (dk_at dksX0_isAnyMistaken_0 1 rfl rfl)
theorem dX0_isAnyMistaken_2 : decode cX0_isAnyMistaken 2 = .ok (.iload_n 1, 1) := dk_27 (dk_at dksX0_isAnyMistaken_0 2 rfl rfl)
theorem dX0_isAnyMistaken_3 : decode cX0_isAnyMistaken 3 = .ok (.aload_n 0, 1) := dk_42 (dk_at dksX0_isAnyMistaken_0 3 rfl rfl)
theorem dX0_isAnyMistaken_4 : decode cX0_isAnyMistaken 4 = .ok (.getfield 12, 3) := dk_180 0 12 (dk_at dksX0_isAnyMistaken_0 4 rfl rfl)
theorem dX0_isAnyMistaken_7 : decode cX0_isAnyMistaken 7 = .ok (.getfield 66, 3) := dk_180 0 66 (dk_at dksX0_isAnyMistaken_0 7 rfl rfl)
theorem dX0_isAnyMistaken_10 : decode cX0_isAnyMistaken 10 = .ok (.iconst 0, 1) := dk_3 (dk_at dksX0_isAnyMistaken_0 10 rfl rfl)
theorem dX0_isAnyMistaken_11 : decode cX0_isAnyMistaken 11 = .ok (.iaload, 1) := dk_46 (dk_at dksX0_isAnyMistaken_0 11 rfl rfl)
theorem dX0_isAnyMistaken_12 : decode cX0_isAnyMistaken 12 = .ok (.if_icmp .ge 49, 3) := dk_162 0 49 (dk_at dksX0_isAnyMistaken_0 12 rfl rfl)
theorem dX0_isAnyMistaken_15 : decode cX0_isAnyMistaken 15 = .ok (.iconst 0, 1) := dk_3 (dk_at dksX0_isAnyMistaken_0 15 rfl rfl)
theorem dX0_isAnyMistaken_16 : decode cX0_isAnyMistaken 16 = .ok (.istore_n 2, 1) := dk_61 (dk_at dksX0_isAnyMistaken_0 16 rfl rfl)
theorem dX0_isAnyMistaken_17 : decode cX0_isAnyMistaken 17 = .ok (.iload_n 2, 1) := dk_28 (dk_at dksX0_isAnyMistaken_0 17 rfl rfl)
theorem dX0_isAnyMistaken_18 : decode cX0_isAnyMistaken 18 = .ok (.iload_n 1, 1) := dk_27 (dk_at dksX0_isAnyMistaken_0 18 rfl rfl)
theorem dX0_isAnyMistaken_19 : decode cX0_isAnyMistaken 19 = .ok (.if_icmp .ge 36, 3) := dk_162 0 36 (dk_at dksX0_isAnyMistaken_0 19 rfl rfl)
theorem dX0_isAnyMistaken_22 : decode cX0_isAnyMistaken 22 = .ok (.aload_n 0, 1) := dk_42 (dk_at dksX0_isAnyMistaken_0 22 rfl rfl)
theorem dX0_isAnyMistaken_23 : decode cX0_isAnyMistaken 23 = .ok (.aload_n 0, 1) := dk_42 (dk_at dksX0_isAnyMistaken_0 23 rfl rfl)
theorem dX0_isAnyMistaken_24 : decode cX0_isAnyMistaken 24 = .ok (.getfield 12, 3) := dk_180 0 12 (dk_at dksX0_isAnyMistaken_1 0 rfl rfl)
theorem dX0_isAnyMistaken_27 : decode cX0_isAnyMistaken 27 = .ok (.getfield 81, 3) := dk_180 0 81 (dk_at dksX0_isAnyMistaken_1 3 rfl rfl)
theorem dX0_isAnyMistaken_30 : decode cX0_isAnyMistaken 30 = .ok (.iload_n 1, 1) := dk_27 (dk_at dksX0_isAnyMistaken_1 6 rfl rfl)
theorem dX0_isAnyMistaken_31 : decode cX0_isAnyMistaken 31 = .ok (.aaload, 1) := dk_50 (dk_at dksX0_isAnyMistaken_1 7 rfl rfl)
theorem dX0_isAnyMistaken_32 : decode cX0_isAnyMistaken 32 = .ok (.aload_n 0, 1) := dk_42 (dk_at dksX0_isAnyMistaken_1 8 rfl rfl)
theorem dX0_isAnyMistaken_33 : decode cX0_isAnyMistaken 33 = .ok (.getfield 12, 3) := dk_180 0 12 (dk_at dksX0_isAnyMistaken_1 9 rfl rfl)
theorem dX0_isAnyMistaken_36 : decode cX0_isAnyMistaken 36 = .ok (.getfield 81, 3) := dk_180 0 81 (dk_at dksX0_isAnyMistaken_1 12 rfl rfl)
theorem dX0_isAnyMistaken_39 : decode cX0_isAnyMistaken 39 = .ok (.iload_n 2, 1) := dk_28 (dk_at dksX0_isAnyMistaken_1 15 rfl rfl)
theorem dX0_isAnyMistaken_40 : decode cX0_isAnyMistaken 40 = .ok (.aaload, 1) := dk_50 (dk_at dksX0_isAnyMistaken_1 16 rfl rfl)
theorem dX0_isAnyMistaken_41 : decode cX0_isAnyMistaken 41 = .ok (.invokevirtual 407, 3) := dk_182 1 151 (dk_at dksX0_isAnyMistaken_1 17 rfl rfl)
theorem dX0_isAnyMistaken_44 : decode cX0_isAnyMistaken 44 = .ok (.ifCond .eq 5, 3) := dk_153 0 5 (dk_at dksX0_isAnyMistaken_1 20 rfl rfl)
theorem dX0_isAnyMistaken_47 : decode cX0_isAnyMistaken 47 = .ok (.iconst 1, 1) := dk_4 (dk_at dksX0_isAnyMistaken_1 23 rfl rfl)
theorem dX0_isAnyMistaken_48 : decode cX0_isAnyMistaken 48 = .ok (.ireturn, 1) := dk_172 (dk_at dksX0_isAnyMistaken_2 0 rfl rfl)
theorem dX0_isAnyMistaken_49 : decode cX0_isAnyMistaken 49 = .ok (.iinc 2 1, 3) := dk_132 2 1 (dk_at dksX0_isAnyMistaken_2 1 rfl rfl)
theorem dX0_isAnyMistaken_52 : decode cX0_isAnyMistaken 52 = .ok (.goto (-35), 3) := dk_167 255 221 (dk_at dksX0_isAnyMistaken_2 4 rfl rfl)
theorem dX0_isAnyMistaken_55 : decode cX0_isAnyMistaken 55 = .ok (.iinc 1 1, 3) := dk_132 1 1 (dk_at dksX0_isAnyMistaken_2 7 rfl rfl)
theorem dX0_isAnyMistaken_58 : decode cX0_isAnyMistaken 58 = .ok (.goto (-56), 3) := dk_167 255 200 (dk_at dksX0_isAnyMistaken_2 10 rfl rfl)
theorem dX0_isAnyMistaken_61 : decode cX0_isAnyMistaken 61 = .ok (.iconst 0, 1) := dk_3 (dk_at dksX0_isAnyMistaken_2 13 rfl rfl)
theorem dX0_isAnyMistaken_62 : decode cX0_isAnyMistaken 62 = .ok (.ireturn, 1) := dk_172 (dk_at dksX0_isAnyMistaken_2 14 rfl rfl)
def dkwX0_areMistaken_4 : List UInt8 := [172]
abbrev dktX0_areMistaken_4 : List UInt8 := dkwX0_areMistaken_4 ++ []
def dkwX0_areMistaken_3 : List UInt8 := [160, 0, 7, 4, 167, 0, 4, 3, 54, 6, 21, 6, 154, 0, 5, 3, 172, 132, 3, 1, 167, 255, 180, 4]
abbrev dktX0_areMistaken_3 : List UInt8 := dkwX0_areMistaken_3 ++ dktX0_areMistaken_4
def dkwX0_areMistaken_2 : List UInt8 := [180, 0, 49, 21, 4, 46, 2, 159, 0, 24, 42, 180, 0, 49, 21, 4, 46, 42, 180, 0, 49, 21, 5, 46]
abbrev dktX0_areMistaken_2 : List UInt8 := dkwX0_areMistaken_2 ++ dktX0_areMistaken_3
def dkwX0_areMistaken_1 : List UInt8 := [182, 0, 85, 29, 46, 54, 4, 44, 182, 0, 85, 29, 46, 54, 5, 21, 4, 21, 5, 159, 0, 31, 42]
abbrev dktX0_areMistaken_1 : List UInt8 := dkwX0_areMistaken_1 ++ dktX0_areMistaken_2
def dkwX0_areMistaken_0 : List UInt8 := [43, 182, 0, 199, 44, 182, 0, 199, 159, 0, 5, 3, 172, 3, 62, 29, 43, 182, 0, 199, 162, 0, 74, 43]
abbrev dktX0_areMistaken_0 : List UInt8 := dkwX0_areMistaken_0 ++ dktX0_areMistaken_1
theorem dksX0_areMistaken_0 : cX0_areMistaken.data.toList.drop 0 = dktX0_areMistaken_0 := by decide +kernel
theorem dksX0_areMistaken_1 : cX0_areMistaken.data.toList.drop 24 = dktX0_areMistaken_1 := dk_seg dksX0_areMistaken_0 24 rfl rfl
theorem dksX0_areMistaken_2 : cX0_areMistaken.data.toList.drop 47 = dktX0_areMistaken_2 := dk_seg dksX0_areMistaken_1 23 rfl rfl
theorem dksX0_areMistaken_3 : cX0_areMistaken.data.toList.drop 71 = dktX0_areMistaken_3 := dk_seg dksX0_areMistaken_2 24 rfl rfl
theorem dksX0_areMistaken_4 : cX0_areMistaken.data.toList.drop 95 = dktX0_areMistaken_4 := dk_seg dksX0_areMistaken_3 24 rfl rfl
theorem dX0_areMistaken_0 : decode cX0_areMistaken 0 = .ok (.aload_n 1, 1) := dk_43 (dk_at dksX0_areMistaken_0 0 rfl rfl)
theorem dX0_areMistaken_1 : decode cX0_areMistaken 1 = .ok (.invokevirtual 199, 3) := dk_182 0 199 (dk_at dksX0_areMistaken_0 1 rfl rfl)
theorem dX0_areMistaken_4 : decode cX0_areMistaken 4 = .ok (.aload_n 2, 1) := dk_44 (dk_at dksX0_areMistaken_0 4 rfl rfl)
theorem dX0_areMistaken_5 : decode cX0_areMistaken 5 = .ok (.invokevirtual 199, 3) := dk_182 0 199 (dk_at dksX0_areMistaken_0 5 rfl rfl)
theorem dX0_areMistaken_8 : decode cX0_areMistaken 8 = .ok (.if_icmp .eq 5, 3) := dk_159 0 5 (dk_at dksX0_areMistaken_0 8 rfl rfl)
theorem dX0_areMistaken_11 : decode cX0_areMistaken 11 = .ok (.iconst 0, 1) := dk_3 (dk_at dksX0_areMistaken_0 11 rfl rfl)
theorem dX0_areMistaken_12 : decode cX0_areMistaken 12 = .ok (.ireturn, 1) := dk_172 (dk_at dksX0_areMistaken_0 12 rfl rfl)
theorem dX0_areMistaken_13 : decode cX0_areMistaken 13 = .ok (.iconst 0, 1) := dk_3 (dk_at dksX0_areMistaken_0 13 rfl rfl)
theorem dX0_areMistaken_14 : decode cX0_areMistaken 14 = .ok (.istore_n 3, 1) := dk_62 (dk_at dksX0_areMistaken_0 14 rfl rfl)
theorem dX0_areMistaken_15 : decode cX0_areMistaken 15 = .ok (.iload_n 3, 1) := dk_29 (dk_at dksX0_areMistaken_0 15 rfl rfl)
theorem dX0_areMistaken_16 : decode cX0_areMistaken 16 = .ok (.aload_n 1, 1) := dk_43 (dk_at dksX0_areMistaken_0 16 rfl rfl)
theorem dX0_areMistaken_17 : decode cX0_areMistaken 17 = .ok (.invokevirtual 199, 3) := dk_182 0 199 (dk_at dksX0_areMistaken_0 17 rfl rfl)
theorem dX0_areMistaken_20 : decode cX0_areMistaken 20 = .ok (.if_icmp .ge 74, 3) := dk_162 0 74 (dk_at dksX0_areMistaken_0 20 rfl rfl)
theorem dX0_areMistaken_23 : decode cX0_areMistaken 23 = .ok (.aload_n 1, 1) := dk_43 (dk_at dksX0_areMistaken_0 23 rfl rfl)
theorem dX0_areMistaken_24 : decode cX0_areMistaken 24 = .ok (.invokevirtual 85, 3) := dk_182 0 85 (dk_at dksX0_areMistaken_1 0 rfl rfl)
theorem dX0_areMistaken_27 : decode cX0_areMistaken 27 = .ok (.iload_n 3, 1) := dk_29 (dk_at dksX0_areMistaken_1 3 rfl rfl)
theorem dX0_areMistaken_28 : decode cX0_areMistaken 28 = .ok (.iaload, 1) := dk_46 (dk_at dksX0_areMistaken_1 4 rfl rfl)
theorem dX0_areMistaken_29 : decode cX0_areMistaken 29 = .ok (.istore 4, 2) := dk_54 4 (dk_at dksX0_areMistaken_1 5 rfl rfl)
theorem dX0_areMistaken_31 : decode cX0_areMistaken 31 = .ok (.aload_n 2, 1) := dk_44 (dk_at dksX0_areMistaken_1 7 rfl rfl)
theorem dX0_areMistaken_32 : decode cX0_areMistaken 32 = .ok (.invokevirtual 85, 3) := dk_182 0 85 (dk_at dksX0_areMistaken_1 8 rfl rfl)
theorem dX0_areMistaken_35 : decode cX0_areMistaken 35 = .ok (.iload_n 3, 1) := dk_29 (dk_at dksX0_areMistaken_1 11 rfl rfl)
theorem dX0_areMistaken_36 : decode cX0_areMistaken 36 = .ok (.iaload, 1) := dk_46 (dk_at dksX0_areMistaken_1 12 rfl rfl)
theorem dX0_areMistaken_37 : decode cX0_areMistaken 37 = .ok (.istore 5, 2) := dk_54 5 (dk_at dksX0_areMistaken_1 13 rfl rfl)
theorem dX0_areMistaken_39 : decode cX0_areMistaken 39 = .ok (.iload 4, 2) := dk_21 4 (dk_at dksX0_areMistaken_1 15 rfl rfl)
theorem dX0_areMistaken_41 : decode cX0_areMistaken 41 = .ok (.iload 5, 2) := dk_21 5 (dk_at dksX0_areMistaken_1 17 rfl rfl)
theorem dX0_areMistaken_43 : decode cX0_areMistaken 43 = .ok (.if_icmp .eq 31, 3) := dk_159 0 31 (dk_at dksX0_areMistaken_1 19 rfl rfl)
theorem dX0_areMistaken_46 : decode cX0_areMistaken 46 = .ok (.aload_n 0, 1) := dk_42 (dk_at dksX0_areMistaken_1 22 rfl rfl)
theorem dX0_areMistaken_47 : decode cX0_areMistaken 47 = .ok (.getfield 49, 3) := dk_180 0 49 (dk_at dksX0_areMistaken_2 0 rfl rfl)
theorem dX0_areMistaken_50 : decode cX0_areMistaken 50 = .ok (.iload 4, 2) := dk_21 4 (dk_at dksX0_areMistaken_2 3 rfl rfl)
theorem dX0_areMistaken_52 : decode cX0_areMistaken 52 = .ok (.iaload, 1) := dk_46 (dk_at dksX0_areMistaken_2 5 rfl rfl)
theorem dX0_areMistaken_53 : decode cX0_areMistaken 53 = .ok (.iconst (-1), 1) := dk_2 (dk_at dksX0_areMistaken_2 6 rfl rfl)
theorem dX0_areMistaken_54 : decode cX0_areMistaken 54 = .ok (.if_icmp .eq 24, 3) := dk_159 0 24 (dk_at dksX0_areMistaken_2 7 rfl rfl)
theorem dX0_areMistaken_57 : decode cX0_areMistaken 57 = .ok (.aload_n 0, 1) := dk_42 (dk_at dksX0_areMistaken_2 10 rfl rfl)
theorem dX0_areMistaken_58 : decode cX0_areMistaken 58 = .ok (.getfield 49, 3) := dk_180 0 49 (dk_at dksX0_areMistaken_2 11 rfl rfl)
theorem dX0_areMistaken_61 : decode cX0_areMistaken 61 = .ok (.iload 4, 2) := dk_21 4 (dk_at dksX0_areMistaken_2 14 rfl rfl)
theorem dX0_areMistaken_63 : decode cX0_areMistaken 63 = .ok (.iaload, 1) := dk_46 (dk_at dksX0_areMistaken_2 16 rfl rfl)
theorem dX0_areMistaken_64 : decode cX0_areMistaken 64 = .ok (.aload_n 0, 1) := dk_42 (dk_at dksX0_areMistaken_2 17 rfl rfl)
theorem dX0_areMistaken_65 : decode cX0_areMistaken 65 = .ok (.getfield 49, 3) := dk_180 0 49 (dk_at dksX0_areMistaken_2 18 rfl rfl)
theorem dX0_areMistaken_68 : decode cX0_areMistaken 68 = .ok (.iload 5, 2) := dk_21 5 (dk_at dksX0_areMistaken_2 21 rfl rfl)
theorem dX0_areMistaken_70 : decode cX0_areMistaken 70 = .ok (.iaload, 1) := dk_46 (dk_at dksX0_areMistaken_2 23 rfl rfl)
theorem dX0_areMistaken_71 : decode cX0_areMistaken 71 = .ok (.if_icmp .ne 7, 3) := dk_160 0 7 (dk_at dksX0_areMistaken_3 0 rfl rfl)
theorem dX0_areMistaken_74 : decode cX0_areMistaken 74 = .ok (.iconst 1, 1) := dk_4 (dk_at dksX0_areMistaken_3 3 rfl rfl)
theorem dX0_areMistaken_75 : decode cX0_areMistaken 75 = .ok (.goto 4, 3) := dk_167 0 4 (dk_at dksX0_areMistaken_3 4 rfl rfl)
theorem dX0_areMistaken_78 : decode cX0_areMistaken 78 = .ok (.iconst 0, 1) := dk_3 (dk_at dksX0_areMistaken_3 7 rfl rfl)
theorem dX0_areMistaken_79 : decode cX0_areMistaken 79 = .ok (.istore 6, 2) := dk_54 6 (dk_at dksX0_areMistaken_3 8 rfl rfl)
theorem dX0_areMistaken_81 : decode cX0_areMistaken 81 = .ok (.iload 6, 2) := dk_21 6 (dk_at dksX0_areMistaken_3 10 rfl rfl)
theorem dX0_areMistaken_83 : decode cX0_areMistaken 83 = .ok (.ifCond .ne 5, 3) := dk_154 0 5 (dk_at dksX0_areMistaken_3 12 rfl rfl)
theorem dX0_areMistaken_86 : decode cX0_areMistaken 86 = .ok (.iconst 0, 1) := dk_3 (dk_at dksX0_areMistaken_3 15 rfl rfl)
theorem dX0_areMistaken_87 : decode cX0_areMistaken 87 = .ok (.ireturn, 1) := dk_172 (dk_at dksX0_areMistaken_3 16 rfl rfl)
theorem dX0_areMistaken_88 : decode cX0_areMistaken 88 = .ok (.iinc 3 1, 3) := dk_132 3 1 (dk_at dksX0_areMistaken_3 17 rfl rfl)
theorem dX0_areMistaken_91 : decode cX0_areMistaken 91 = .ok (.goto (-76), 3) := dk_167 255 180 (dk_at dksX0_areMistaken_3 20 rfl rfl)
theorem dX0_areMistaken_94 : decode cX0_areMistaken 94 = .ok (.iconst 1, 1) := dk_4 (dk_at dksX0_areMistaken_3 23 rfl rfl)
theorem dX0_areMistaken_95 : decode cX0_areMistaken 95 = .ok (.ireturn, 1) := dk_172 (dk_at dksX0_areMistaken_4 0 rfl rfl)
def dkwX0_settlement_3 : List UInt8 := [167, 0, 21, 28, 42, 180, 1, 170, 162, 0, 12, 42, 180, 0, 55, 28, 46, 167, 0, 4, 2, 172]
abbrev dktX0_settlement_3 : List UInt8 := dkwX0_settlement_3 ++ []
def dkwX0_settlement_2 : List UInt8 := [167, 255, 239, 42, 180, 1, 170, 154, 0, 7, 2, 167, 0, 33, 28, 2, 160, 0, 10, 42, 180, 1, 167]
abbrev dktX0_settlement_2 : List UInt8 := dkwX0_settlement_2 ++ dktX0_settlement_3
def dkwX0_settlement_1 : List UInt8 := [181, 1, 170, 4, 62, 29, 8, 162, 0, 18, 42, 27, 3, 3, 29, 3, 182, 1, 173, 132, 3, 1]
abbrev dktX0_settlement_1 : List UInt8 := dkwX0_settlement_1 ++ dktX0_settlement_2
def dkwX0_settlement_0 : List UInt8 := [27, 184, 0, 237, 153, 0, 8, 28, 2, 162, 0, 5, 2, 172, 42, 16, 33, 181, 1, 167, 42, 3]
abbrev dktX0_settlement_0 : List UInt8 := dkwX0_settlement_0 ++ dktX0_settlement_1
theorem dksX0_settlement_0 : cX0_settlement.data.toList.drop 0 = dktX0_settlement_0 := by decide +kernel
theorem dksX0_settlement_1 : cX0_settlement.data.toList.drop 22 = dktX0_settlement_1 := dk_seg dksX0_settlement_0 22 rfl rfl
theorem dksX0_settlement_2 : cX0_settlement.data.toList.drop 44 = dktX0_settlement_2 := dk_seg dksX0_settlement_1 22 rfl rfl
theorem dksX0_settlement_3 : cX0_settlement.data.toList.drop 67 = dktX0_settlement_3 := dk_seg dksX0_settlement_2 23 rfl rfl
theorem dX0_settlement_0 : decode cX0_settlement 0 = .ok (.iload_n 1, 1) := dk_27 (dk_at dksX0_settlement_0 0 rfl rfl)
theorem dX0_settlement_1 : decode cX0_settlement 1 = .ok (.invokestatic 237, 3) := dk_184 0 237 (dk_at dksX0_settlement_0 1 rfl rfl)
theorem dX0_settlement_4 : decode cX0_settlement 4 = .ok (.ifCond .eq 8, 3) := dk_153 0 8 (dk_at dksX0_settlement_0 4 rfl rfl)
theorem dX0_settlement_7 : decode cX0_settlement 7 = .ok (.iload_n 2, 1) := dk_28 (dk_at dksX0_settlement_0 7 rfl rfl)
theorem dX0_settlement_8 : decode cX0_settlement 8 = .ok (.iconst (-1), 1) := dk_2 (dk_at dksX0_settlement_0 8 rfl rfl)
theorem dX0_settlement_9 : decode cX0_settlement 9 = .ok (.if_icmp .ge 5, 3) := dk_162 0 5 (dk_at dksX0_settlement_0 9 rfl rfl)
theorem dX0_settlement_12 : decode cX0_settlement 12 = .ok (.iconst (-1), 1) := dk_2 (dk_at dksX0_settlement_0 12 rfl rfl)
theorem dX0_settlement_13 : decode cX0_settlement 13 = .ok (.ireturn, 1) := dk_172 (dk_at dksX0_settlement_0 13 rfl rfl)
theorem dX0_settlement_14 : decode cX0_settlement 14 = .ok (.aload_n 0, 1) := dk_42 (dk_at dksX0_settlement_0 14 rfl rfl)
theorem dX0_settlement_15 : decode cX0_settlement 15 = .ok (.bipush 33, 2) := dk_16 33 (dk_at dksX0_settlement_0 15 rfl rfl)
theorem dX0_settlement_17 : decode cX0_settlement 17 = .ok (.putfield 423, 3) := dk_181 1 167 (dk_at dksX0_settlement_0 17 rfl rfl)
theorem dX0_settlement_20 : decode cX0_settlement 20 = .ok (.aload_n 0, 1) := dk_42 (dk_at dksX0_settlement_0 20 rfl rfl)
theorem dX0_settlement_21 : decode cX0_settlement 21 = .ok (.iconst 0, 1) := dk_3 (dk_at dksX0_settlement_0 21 rfl rfl)
theorem dX0_settlement_22 : decode cX0_settlement 22 = .ok (.putfield 426, 3) := dk_181 1 170 (dk_at dksX0_settlement_1 0 rfl rfl)
theorem dX0_settlement_25 : decode cX0_settlement 25 = .ok (.iconst 1, 1) := dk_4 (dk_at dksX0_settlement_1 3 rfl rfl)
theorem dX0_settlement_26 : decode cX0_settlement 26 = .ok (.istore_n 3, 1) := dk_62 (dk_at dksX0_settlement_1 4 rfl rfl)
theorem dX0_settlement_27 : decode cX0_settlement 27 = .ok (.iload_n 3, 1) := dk_29 (dk_at dksX0_settlement_1 5 rfl rfl)
theorem dX0_settlement_28 : decode cX0_settlement 28 = .ok (.iconst 5, 1) := dk_8 (dk_at dksX0_settlement_1 6 rfl rfl)
theorem dX0_settlement_29 : decode cX0_settlement 29 = .ok (.if_icmp .ge 18, 3) := dk_162 0 18 (dk_at dksX0_settlement_1 7 rfl rfl)
theorem dX0_settlement_32 : decode cX0_settlement 32 = .ok (.aload_n 0, 1) := dk_42 (dk_at dksX0_settlement_1 10 rfl rfl)
theorem dX0_settlement_33 : decode cX0_settlement 33 = .ok (.iload_n 1, 1) := dk_27 (dk_at dksX0_settlement_1 11 rfl rfl)
theorem dX0_settlement_34 : decode cX0_settlement 34 = .ok (.iconst 0, 1) := dk_3 (dk_at dksX0_settlement_1 12 rfl rfl)
theorem dX0_settlement_35 : decode cX0_settlement 35 = .ok (.iconst 0, 1) := dk_3 (dk_at dksX0_settlement_1 13 rfl rfl)
theorem dX0_settlement_36 : decode cX0_settlement 36 = .ok (.iload_n 3, 1) := dk_29 (dk_at dksX0_settlement_1 14 rfl rfl)
theorem dX0_settlement_37 : decode cX0_settlement 37 = .ok (.iconst 0, 1) := dk_3 (dk_at dksX0_settlement_1 15 rfl rfl)
theorem dX0_settlement_38 : decode cX0_settlement 38 = .ok (.invokevirtual 429, 3) := dk_182 1 173 (dk_at dksX0_settlement_1 16 rfl rfl)
theorem dX0_settlement_41 : decode cX0_settlement 41 = .ok (.iinc 3 1, 3) := dk_132 3 1 (dk_at dksX0_settlement_1 19 rfl rfl)
theorem dX0_settlement_44 : decode cX0_settlement 44 = .ok (.goto (-17), 3) := dk_167 255 239 (dk_at dksX0_settlement_2 0 rfl rfl)
theorem dX0_settlement_47 : decode cX0_settlement 47 = .ok (.aload_n 0, 1) := dk_42 (dk_at dksX0_settlement_2 3 rfl rfl)
theorem dX0_settlement_48 : decode cX0_settlement 48 = .ok (.getfield 426, 3) := dk_180 1 170 (dk_at dksX0_settlement_2 4 rfl rfl)
theorem dX0_settlement_51 : decode cX0_settlement 51 = .ok (.ifCond .ne 7, 3) := dk_154 0 7 (dk_at dksX0_settlement_2 7 rfl rfl)
theorem dX0_settlement_54 : decode cX0_settlement 54 = .ok (.iconst (-1), 1) := dk_2 (dk_at dksX0_settlement_2 10 rfl rfl)
theorem dX0_settlement_55 : decode cX0_settlement 55 = .ok (.goto 33, 3) := dk_167 0 33 (dk_at dksX0_settlement_2 11 rfl rfl)
theorem dX0_settlement_58 : decode cX0_settlement 58 = .ok (.iload_n 2, 1) := dk_28 (dk_at dksX0_settlement_2 14 rfl rfl)
theorem dX0_settlement_59 : decode cX0_settlement 59 = .ok (.iconst (-1), 1) := dk_2 (dk_at dksX0_settlement_2 15 rfl rfl)
theorem dX0_settlement_60 : decode cX0_settlement 60 = .ok (.if_icmp .ne 10, 3) := dk_160 0 10 (dk_at dksX0_settlement_2 16 rfl rfl)
theorem dX0_settlement_63 : decode cX0_settlement 63 = .ok (.aload_n 0, 1) := dk_42 (dk_at dksX0_settlement_2 19 rfl rfl)
theorem dX0_settlement_64 : decode cX0_settlement 64 = .ok (.getfield 423, 3) := dk_180 1 167 (dk_at dksX0_settlement_2 20 rfl rfl)
theorem dX0_settlement_67 : decode cX0_settlement 67 = .ok (.goto 21, 3) := dk_167 0 21 (dk_at dksX0_settlement_3 0 rfl rfl)
theorem dX0_settlement_70 : decode cX0_settlement 70 = .ok (.iload_n 2, 1) := dk_28 (dk_at dksX0_settlement_3 3 rfl rfl)
theorem dX0_settlement_71 : decode cX0_settlement 71 = .ok (.aload_n 0, 1) := dk_42 (dk_at dksX0_settlement_3 4 rfl rfl)
theorem dX0_settlement_72 : decode cX0_settlement 72 = .ok (.getfield 426, 3) := dk_180 1 170 (dk_at dksX0_settlement_3 5 rfl rfl)
theorem dX0_settlement_75 : decode cX0_settlement 75 = .ok (.if_icmp .ge 12, 3) := dk_162 0 12 (dk_at dksX0_settlement_3 8 rfl rfl)
theorem dX0_settlement_78 : decode cX0_settlement 78 = .ok (.aload_n 0, 1) := dk_42 (dk_at dksX0_settlement_3 11 rfl rfl)
theorem dX0_settlement_79 : decode cX0_settlement 79 = .ok (.getfield 55, 3) := dk_180 0 55 (dk_at dksX0_settlement_3 12 rfl rfl)
theorem dX0_settlement_82 : decode cX0_settlement 82 = .ok (.iload_n 2, 1) := dk_28 (dk_at dksX0_settlement_3 15 rfl rfl)
theorem dX0_settlement_83 : decode cX0_settlement 83 = .ok (.iaload, 1) := dk_46 (dk_at dksX0_settlement_3 16 rfl rfl)
theorem dX0_settlement_84 : decode cX0_settlement 84 = .ok (.goto 4, 3) := dk_167 0 4 (dk_at dksX0_settlement_3 17 rfl rfl)
theorem dX0_settlement_87 : decode cX0_settlement 87 = .ok (.iconst (-1), 1) := dk_2 (dk_at dksX0_settlement_3 20 rfl rfl)
theorem dX0_settlement_88 : decode cX0_settlement 88 = .ok (.ireturn, 1) := dk_172 (dk_at dksX0_settlement_3 21 rfl rfl)
def dkwX0_settles_6 : List UInt8 := [180, 0, 81, 21, 6, 50, 182, 0, 199, 96, 182, 1, 173, 132, 6, 1, 167, 255, 201, 177]
abbrev dktX0_settles_6 : List UInt8 := dkwX0_settles_6 ++ []
def dkwX0_settles_5 : List UInt8 := [180, 0, 52, 29, 21, 6, 79, 42, 27, 21, 6, 4, 96, 29, 4, 96, 21, 4, 21, 5, 42, 180, 0, 12]
abbrev dktX0_settles_5 : List UInt8 := dkwX0_settles_5 ++ dktX0_settles_6
def dkwX0_settles_4 : List UInt8 := [184, 0, 252, 177, 28, 54, 6, 21, 6, 42, 180, 0, 12, 180, 0, 66, 3, 46, 162, 0, 47, 42]
abbrev dktX0_settles_4 : List UInt8 := dkwX0_settles_4 ++ dktX0_settles_5
def dkwX0_settles_3 : List UInt8 := [21, 5, 181, 1, 167, 42, 21, 4, 181, 1, 170, 42, 180, 0, 52, 3, 42, 180, 0, 55, 3, 21, 4]
abbrev dktX0_settles_3 : List UInt8 := dkwX0_settles_3 ++ dktX0_settles_4
def dkwX0_settles_2 : List UInt8 := [182, 0, 162, 128, 54, 6, 132, 7, 1, 167, 255, 223, 27, 21, 6, 2, 130, 126, 153, 0, 4, 177, 42]
abbrev dktX0_settles_2 : List UInt8 := dkwX0_settles_2 ++ dktX0_settles_3
def dkwX0_settles_1 : List UInt8 := [21, 4, 162, 0, 32, 21, 6, 42, 180, 0, 12, 180, 0, 81, 42, 180, 0, 52, 21, 7, 46, 50]
abbrev dktX0_settles_1 : List UInt8 := dkwX0_settles_1 ++ dktX0_settles_2
def dkwX0_settles_0 : List UInt8 := [21, 5, 42, 180, 1, 167, 161, 0, 4, 177, 29, 21, 4, 160, 0, 83, 3, 54, 6, 3, 54, 7, 21, 7]
abbrev dktX0_settles_0 : List UInt8 := dkwX0_settles_0 ++ dktX0_settles_1
theorem dksX0_settles_0 : cX0_settles.data.toList.drop 0 = dktX0_settles_0 := by decide +kernel
theorem dksX0_settles_1 : cX0_settles.data.toList.drop 24 = dktX0_settles_1 := dk_seg dksX0_settles_0 24 rfl rfl
theorem dksX0_settles_2 : cX0_settles.data.toList.drop 46 = dktX0_settles_2 := dk_seg dksX0_settles_1 22 rfl rfl
theorem dksX0_settles_3 : cX0_settles.data.toList.drop 69 = dktX0_settles_3 := dk_seg dksX0_settles_2 23 rfl rfl
theorem dksX0_settles_4 : cX0_settles.data.toList.drop 92 = dktX0_settles_4 := dk_seg dksX0_settles_3 23 rfl rfl
theorem dksX0_settles_5 : cX0_settles.data.toList.drop 114 = dktX0_settles_5 := dk_seg dksX0_settles_4 22 rfl rfl
theorem dksX0_settles_6 : cX0_settles.data.toList.drop 138 = dktX0_settles_6 := dk_seg dksX0_settles_5 24 rfl rfl
theorem dX0_settles_0 : decode cX0_settles 0 = .ok (.iload 5, 2) := dk_21 5 (dk_at dksX0_settles_0 0 rfl rfl)
theorem dX0_settles_2 : decode cX0_settles 2 = .ok (.aload_n 0, 1) := dk_42 (dk_at dksX0_settles_0 2 rfl rfl)
theorem dX0_settles_3 : decode cX0_settles 3 = .ok (.getfield 423, 3) := dk_180 1 167 (dk_at dksX0_settles_0 3 rfl rfl)
theorem dX0_settles_6 : decode cX0_settles 6 = .ok (.if_icmp .lt 4, 3) := dk_161 0 4 (dk_at dksX0_settles_0 6 rfl rfl)
theorem dX0_settles_9 : decode cX0_settles 9 = .ok (.return_, 1) := dk_177 (dk_at dksX0_settles_0 9 rfl rfl)
theorem dX0_settles_10 : decode cX0_settles 10 = .ok (.iload_n 3, 1) := dk_29 (dk_at dksX0_settles_0 10 rfl rfl)
theorem dX0_settles_11 : decode cX0_settles 11 = .ok (.iload 4, 2) := dk_21 4 (dk_at dksX0_settles_0 11 rfl rfl)
theorem dX0_settles_13 : decode cX0_settles 13 = .ok (.if_icmp .ne 83, 3) := dk_160 0 83 (dk_at dksX0_settles_0 13 rfl rfl)
theorem dX0_settles_16 : decode cX0_settles 16 = .ok (.iconst 0, 1) := dk_3 (dk_at dksX0_settles_0 16 rfl rfl)
theorem dX0_settles_17 : decode cX0_settles 17 = .ok (.istore 6, 2) := dk_54 6 (dk_at dksX0_settles_0 17 rfl rfl)
theorem dX0_settles_19 : decode cX0_settles 19 = .ok (.iconst 0, 1) := dk_3 (dk_at dksX0_settles_0 19 rfl rfl)
theorem dX0_settles_20 : decode cX0_settles 20 = .ok (.istore 7, 2) := dk_54 7 (dk_at dksX0_settles_0 20 rfl rfl)
theorem dX0_settles_22 : decode cX0_settles 22 = .ok (.iload 7, 2) := dk_21 7 (dk_at dksX0_settles_0 22 rfl rfl)
theorem dX0_settles_24 : decode cX0_settles 24 = .ok (.iload 4, 2) := dk_21 4 (dk_at dksX0_settles_1 0 rfl rfl)
theorem dX0_settles_26 : decode cX0_settles 26 = .ok (.if_icmp .ge 32, 3) := dk_162 0 32 (dk_at dksX0_settles_1 2 rfl rfl)
theorem dX0_settles_29 : decode cX0_settles 29 = .ok (.iload 6, 2) := dk_21 6 (dk_at dksX0_settles_1 5 rfl rfl)
theorem dX0_settles_31 : decode cX0_settles 31 = .ok (.aload_n 0, 1) := dk_42 (dk_at dksX0_settles_1 7 rfl rfl)
theorem dX0_settles_32 : decode cX0_settles 32 = .ok (.getfield 12, 3) := dk_180 0 12 (dk_at dksX0_settles_1 8 rfl rfl)
theorem dX0_settles_35 : decode cX0_settles 35 = .ok (.getfield 81, 3) := dk_180 0 81 (dk_at dksX0_settles_1 11 rfl rfl)
theorem dX0_settles_38 : decode cX0_settles 38 = .ok (.aload_n 0, 1) := dk_42 (dk_at dksX0_settles_1 14 rfl rfl)
theorem dX0_settles_39 : decode cX0_settles 39 = .ok (.getfield 52, 3) := dk_180 0 52 (dk_at dksX0_settles_1 15 rfl rfl)
theorem dX0_settles_42 : decode cX0_settles 42 = .ok (.iload 7, 2) := dk_21 7 (dk_at dksX0_settles_1 18 rfl rfl)
theorem dX0_settles_44 : decode cX0_settles 44 = .ok (.iaload, 1) := dk_46 (dk_at dksX0_settles_1 20 rfl rfl)
theorem dX0_settles_45 : decode cX0_settles 45 = .ok (.aaload, 1) := dk_50 (dk_at dksX0_settles_1 21 rfl rfl)
theorem dX0_settles_46 : decode cX0_settles 46 = .ok (.invokevirtual 162, 3) := dk_182 0 162 (dk_at dksX0_settles_2 0 rfl rfl)
theorem dX0_settles_49 : decode cX0_settles 49 = .ok (.ior, 1) := dk_128 (dk_at dksX0_settles_2 3 rfl rfl)
theorem dX0_settles_50 : decode cX0_settles 50 = .ok (.istore 6, 2) := dk_54 6 (dk_at dksX0_settles_2 4 rfl rfl)
theorem dX0_settles_52 : decode cX0_settles 52 = .ok (.iinc 7 1, 3) := dk_132 7 1 (dk_at dksX0_settles_2 6 rfl rfl)
theorem dX0_settles_55 : decode cX0_settles 55 = .ok (.goto (-33), 3) := dk_167 255 223 (dk_at dksX0_settles_2 9 rfl rfl)
theorem dX0_settles_58 : decode cX0_settles 58 = .ok (.iload_n 1, 1) := dk_27 (dk_at dksX0_settles_2 12 rfl rfl)
theorem dX0_settles_59 : decode cX0_settles 59 = .ok (.iload 6, 2) := dk_21 6 (dk_at dksX0_settles_2 13 rfl rfl)
theorem dX0_settles_61 : decode cX0_settles 61 = .ok (.iconst (-1), 1) := dk_2 (dk_at dksX0_settles_2 15 rfl rfl)
theorem dX0_settles_62 : decode cX0_settles 62 = .ok (.ixor, 1) := dk_130 (dk_at dksX0_settles_2 16 rfl rfl)
theorem dX0_settles_63 : decode cX0_settles 63 = .ok (.iand, 1) := dk_126 (dk_at dksX0_settles_2 17 rfl rfl)
theorem dX0_settles_64 : decode cX0_settles 64 = .ok (.ifCond .eq 4, 3) := dk_153 0 4 (dk_at dksX0_settles_2 18 rfl rfl)
theorem dX0_settles_67 : decode cX0_settles 67 = .ok (.return_, 1) := dk_177 (dk_at dksX0_settles_2 21 rfl rfl)
theorem dX0_settles_68 : decode cX0_settles 68 = .ok (.aload_n 0, 1) := dk_42 (dk_at dksX0_settles_2 22 rfl rfl)
theorem dX0_settles_69 : decode cX0_settles 69 = .ok (.iload 5, 2) := dk_21 5 (dk_at dksX0_settles_3 0 rfl rfl)
theorem dX0_settles_71 : decode cX0_settles 71 = .ok (.putfield 423, 3) := dk_181 1 167 (dk_at dksX0_settles_3 2 rfl rfl)
theorem dX0_settles_74 : decode cX0_settles 74 = .ok (.aload_n 0, 1) := dk_42 (dk_at dksX0_settles_3 5 rfl rfl)
theorem dX0_settles_75 : decode cX0_settles 75 = .ok (.iload 4, 2) := dk_21 4 (dk_at dksX0_settles_3 6 rfl rfl)
theorem dX0_settles_77 : decode cX0_settles 77 = .ok (.putfield 426, 3) := dk_181 1 170 (dk_at dksX0_settles_3 8 rfl rfl)
theorem dX0_settles_80 : decode cX0_settles 80 = .ok (.aload_n 0, 1) := dk_42 (dk_at dksX0_settles_3 11 rfl rfl)
theorem dX0_settles_81 : decode cX0_settles 81 = .ok (.getfield 52, 3) := dk_180 0 52 (dk_at dksX0_settles_3 12 rfl rfl)
theorem dX0_settles_84 : decode cX0_settles 84 = .ok (.iconst 0, 1) := dk_3 (dk_at dksX0_settles_3 15 rfl rfl)
theorem dX0_settles_85 : decode cX0_settles 85 = .ok (.aload_n 0, 1) := dk_42 (dk_at dksX0_settles_3 16 rfl rfl)
theorem dX0_settles_86 : decode cX0_settles 86 = .ok (.getfield 55, 3) := dk_180 0 55 (dk_at dksX0_settles_3 17 rfl rfl)
theorem dX0_settles_89 : decode cX0_settles 89 = .ok (.iconst 0, 1) := dk_3 (dk_at dksX0_settles_3 20 rfl rfl)
theorem dX0_settles_90 : decode cX0_settles 90 = .ok (.iload 4, 2) := dk_21 4 (dk_at dksX0_settles_3 21 rfl rfl)
theorem dX0_settles_92 : decode cX0_settles 92 = .ok (.invokestatic 252, 3) := dk_184 0 252 (dk_at dksX0_settles_4 0 rfl rfl)
theorem dX0_settles_95 : decode cX0_settles 95 = .ok (.return_, 1) := dk_177 (dk_at dksX0_settles_4 3 rfl rfl)
theorem dX0_settles_96 : decode cX0_settles 96 = .ok (.iload_n 2, 1) := dk_28 (dk_at dksX0_settles_4 4 rfl rfl)
theorem dX0_settles_97 : decode cX0_settles 97 = .ok (.istore 6, 2) := dk_54 6 (dk_at dksX0_settles_4 5 rfl rfl)
theorem dX0_settles_99 : decode cX0_settles 99 = .ok (.iload 6, 2) := dk_21 6 (dk_at dksX0_settles_4 7 rfl rfl)
theorem dX0_settles_101 : decode cX0_settles 101 = .ok (.aload_n 0, 1) := dk_42 (dk_at dksX0_settles_4 9 rfl rfl)
theorem dX0_settles_102 : decode cX0_settles 102 = .ok (.getfield 12, 3) := dk_180 0 12 (dk_at dksX0_settles_4 10 rfl rfl)
theorem dX0_settles_105 : decode cX0_settles 105 = .ok (.getfield 66, 3) := dk_180 0 66 (dk_at dksX0_settles_4 13 rfl rfl)
theorem dX0_settles_108 : decode cX0_settles 108 = .ok (.iconst 0, 1) := dk_3 (dk_at dksX0_settles_4 16 rfl rfl)
theorem dX0_settles_109 : decode cX0_settles 109 = .ok (.iaload, 1) := dk_46 (dk_at dksX0_settles_4 17 rfl rfl)
theorem dX0_settles_110 : decode cX0_settles 110 = .ok (.if_icmp .ge 47, 3) := dk_162 0 47 (dk_at dksX0_settles_4 18 rfl rfl)
theorem dX0_settles_113 : decode cX0_settles 113 = .ok (.aload_n 0, 1) := dk_42 (dk_at dksX0_settles_4 21 rfl rfl)
theorem dX0_settles_114 : decode cX0_settles 114 = .ok (.getfield 52, 3) := dk_180 0 52 (dk_at dksX0_settles_5 0 rfl rfl)
theorem dX0_settles_117 : decode cX0_settles 117 = .ok (.iload_n 3, 1) := dk_29 (dk_at dksX0_settles_5 3 rfl rfl)
theorem dX0_settles_118 : decode cX0_settles 118 = .ok (.iload 6, 2) := dk_21 6 (dk_at dksX0_settles_5 4 rfl rfl)
theorem dX0_settles_120 : decode cX0_settles 120 = .ok (.iastore, 1) := dk_79 (dk_at dksX0_settles_5 6 rfl rfl)
theorem dX0_settles_121 : decode cX0_settles 121 = .ok (.aload_n 0, 1) := dk_42 (dk_at dksX0_settles_5 7 rfl rfl)
theorem dX0_settles_122 : decode cX0_settles 122 = .ok (.iload_n 1, 1) := dk_27 (dk_at dksX0_settles_5 8 rfl rfl)
theorem dX0_settles_123 : decode cX0_settles 123 = .ok (.iload 6, 2) := dk_21 6 (dk_at dksX0_settles_5 9 rfl rfl)
theorem dX0_settles_125 : decode cX0_settles 125 = .ok (.iconst 1, 1) := dk_4 (dk_at dksX0_settles_5 11 rfl rfl)
theorem dX0_settles_126 : decode cX0_settles 126 = .ok (.iadd, 1) := dk_96 (dk_at dksX0_settles_5 12 rfl rfl)
theorem dX0_settles_127 : decode cX0_settles 127 = .ok (.iload_n 3, 1) := dk_29 (dk_at dksX0_settles_5 13 rfl rfl)
theorem dX0_settles_128 : decode cX0_settles 128 = .ok (.iconst 1, 1) := dk_4 (dk_at dksX0_settles_5 14 rfl rfl)
theorem dX0_settles_129 : decode cX0_settles 129 = .ok (.iadd, 1) := dk_96 (dk_at dksX0_settles_5 15 rfl rfl)
theorem dX0_settles_130 : decode cX0_settles 130 = .ok (.iload 4, 2) := dk_21 4 (dk_at dksX0_settles_5 16 rfl rfl)
theorem dX0_settles_132 : decode cX0_settles 132 = .ok (.iload 5, 2) := dk_21 5 (dk_at dksX0_settles_5 18 rfl rfl)
theorem dX0_settles_134 : decode cX0_settles 134 = .ok (.aload_n 0, 1) := dk_42 (dk_at dksX0_settles_5 20 rfl rfl)
theorem dX0_settles_135 : decode cX0_settles 135 = .ok (.getfield 12, 3) := dk_180 0 12 (dk_at dksX0_settles_5 21 rfl rfl)
theorem dX0_settles_138 : decode cX0_settles 138 = .ok (.getfield 81, 3) := dk_180 0 81 (dk_at dksX0_settles_6 0 rfl rfl)
theorem dX0_settles_141 : decode cX0_settles 141 = .ok (.iload 6, 2) := dk_21 6 (dk_at dksX0_settles_6 3 rfl rfl)
theorem dX0_settles_143 : decode cX0_settles 143 = .ok (.aaload, 1) := dk_50 (dk_at dksX0_settles_6 5 rfl rfl)
theorem dX0_settles_144 : decode cX0_settles 144 = .ok (.invokevirtual 199, 3) := dk_182 0 199 (dk_at dksX0_settles_6 6 rfl rfl)
theorem dX0_settles_147 : decode cX0_settles 147 = .ok (.iadd, 1) := dk_96 (dk_at dksX0_settles_6 9 rfl rfl)
theorem dX0_settles_148 : decode cX0_settles 148 = .ok (.invokevirtual 429, 3) := dk_182 1 173 (dk_at dksX0_settles_6 10 rfl rfl)
theorem dX0_settles_151 : decode cX0_settles 151 = .ok (.iinc 6 1, 3) := dk_132 6 1 (dk_at dksX0_settles_6 13 rfl rfl)
theorem dX0_settles_154 : decode cX0_settles 154 = .ok (.goto (-55), 3) := dk_167 255 201 (dk_at dksX0_settles_6 16 rfl rfl)
theorem dX0_settles_157 : decode cX0_settles 157 = .ok (.return_, 1) := dk_177 (dk_at dksX0_settles_6 19 rfl rfl)
def dkwX0_learn_3 : List UInt8 := [182, 1, 183, 28, 153, 0, 10, 42, 180, 1, 177, 167, 0, 7, 42, 180, 1, 180, 172]
abbrev dktX0_learn_3 : List UInt8 := dkwX0_learn_3 ++ []
def dkwX0_learn_2 : List UInt8 := [132, 4, 1, 167, 255, 223, 42, 2, 181, 1, 177, 42, 29, 3, 27, 29, 184, 0, 152, 184, 0, 225, 3]
abbrev dktX0_learn_2 : List UInt8 := dkwX0_learn_2 ++ dktX0_learn_3
def dkwX0_learn_1 : List UInt8 := [180, 0, 66, 3, 46, 162, 0, 25, 29, 42, 180, 0, 12, 180, 0, 81, 21, 4, 50, 182, 0, 162, 128, 62]
abbrev dktX0_learn_1 : List UInt8 := dkwX0_learn_1 ++ dktX0_learn_2
def dkwX0_learn_0 : List UInt8 := [27, 4, 7, 184, 0, 62, 154, 0, 5, 2, 172, 3, 62, 3, 54, 4, 21, 4, 42, 180, 0, 12]
abbrev dktX0_learn_0 : List UInt8 := dkwX0_learn_0 ++ dktX0_learn_1
theorem dksX0_learn_0 : cX0_learn.data.toList.drop 0 = dktX0_learn_0 := by decide +kernel
theorem dksX0_learn_1 : cX0_learn.data.toList.drop 22 = dktX0_learn_1 := dk_seg dksX0_learn_0 22 rfl rfl
theorem dksX0_learn_2 : cX0_learn.data.toList.drop 46 = dktX0_learn_2 := dk_seg dksX0_learn_1 24 rfl rfl
theorem dksX0_learn_3 : cX0_learn.data.toList.drop 69 = dktX0_learn_3 := dk_seg dksX0_learn_2 23 rfl rfl
theorem dX0_learn_0 : decode cX0_learn 0 = .ok (.iload_n 1, 1) := dk_27 (dk_at dksX0_learn_0 0 rfl rfl)
theorem dX0_learn_1 : decode cX0_learn 1 = .ok (.iconst 1, 1) := dk_4 (dk_at dksX0_learn_0 1 rfl rfl)
theorem dX0_learn_2 : decode cX0_learn 2 = .ok (.iconst 4, 1) := dk_7 (dk_at dksX0_learn_0 2 rfl rfl)
theorem dX0_learn_3 : decode cX0_learn 3 = .ok (.invokestatic 62, 3) := dk_184 0 62 (dk_at dksX0_learn_0 3 rfl rfl)
theorem dX0_learn_6 : decode cX0_learn 6 = .ok (.ifCond .ne 5, 3) := dk_154 0 5 (dk_at dksX0_learn_0 6 rfl rfl)
theorem dX0_learn_9 : decode cX0_learn 9 = .ok (.iconst (-1), 1) := dk_2 (dk_at dksX0_learn_0 9 rfl rfl)
theorem dX0_learn_10 : decode cX0_learn 10 = .ok (.ireturn, 1) := dk_172 (dk_at dksX0_learn_0 10 rfl rfl)
theorem dX0_learn_11 : decode cX0_learn 11 = .ok (.iconst 0, 1) := dk_3 (dk_at dksX0_learn_0 11 rfl rfl)
theorem dX0_learn_12 : decode cX0_learn 12 = .ok (.istore_n 3, 1) := dk_62 (dk_at dksX0_learn_0 12 rfl rfl)
theorem dX0_learn_13 : decode cX0_learn 13 = .ok (.iconst 0, 1) := dk_3 (dk_at dksX0_learn_0 13 rfl rfl)
theorem dX0_learn_14 : decode cX0_learn 14 = .ok (.istore 4, 2) := dk_54 4 (dk_at dksX0_learn_0 14 rfl rfl)
theorem dX0_learn_16 : decode cX0_learn 16 = .ok (.iload 4, 2) := dk_21 4 (dk_at dksX0_learn_0 16 rfl rfl)
theorem dX0_learn_18 : decode cX0_learn 18 = .ok (.aload_n 0, 1) := dk_42 (dk_at dksX0_learn_0 18 rfl rfl)
theorem dX0_learn_19 : decode cX0_learn 19 = .ok (.getfield 12, 3) := dk_180 0 12 (dk_at dksX0_learn_0 19 rfl rfl)
theorem dX0_learn_22 : decode cX0_learn 22 = .ok (.getfield 66, 3) := dk_180 0 66 (dk_at dksX0_learn_1 0 rfl rfl)
theorem dX0_learn_25 : decode cX0_learn 25 = .ok (.iconst 0, 1) := dk_3 (dk_at dksX0_learn_1 3 rfl rfl)
theorem dX0_learn_26 : decode cX0_learn 26 = .ok (.iaload, 1) := dk_46 (dk_at dksX0_learn_1 4 rfl rfl)
theorem dX0_learn_27 : decode cX0_learn 27 = .ok (.if_icmp .ge 25, 3) := dk_162 0 25 (dk_at dksX0_learn_1 5 rfl rfl)
theorem dX0_learn_30 : decode cX0_learn 30 = .ok (.iload_n 3, 1) := dk_29 (dk_at dksX0_learn_1 8 rfl rfl)
theorem dX0_learn_31 : decode cX0_learn 31 = .ok (.aload_n 0, 1) := dk_42 (dk_at dksX0_learn_1 9 rfl rfl)
theorem dX0_learn_32 : decode cX0_learn 32 = .ok (.getfield 12, 3) := dk_180 0 12 (dk_at dksX0_learn_1 10 rfl rfl)
theorem dX0_learn_35 : decode cX0_learn 35 = .ok (.getfield 81, 3) := dk_180 0 81 (dk_at dksX0_learn_1 13 rfl rfl)
theorem dX0_learn_38 : decode cX0_learn 38 = .ok (.iload 4, 2) := dk_21 4 (dk_at dksX0_learn_1 16 rfl rfl)
theorem dX0_learn_40 : decode cX0_learn 40 = .ok (.aaload, 1) := dk_50 (dk_at dksX0_learn_1 18 rfl rfl)
theorem dX0_learn_41 : decode cX0_learn 41 = .ok (.invokevirtual 162, 3) := dk_182 0 162 (dk_at dksX0_learn_1 19 rfl rfl)
theorem dX0_learn_44 : decode cX0_learn 44 = .ok (.ior, 1) := dk_128 (dk_at dksX0_learn_1 22 rfl rfl)
theorem dX0_learn_45 : decode cX0_learn 45 = .ok (.istore_n 3, 1) := dk_62 (dk_at dksX0_learn_1 23 rfl rfl)
theorem dX0_learn_46 : decode cX0_learn 46 = .ok (.iinc 4 1, 3) := dk_132 4 1 (dk_at dksX0_learn_2 0 rfl rfl)
theorem dX0_learn_49 : decode cX0_learn 49 = .ok (.goto (-33), 3) := dk_167 255 223 (dk_at dksX0_learn_2 3 rfl rfl)
theorem dX0_learn_52 : decode cX0_learn 52 = .ok (.aload_n 0, 1) := dk_42 (dk_at dksX0_learn_2 6 rfl rfl)
theorem dX0_learn_53 : decode cX0_learn 53 = .ok (.iconst (-1), 1) := dk_2 (dk_at dksX0_learn_2 7 rfl rfl)
theorem dX0_learn_54 : decode cX0_learn 54 = .ok (.putfield 433, 3) := dk_181 1 177 (dk_at dksX0_learn_2 8 rfl rfl)
theorem dX0_learn_57 : decode cX0_learn 57 = .ok (.aload_n 0, 1) := dk_42 (dk_at dksX0_learn_2 11 rfl rfl)
theorem dX0_learn_58 : decode cX0_learn 58 = .ok (.iload_n 3, 1) := dk_29 (dk_at dksX0_learn_2 12 rfl rfl)
theorem dX0_learn_59 : decode cX0_learn 59 = .ok (.iconst 0, 1) := dk_3 (dk_at dksX0_learn_2 13 rfl rfl)
theorem dX0_learn_60 : decode cX0_learn 60 = .ok (.iload_n 1, 1) := dk_27 (dk_at dksX0_learn_2 14 rfl rfl)
theorem dX0_learn_61 : decode cX0_learn 61 = .ok (.iload_n 3, 1) := dk_29 (dk_at dksX0_learn_2 15 rfl rfl)
theorem dX0_learn_62 : decode cX0_learn 62 = .ok (.invokestatic 152, 3) := dk_184 0 152 (dk_at dksX0_learn_2 16 rfl rfl)
theorem dX0_learn_65 : decode cX0_learn 65 = .ok (.invokestatic 225, 3) := dk_184 0 225 (dk_at dksX0_learn_2 19 rfl rfl)
theorem dX0_learn_68 : decode cX0_learn 68 = .ok (.iconst 0, 1) := dk_3 (dk_at dksX0_learn_2 22 rfl rfl)
theorem dX0_learn_69 : decode cX0_learn 69 = .ok (.invokevirtual 439, 3) := dk_182 1 183 (dk_at dksX0_learn_3 0 rfl rfl)
theorem dX0_learn_72 : decode cX0_learn 72 = .ok (.iload_n 2, 1) := dk_28 (dk_at dksX0_learn_3 3 rfl rfl)
theorem dX0_learn_73 : decode cX0_learn 73 = .ok (.ifCond .eq 10, 3) := dk_153 0 10 (dk_at dksX0_learn_3 4 rfl rfl)
theorem dX0_learn_76 : decode cX0_learn 76 = .ok (.aload_n 0, 1) := dk_42 (dk_at dksX0_learn_3 7 rfl rfl)
theorem dX0_learn_77 : decode cX0_learn 77 = .ok (.getfield 433, 3) := dk_180 1 177 (dk_at dksX0_learn_3 8 rfl rfl)
theorem dX0_learn_80 : decode cX0_learn 80 = .ok (.goto 7, 3) := dk_167 0 7 (dk_at dksX0_learn_3 11 rfl rfl)
theorem dX0_learn_83 : decode cX0_learn 83 = .ok (.aload_n 0, 1) := dk_42 (dk_at dksX0_learn_3 14 rfl rfl)
theorem dX0_learn_84 : decode cX0_learn 84 = .ok (.getfield 436, 3) := dk_180 1 180 (dk_at dksX0_learn_3 15 rfl rfl)
theorem dX0_learn_87 : decode cX0_learn 87 = .ok (.ireturn, 1) := dk_172 (dk_at dksX0_learn_3 18 rfl rfl)
def dkwX0_learns_5 : List UInt8 := [132, 5, 1, 167, 255, 218, 177]
abbrev dktX0_learns_5 : List UInt8 := dkwX0_learns_5 ++ []
def dkwX0_learns_4 : List UInt8 := [153, 0, 22, 42, 27, 21, 5, 4, 96, 29, 4, 100, 21, 4, 4, 21, 5, 120, 128, 182, 1, 183]
abbrev dktX0_learns_4 : List UInt8 := dkwX0_learns_4 ++ dktX0_learns_5
def dkwX0_learns_3 : List UInt8 := [21, 4, 181, 1, 180, 177, 28, 54, 5, 21, 5, 16, 26, 162, 0, 37, 27, 21, 5, 184, 0, 77]
abbrev dktX0_learns_3 : List UInt8 := dkwX0_learns_3 ++ dktX0_learns_4
def dkwX0_learns_2 : List UInt8 := [132, 6, 1, 167, 255, 216, 21, 5, 42, 180, 1, 177, 163, 0, 4, 177, 42, 21, 5, 181, 1, 177, 42]
abbrev dktX0_learns_2 : List UInt8 := dkwX0_learns_2 ++ dktX0_learns_3
def dkwX0_learns_1 : List UInt8 := [21, 5, 42, 21, 6, 21, 4, 2, 130, 182, 1, 89, 153, 0, 7, 4, 167, 0, 4, 3, 96, 54, 5]
abbrev dktX0_learns_1 : List UInt8 := dkwX0_learns_1 ++ dktX0_learns_2
def dkwX0_learns_0 : List UInt8 := [29, 154, 0, 75, 3, 54, 5, 3, 54, 6, 21, 6, 42, 180, 0, 12, 180, 0, 66, 3, 46, 162, 0, 32]
abbrev dktX0_learns_0 : List UInt8 := dkwX0_learns_0 ++ dktX0_learns_1
theorem dksX0_learns_0 : cX0_learns.data.toList.drop 0 = dktX0_learns_0 := by decide +kernel
theorem dksX0_learns_1 : cX0_learns.data.toList.drop 24 = dktX0_learns_1 := dk_seg dksX0_learns_0 24 rfl rfl
theorem dksX0_learns_2 : cX0_learns.data.toList.drop 47 = dktX0_learns_2 := dk_seg dksX0_learns_1 23 rfl rfl
theorem dksX0_learns_3 : cX0_learns.data.toList.drop 70 = dktX0_learns_3 := dk_seg dksX0_learns_2 23 rfl rfl
theorem dksX0_learns_4 : cX0_learns.data.toList.drop 92 = dktX0_learns_4 := dk_seg dksX0_learns_3 22 rfl rfl
theorem dksX0_learns_5 : cX0_learns.data.toList.drop 114 = dktX0_learns_5 := dk_seg dksX0_learns_4 22 rfl rfl
theorem dX0_learns_0 : decode cX0_learns 0 = .ok (.iload_n 3, 1) := dk_29 (dk_at dksX0_learns_0 0 rfl rfl)
theorem dX0_learns_1 : decode cX0_learns 1 = .ok (.ifCond .ne 75, 3) := dk_154 0 75 (dk_at dksX0_learns_0 1 rfl rfl)
theorem dX0_learns_4 : decode cX0_learns 4 = .ok (.iconst 0, 1) := dk_3 (dk_at dksX0_learns_0 4 rfl rfl)
theorem dX0_learns_5 : decode cX0_learns 5 = .ok (.istore 5, 2) := dk_54 5 (dk_at dksX0_learns_0 5 rfl rfl)
theorem dX0_learns_7 : decode cX0_learns 7 = .ok (.iconst 0, 1) := dk_3 (dk_at dksX0_learns_0 7 rfl rfl)
theorem dX0_learns_8 : decode cX0_learns 8 = .ok (.istore 6, 2) := dk_54 6 (dk_at dksX0_learns_0 8 rfl rfl)
theorem dX0_learns_10 : decode cX0_learns 10 = .ok (.iload 6, 2) := dk_21 6 (dk_at dksX0_learns_0 10 rfl rfl)
theorem dX0_learns_12 : decode cX0_learns 12 = .ok (.aload_n 0, 1) := dk_42 (dk_at dksX0_learns_0 12 rfl rfl)
theorem dX0_learns_13 : decode cX0_learns 13 = .ok (.getfield 12, 3) := dk_180 0 12 (dk_at dksX0_learns_0 13 rfl rfl)
theorem dX0_learns_16 : decode cX0_learns 16 = .ok (.getfield 66, 3) := dk_180 0 66 (dk_at dksX0_learns_0 16 rfl rfl)
theorem dX0_learns_19 : decode cX0_learns 19 = .ok (.iconst 0, 1) := dk_3 (dk_at dksX0_learns_0 19 rfl rfl)
theorem dX0_learns_20 : decode cX0_learns 20 = .ok (.iaload, 1) := dk_46 (dk_at dksX0_learns_0 20 rfl rfl)
theorem dX0_learns_21 : decode cX0_learns 21 = .ok (.if_icmp .ge 32, 3) := dk_162 0 32 (dk_at dksX0_learns_0 21 rfl rfl)
theorem dX0_learns_24 : decode cX0_learns 24 = .ok (.iload 5, 2) := dk_21 5 (dk_at dksX0_learns_1 0 rfl rfl)
theorem dX0_learns_26 : decode cX0_learns 26 = .ok (.aload_n 0, 1) := dk_42 (dk_at dksX0_learns_1 2 rfl rfl)
theorem dX0_learns_27 : decode cX0_learns 27 = .ok (.iload 6, 2) := dk_21 6 (dk_at dksX0_learns_1 3 rfl rfl)
theorem dX0_learns_29 : decode cX0_learns 29 = .ok (.iload 4, 2) := dk_21 4 (dk_at dksX0_learns_1 5 rfl rfl)
theorem dX0_learns_31 : decode cX0_learns 31 = .ok (.iconst (-1), 1) := dk_2 (dk_at dksX0_learns_1 7 rfl rfl)
theorem dX0_learns_32 : decode cX0_learns 32 = .ok (.ixor, 1) := dk_130 (dk_at dksX0_learns_1 8 rfl rfl)
theorem dX0_learns_33 : decode cX0_learns 33 = .ok (.invokevirtual 345, 3) := dk_182 1 89 (dk_at dksX0_learns_1 9 rfl rfl)
theorem dX0_learns_36 : decode cX0_learns 36 = .ok (.ifCond .eq 7, 3) := dk_153 0 7 (dk_at dksX0_learns_1 12 rfl rfl)
theorem dX0_learns_39 : decode cX0_learns 39 = .ok (.iconst 1, 1) := dk_4 (dk_at dksX0_learns_1 15 rfl rfl)
theorem dX0_learns_40 : decode cX0_learns 40 = .ok (.goto 4, 3) := dk_167 0 4 (dk_at dksX0_learns_1 16 rfl rfl)
theorem dX0_learns_43 : decode cX0_learns 43 = .ok (.iconst 0, 1) := dk_3 (dk_at dksX0_learns_1 19 rfl rfl)
theorem dX0_learns_44 : decode cX0_learns 44 = .ok (.iadd, 1) := dk_96 (dk_at dksX0_learns_1 20 rfl rfl)
theorem dX0_learns_45 : decode cX0_learns 45 = .ok (.istore 5, 2) := dk_54 5 (dk_at dksX0_learns_1 21 rfl rfl)
theorem dX0_learns_47 : decode cX0_learns 47 = .ok (.iinc 6 1, 3) := dk_132 6 1 (dk_at dksX0_learns_2 0 rfl rfl)
theorem dX0_learns_50 : decode cX0_learns 50 = .ok (.goto (-40), 3) := dk_167 255 216 (dk_at dksX0_learns_2 3 rfl rfl)
theorem dX0_learns_53 : decode cX0_learns 53 = .ok (.iload 5, 2) := dk_21 5 (dk_at dksX0_learns_2 6 rfl rfl)
theorem dX0_learns_55 : decode cX0_learns 55 = .ok (.aload_n 0, 1) := dk_42 (dk_at dksX0_learns_2 8 rfl rfl)
theorem dX0_learns_56 : decode cX0_learns 56 = .ok (.getfield 433, 3) := dk_180 1 177 (dk_at dksX0_learns_2 9 rfl rfl)
theorem dX0_learns_59 : decode cX0_learns 59 = .ok (.if_icmp .gt 4, 3) := dk_163 0 4 (dk_at dksX0_learns_2 12 rfl rfl)
theorem dX0_learns_62 : decode cX0_learns 62 = .ok (.return_, 1) := dk_177 (dk_at dksX0_learns_2 15 rfl rfl)
theorem dX0_learns_63 : decode cX0_learns 63 = .ok (.aload_n 0, 1) := dk_42 (dk_at dksX0_learns_2 16 rfl rfl)
theorem dX0_learns_64 : decode cX0_learns 64 = .ok (.iload 5, 2) := dk_21 5 (dk_at dksX0_learns_2 17 rfl rfl)
theorem dX0_learns_66 : decode cX0_learns 66 = .ok (.putfield 433, 3) := dk_181 1 177 (dk_at dksX0_learns_2 19 rfl rfl)
theorem dX0_learns_69 : decode cX0_learns 69 = .ok (.aload_n 0, 1) := dk_42 (dk_at dksX0_learns_2 22 rfl rfl)
theorem dX0_learns_70 : decode cX0_learns 70 = .ok (.iload 4, 2) := dk_21 4 (dk_at dksX0_learns_3 0 rfl rfl)
theorem dX0_learns_72 : decode cX0_learns 72 = .ok (.putfield 436, 3) := dk_181 1 180 (dk_at dksX0_learns_3 2 rfl rfl)
theorem dX0_learns_75 : decode cX0_learns 75 = .ok (.return_, 1) := dk_177 (dk_at dksX0_learns_3 5 rfl rfl)
theorem dX0_learns_76 : decode cX0_learns 76 = .ok (.iload_n 2, 1) := dk_28 (dk_at dksX0_learns_3 6 rfl rfl)
theorem dX0_learns_77 : decode cX0_learns 77 = .ok (.istore 5, 2) := dk_54 5 (dk_at dksX0_learns_3 7 rfl rfl)
theorem dX0_learns_79 : decode cX0_learns 79 = .ok (.iload 5, 2) := dk_21 5 (dk_at dksX0_learns_3 9 rfl rfl)
theorem dX0_learns_81 : decode cX0_learns 81 = .ok (.bipush 26, 2) := dk_16 26 (dk_at dksX0_learns_3 11 rfl rfl)
theorem dX0_learns_83 : decode cX0_learns 83 = .ok (.if_icmp .ge 37, 3) := dk_162 0 37 (dk_at dksX0_learns_3 13 rfl rfl)
theorem dX0_learns_86 : decode cX0_learns 86 = .ok (.iload_n 1, 1) := dk_27 (dk_at dksX0_learns_3 16 rfl rfl)
theorem dX0_learns_87 : decode cX0_learns 87 = .ok (.iload 5, 2) := dk_21 5 (dk_at dksX0_learns_3 17 rfl rfl)
theorem dX0_learns_89 : decode cX0_learns 89 = .ok (.invokestatic 77, 3) := dk_184 0 77 (dk_at dksX0_learns_3 19 rfl rfl)
theorem dX0_learns_92 : decode cX0_learns 92 = .ok (.ifCond .eq 22, 3) := dk_153 0 22 (dk_at dksX0_learns_4 0 rfl rfl)
theorem dX0_learns_95 : decode cX0_learns 95 = .ok (.aload_n 0, 1) := dk_42 (dk_at dksX0_learns_4 3 rfl rfl)
theorem dX0_learns_96 : decode cX0_learns 96 = .ok (.iload_n 1, 1) := dk_27 (dk_at dksX0_learns_4 4 rfl rfl)
theorem dX0_learns_97 : decode cX0_learns 97 = .ok (.iload 5, 2) := dk_21 5 (dk_at dksX0_learns_4 5 rfl rfl)
theorem dX0_learns_99 : decode cX0_learns 99 = .ok (.iconst 1, 1) := dk_4 (dk_at dksX0_learns_4 7 rfl rfl)
theorem dX0_learns_100 : decode cX0_learns 100 = .ok (.iadd, 1) := dk_96 (dk_at dksX0_learns_4 8 rfl rfl)
theorem dX0_learns_101 : decode cX0_learns 101 = .ok (.iload_n 3, 1) := dk_29 (dk_at dksX0_learns_4 9 rfl rfl)
theorem dX0_learns_102 : decode cX0_learns 102 = .ok (.iconst 1, 1) := dk_4 (dk_at dksX0_learns_4 10 rfl rfl)
theorem dX0_learns_103 : decode cX0_learns 103 = .ok (.isub, 1) := dk_100 (dk_at dksX0_learns_4 11 rfl rfl)
theorem dX0_learns_104 : decode cX0_learns 104 = .ok (.iload 4, 2) := dk_21 4 (dk_at dksX0_learns_4 12 rfl rfl)
theorem dX0_learns_106 : decode cX0_learns 106 = .ok (.iconst 1, 1) := dk_4 (dk_at dksX0_learns_4 14 rfl rfl)
theorem dX0_learns_107 : decode cX0_learns 107 = .ok (.iload 5, 2) := dk_21 5 (dk_at dksX0_learns_4 15 rfl rfl)
theorem dX0_learns_109 : decode cX0_learns 109 = .ok (.ishl, 1) := dk_120 (dk_at dksX0_learns_4 17 rfl rfl)
theorem dX0_learns_110 : decode cX0_learns 110 = .ok (.ior, 1) := dk_128 (dk_at dksX0_learns_4 18 rfl rfl)
theorem dX0_learns_111 : decode cX0_learns 111 = .ok (.invokevirtual 439, 3) := dk_182 1 183 (dk_at dksX0_learns_4 19 rfl rfl)
theorem dX0_learns_114 : decode cX0_learns 114 = .ok (.iinc 5 1, 3) := dk_132 5 1 (dk_at dksX0_learns_5 0 rfl rfl)
theorem dX0_learns_117 : decode cX0_learns 117 = .ok (.goto (-38), 3) := dk_167 255 218 (dk_at dksX0_learns_5 3 rfl rfl)
theorem dX0_learns_120 : decode cX0_learns 120 = .ok (.return_, 1) := dk_177 (dk_at dksX0_learns_5 6 rfl rfl)
def dkwX0_hair_3 : List UInt8 := [21, 4, 172, 132, 3, 1, 132, 4, 1, 167, 255, 199, 28, 2, 160, 0, 7, 29, 167, 0, 4, 2, 172]
abbrev dktX0_hair_3 : List UInt8 := dkwX0_hair_3 ++ []
def dkwX0_hair_2 : List UInt8 := [180, 0, 12, 180, 0, 81, 21, 4, 50, 182, 1, 187, 154, 0, 6, 167, 0, 14, 29, 28, 160, 0, 6]
abbrev dktX0_hair_2 : List UInt8 := dkwX0_hair_2 ++ dktX0_hair_3
def dkwX0_hair_1 : List UInt8 := [180, 0, 12, 180, 0, 66, 3, 46, 162, 0, 49, 42, 42, 180, 0, 12, 180, 0, 81, 27, 50, 42]
abbrev dktX0_hair_1 : List UInt8 := dkwX0_hair_1 ++ dktX0_hair_2
def dkwX0_hair_0 : List UInt8 := [42, 27, 182, 1, 86, 153, 0, 8, 28, 2, 162, 0, 5, 2, 172, 3, 62, 3, 54, 4, 21, 4, 42]
abbrev dktX0_hair_0 : List UInt8 := dkwX0_hair_0 ++ dktX0_hair_1
theorem dksX0_hair_0 : cX0_hair.data.toList.drop 0 = dktX0_hair_0 := by decide +kernel
theorem dksX0_hair_1 : cX0_hair.data.toList.drop 23 = dktX0_hair_1 := dk_seg dksX0_hair_0 23 rfl rfl
theorem dksX0_hair_2 : cX0_hair.data.toList.drop 45 = dktX0_hair_2 := dk_seg dksX0_hair_1 22 rfl rfl
theorem dksX0_hair_3 : cX0_hair.data.toList.drop 68 = dktX0_hair_3 := dk_seg dksX0_hair_2 23 rfl rfl
theorem dX0_hair_0 : decode cX0_hair 0 = .ok (.aload_n 0, 1) := dk_42 (dk_at dksX0_hair_0 0 rfl rfl)
theorem dX0_hair_1 : decode cX0_hair 1 = .ok (.iload_n 1, 1) := dk_27 (dk_at dksX0_hair_0 1 rfl rfl)
theorem dX0_hair_2 : decode cX0_hair 2 = .ok (.invokevirtual 342, 3) := dk_182 1 86 (dk_at dksX0_hair_0 2 rfl rfl)
theorem dX0_hair_5 : decode cX0_hair 5 = .ok (.ifCond .eq 8, 3) := dk_153 0 8 (dk_at dksX0_hair_0 5 rfl rfl)
theorem dX0_hair_8 : decode cX0_hair 8 = .ok (.iload_n 2, 1) := dk_28 (dk_at dksX0_hair_0 8 rfl rfl)
theorem dX0_hair_9 : decode cX0_hair 9 = .ok (.iconst (-1), 1) := dk_2 (dk_at dksX0_hair_0 9 rfl rfl)
theorem dX0_hair_10 : decode cX0_hair 10 = .ok (.if_icmp .ge 5, 3) := dk_162 0 5 (dk_at dksX0_hair_0 10 rfl rfl)
theorem dX0_hair_13 : decode cX0_hair 13 = .ok (.iconst (-1), 1) := dk_2 (dk_at dksX0_hair_0 13 rfl rfl)
theorem dX0_hair_14 : decode cX0_hair 14 = .ok (.ireturn, 1) := dk_172 (dk_at dksX0_hair_0 14 rfl rfl)
theorem dX0_hair_15 : decode cX0_hair 15 = .ok (.iconst 0, 1) := dk_3 (dk_at dksX0_hair_0 15 rfl rfl)
theorem dX0_hair_16 : decode cX0_hair 16 = .ok (.istore_n 3, 1) := dk_62 (dk_at dksX0_hair_0 16 rfl rfl)
theorem dX0_hair_17 : decode cX0_hair 17 = .ok (.iconst 0, 1) := dk_3 (dk_at dksX0_hair_0 17 rfl rfl)
theorem dX0_hair_18 : decode cX0_hair 18 = .ok (.istore 4, 2) := dk_54 4 (dk_at dksX0_hair_0 18 rfl rfl)
theorem dX0_hair_20 : decode cX0_hair 20 = .ok (.iload 4, 2) := dk_21 4 (dk_at dksX0_hair_0 20 rfl rfl)
theorem dX0_hair_22 : decode cX0_hair 22 = .ok (.aload_n 0, 1) := dk_42 (dk_at dksX0_hair_0 22 rfl rfl)
theorem dX0_hair_23 : decode cX0_hair 23 = .ok (.getfield 12, 3) := dk_180 0 12 (dk_at dksX0_hair_1 0 rfl rfl)
theorem dX0_hair_26 : decode cX0_hair 26 = .ok (.getfield 66, 3) := dk_180 0 66 (dk_at dksX0_hair_1 3 rfl rfl)
theorem dX0_hair_29 : decode cX0_hair 29 = .ok (.iconst 0, 1) := dk_3 (dk_at dksX0_hair_1 6 rfl rfl)
theorem dX0_hair_30 : decode cX0_hair 30 = .ok (.iaload, 1) := dk_46 (dk_at dksX0_hair_1 7 rfl rfl)
theorem dX0_hair_31 : decode cX0_hair 31 = .ok (.if_icmp .ge 49, 3) := dk_162 0 49 (dk_at dksX0_hair_1 8 rfl rfl)
theorem dX0_hair_34 : decode cX0_hair 34 = .ok (.aload_n 0, 1) := dk_42 (dk_at dksX0_hair_1 11 rfl rfl)
theorem dX0_hair_35 : decode cX0_hair 35 = .ok (.aload_n 0, 1) := dk_42 (dk_at dksX0_hair_1 12 rfl rfl)
theorem dX0_hair_36 : decode cX0_hair 36 = .ok (.getfield 12, 3) := dk_180 0 12 (dk_at dksX0_hair_1 13 rfl rfl)
theorem dX0_hair_39 : decode cX0_hair 39 = .ok (.getfield 81, 3) := dk_180 0 81 (dk_at dksX0_hair_1 16 rfl rfl)
theorem dX0_hair_42 : decode cX0_hair 42 = .ok (.iload_n 1, 1) := dk_27 (dk_at dksX0_hair_1 19 rfl rfl)
theorem dX0_hair_43 : decode cX0_hair 43 = .ok (.aaload, 1) := dk_50 (dk_at dksX0_hair_1 20 rfl rfl)
theorem dX0_hair_44 : decode cX0_hair 44 = .ok (.aload_n 0, 1) := dk_42 (dk_at dksX0_hair_1 21 rfl rfl)
theorem dX0_hair_45 : decode cX0_hair 45 = .ok (.getfield 12, 3) := dk_180 0 12 (dk_at dksX0_hair_2 0 rfl rfl)
theorem dX0_hair_48 : decode cX0_hair 48 = .ok (.getfield 81, 3) := dk_180 0 81 (dk_at dksX0_hair_2 3 rfl rfl)
theorem dX0_hair_51 : decode cX0_hair 51 = .ok (.iload 4, 2) := dk_21 4 (dk_at dksX0_hair_2 6 rfl rfl)
theorem dX0_hair_53 : decode cX0_hair 53 = .ok (.aaload, 1) := dk_50 (dk_at dksX0_hair_2 8 rfl rfl)
theorem dX0_hair_54 : decode cX0_hair 54 = .ok (.invokevirtual 443, 3) := dk_182 1 187 (dk_at dksX0_hair_2 9 rfl rfl)
theorem dX0_hair_57 : decode cX0_hair 57 = .ok (.ifCond .ne 6, 3) := dk_154 0 6 (dk_at dksX0_hair_2 12 rfl rfl)
theorem dX0_hair_60 : decode cX0_hair 60 = .ok (.goto 14, 3) := dk_167 0 14 (dk_at dksX0_hair_2 15 rfl rfl)
theorem dX0_hair_63 : decode cX0_hair 63 = .ok (.iload_n 3, 1) := dk_29 (dk_at dksX0_hair_2 18 rfl rfl)
theorem dX0_hair_64 : decode cX0_hair 64 = .ok (.iload_n 2, 1) := dk_28 (dk_at dksX0_hair_2 19 rfl rfl)
theorem dX0_hair_65 : decode cX0_hair 65 = .ok (.if_icmp .ne 6, 3) := dk_160 0 6 (dk_at dksX0_hair_2 20 rfl rfl)
theorem dX0_hair_68 : decode cX0_hair 68 = .ok (.iload 4, 2) := dk_21 4 (dk_at dksX0_hair_3 0 rfl rfl)
theorem dX0_hair_70 : decode cX0_hair 70 = .ok (.ireturn, 1) := dk_172 (dk_at dksX0_hair_3 2 rfl rfl)
theorem dX0_hair_71 : decode cX0_hair 71 = .ok (.iinc 3 1, 3) := dk_132 3 1 (dk_at dksX0_hair_3 3 rfl rfl)
theorem dX0_hair_74 : decode cX0_hair 74 = .ok (.iinc 4 1, 3) := dk_132 4 1 (dk_at dksX0_hair_3 6 rfl rfl)
theorem dX0_hair_77 : decode cX0_hair 77 = .ok (.goto (-57), 3) := dk_167 255 199 (dk_at dksX0_hair_3 9 rfl rfl)
theorem dX0_hair_80 : decode cX0_hair 80 = .ok (.iload_n 2, 1) := dk_28 (dk_at dksX0_hair_3 12 rfl rfl)
theorem dX0_hair_81 : decode cX0_hair 81 = .ok (.iconst (-1), 1) := dk_2 (dk_at dksX0_hair_3 13 rfl rfl)
theorem dX0_hair_82 : decode cX0_hair 82 = .ok (.if_icmp .ne 7, 3) := dk_160 0 7 (dk_at dksX0_hair_3 14 rfl rfl)
theorem dX0_hair_85 : decode cX0_hair 85 = .ok (.iload_n 3, 1) := dk_29 (dk_at dksX0_hair_3 17 rfl rfl)
theorem dX0_hair_86 : decode cX0_hair 86 = .ok (.goto 4, 3) := dk_167 0 4 (dk_at dksX0_hair_3 18 rfl rfl)
theorem dX0_hair_89 : decode cX0_hair 89 = .ok (.iconst (-1), 1) := dk_2 (dk_at dksX0_hair_3 21 rfl rfl)
theorem dX0_hair_90 : decode cX0_hair 90 = .ok (.ireturn, 1) := dk_172 (dk_at dksX0_hair_3 22 rfl rfl)
def dkwX0_isHair_2 : List UInt8 := [167, 0, 4, 4, 96, 62, 132, 4, 1, 167, 255, 219, 29, 4, 160, 0, 7, 4, 167, 0, 4, 3, 172]
abbrev dktX0_isHair_2 : List UInt8 := dkwX0_isHair_2 ++ []
def dkwX0_isHair_1 : List UInt8 := [162, 0, 34, 29, 43, 182, 0, 85, 21, 4, 46, 44, 182, 0, 85, 21, 4, 46, 160, 0, 7, 3]
abbrev dktX0_isHair_1 : List UInt8 := dkwX0_isHair_1 ++ dktX0_isHair_2
def dkwX0_isHair_0 : List UInt8 := [43, 182, 0, 199, 44, 182, 0, 199, 159, 0, 5, 3, 172, 3, 62, 3, 54, 4, 21, 4, 43, 182, 0, 199]
abbrev dktX0_isHair_0 : List UInt8 := dkwX0_isHair_0 ++ dktX0_isHair_1
theorem dksX0_isHair_0 : cX0_isHair.data.toList.drop 0 = dktX0_isHair_0 := by decide +kernel
theorem dksX0_isHair_1 : cX0_isHair.data.toList.drop 24 = dktX0_isHair_1 := dk_seg dksX0_isHair_0 24 rfl rfl
theorem dksX0_isHair_2 : cX0_isHair.data.toList.drop 46 = dktX0_isHair_2 := dk_seg dksX0_isHair_1 22 rfl rfl
theorem dX0_isHair_0 : decode cX0_isHair 0 = .ok (.aload_n 1, 1) := dk_43 (dk_at dksX0_isHair_0 0 rfl rfl)
theorem dX0_isHair_1 : decode cX0_isHair 1 = .ok (.invokevirtual 199, 3) := dk_182 0 199 (dk_at dksX0_isHair_0 1 rfl rfl)
theorem dX0_isHair_4 : decode cX0_isHair 4 = .ok (.aload_n 2, 1) := dk_44 (dk_at dksX0_isHair_0 4 rfl rfl)
theorem dX0_isHair_5 : decode cX0_isHair 5 = .ok (.invokevirtual 199, 3) := dk_182 0 199 (dk_at dksX0_isHair_0 5 rfl rfl)
theorem dX0_isHair_8 : decode cX0_isHair 8 = .ok (.if_icmp .eq 5, 3) := dk_159 0 5 (dk_at dksX0_isHair_0 8 rfl rfl)
theorem dX0_isHair_11 : decode cX0_isHair 11 = .ok (.iconst 0, 1) := dk_3 (dk_at dksX0_isHair_0 11 rfl rfl)
theorem dX0_isHair_12 : decode cX0_isHair 12 = .ok (.ireturn, 1) := dk_172 (dk_at dksX0_isHair_0 12 rfl rfl)
theorem dX0_isHair_13 : decode cX0_isHair 13 = .ok (.iconst 0, 1) := dk_3 (dk_at dksX0_isHair_0 13 rfl rfl)
theorem dX0_isHair_14 : decode cX0_isHair 14 = .ok (.istore_n 3, 1) := dk_62 (dk_at dksX0_isHair_0 14 rfl rfl)
theorem dX0_isHair_15 : decode cX0_isHair 15 = .ok (.iconst 0, 1) := dk_3 (dk_at dksX0_isHair_0 15 rfl rfl)
theorem dX0_isHair_16 : decode cX0_isHair 16 = .ok (.istore 4, 2) := dk_54 4 (dk_at dksX0_isHair_0 16 rfl rfl)
theorem dX0_isHair_18 : decode cX0_isHair 18 = .ok (.iload 4, 2) := dk_21 4 (dk_at dksX0_isHair_0 18 rfl rfl)
theorem dX0_isHair_20 : decode cX0_isHair 20 = .ok (.aload_n 1, 1) := dk_43 (dk_at dksX0_isHair_0 20 rfl rfl)
theorem dX0_isHair_21 : decode cX0_isHair 21 = .ok (.invokevirtual 199, 3) := dk_182 0 199 (dk_at dksX0_isHair_0 21 rfl rfl)
theorem dX0_isHair_24 : decode cX0_isHair 24 = .ok (.if_icmp .ge 34, 3) := dk_162 0 34 (dk_at dksX0_isHair_1 0 rfl rfl)
theorem dX0_isHair_27 : decode cX0_isHair 27 = .ok (.iload_n 3, 1) := dk_29 (dk_at dksX0_isHair_1 3 rfl rfl)
theorem dX0_isHair_28 : decode cX0_isHair 28 = .ok (.aload_n 1, 1) := dk_43 (dk_at dksX0_isHair_1 4 rfl rfl)
theorem dX0_isHair_29 : decode cX0_isHair 29 = .ok (.invokevirtual 85, 3) := dk_182 0 85 (dk_at dksX0_isHair_1 5 rfl rfl)
theorem dX0_isHair_32 : decode cX0_isHair 32 = .ok (.iload 4, 2) := dk_21 4 (dk_at dksX0_isHair_1 8 rfl rfl)
theorem dX0_isHair_34 : decode cX0_isHair 34 = .ok (.iaload, 1) := dk_46 (dk_at dksX0_isHair_1 10 rfl rfl)
theorem dX0_isHair_35 : decode cX0_isHair 35 = .ok (.aload_n 2, 1) := dk_44 (dk_at dksX0_isHair_1 11 rfl rfl)
theorem dX0_isHair_36 : decode cX0_isHair 36 = .ok (.invokevirtual 85, 3) := dk_182 0 85 (dk_at dksX0_isHair_1 12 rfl rfl)
theorem dX0_isHair_39 : decode cX0_isHair 39 = .ok (.iload 4, 2) := dk_21 4 (dk_at dksX0_isHair_1 15 rfl rfl)
theorem dX0_isHair_41 : decode cX0_isHair 41 = .ok (.iaload, 1) := dk_46 (dk_at dksX0_isHair_1 17 rfl rfl)
theorem dX0_isHair_42 : decode cX0_isHair 42 = .ok (.if_icmp .ne 7, 3) := dk_160 0 7 (dk_at dksX0_isHair_1 18 rfl rfl)
theorem dX0_isHair_45 : decode cX0_isHair 45 = .ok (.iconst 0, 1) := dk_3 (dk_at dksX0_isHair_1 21 rfl rfl)
theorem dX0_isHair_46 : decode cX0_isHair 46 = .ok (.goto 4, 3) := dk_167 0 4 (dk_at dksX0_isHair_2 0 rfl rfl)
theorem dX0_isHair_49 : decode cX0_isHair 49 = .ok (.iconst 1, 1) := dk_4 (dk_at dksX0_isHair_2 3 rfl rfl)
theorem dX0_isHair_50 : decode cX0_isHair 50 = .ok (.iadd, 1) := dk_96 (dk_at dksX0_isHair_2 4 rfl rfl)
theorem dX0_isHair_51 : decode cX0_isHair 51 = .ok (.istore_n 3, 1) := dk_62 (dk_at dksX0_isHair_2 5 rfl rfl)
theorem dX0_isHair_52 : decode cX0_isHair 52 = .ok (.iinc 4 1, 3) := dk_132 4 1 (dk_at dksX0_isHair_2 6 rfl rfl)
theorem dX0_isHair_55 : decode cX0_isHair 55 = .ok (.goto (-37), 3) := dk_167 255 219 (dk_at dksX0_isHair_2 9 rfl rfl)
theorem dX0_isHair_58 : decode cX0_isHair 58 = .ok (.iload_n 3, 1) := dk_29 (dk_at dksX0_isHair_2 12 rfl rfl)
theorem dX0_isHair_59 : decode cX0_isHair 59 = .ok (.iconst 1, 1) := dk_4 (dk_at dksX0_isHair_2 13 rfl rfl)
theorem dX0_isHair_60 : decode cX0_isHair 60 = .ok (.if_icmp .ne 7, 3) := dk_160 0 7 (dk_at dksX0_isHair_2 14 rfl rfl)
theorem dX0_isHair_63 : decode cX0_isHair 63 = .ok (.iconst 1, 1) := dk_4 (dk_at dksX0_isHair_2 17 rfl rfl)
theorem dX0_isHair_64 : decode cX0_isHair 64 = .ok (.goto 4, 3) := dk_167 0 4 (dk_at dksX0_isHair_2 18 rfl rfl)
theorem dX0_isHair_67 : decode cX0_isHair 67 = .ok (.iconst 0, 1) := dk_3 (dk_at dksX0_isHair_2 21 rfl rfl)
theorem dX0_isHair_68 : decode cX0_isHair 68 = .ok (.ireturn, 1) := dk_172 (dk_at dksX0_isHair_2 22 rfl rfl)
def dkwX0_printed_5 : List UInt8 := [42, 180, 0, 12, 180, 0, 66, 16, 6, 46, 172]
abbrev dktX0_printed_5 : List UInt8 := dkwX0_printed_5 ++ []
def dkwX0_printed_4 : List UInt8 := [180, 0, 66, 16, 6, 46, 50, 184, 1, 82, 42, 180, 0, 12, 180, 0, 66, 16, 6, 92, 46, 4, 96, 79]
abbrev dktX0_printed_4 : List UInt8 := dkwX0_printed_4 ++ dktX0_printed_5
def dkwX0_printed_3 : List UInt8 := [153, 0, 7, 4, 167, 0, 4, 3, 79, 58, 4, 25, 4, 42, 180, 0, 12, 180, 1, 190, 42, 180, 0, 12]
abbrev dktX0_printed_3 : List UInt8 := dkwX0_printed_3 ++ dktX0_printed_4
def dkwX0_printed_2 : List UInt8 := [16, 12, 160, 0, 6, 16, 254, 172, 6, 188, 10, 89, 3, 27, 79, 89, 4, 28, 79, 89, 5, 29]
abbrev dktX0_printed_2 : List UInt8 := dkwX0_printed_2 ++ dktX0_printed_3
def dkwX0_printed_1 : List UInt8 := [153, 0, 28, 28, 3, 16, 30, 184, 0, 62, 153, 0, 18, 42, 180, 0, 12, 180, 0, 66, 16, 6, 46]
abbrev dktX0_printed_1 : List UInt8 := dkwX0_printed_1 ++ dktX0_printed_2
def dkwX0_printed_0 : List UInt8 := [27, 2, 160, 0, 16, 42, 180, 0, 12, 180, 0, 66, 16, 6, 3, 79, 3, 172, 42, 27, 182, 1, 86]
abbrev dktX0_printed_0 : List UInt8 := dkwX0_printed_0 ++ dktX0_printed_1
theorem dksX0_printed_0 : cX0_printed.data.toList.drop 0 = dktX0_printed_0 := by decide +kernel
theorem dksX0_printed_1 : cX0_printed.data.toList.drop 23 = dktX0_printed_1 := dk_seg dksX0_printed_0 23 rfl rfl
theorem dksX0_printed_2 : cX0_printed.data.toList.drop 46 = dktX0_printed_2 := dk_seg dksX0_printed_1 23 rfl rfl
theorem dksX0_printed_3 : cX0_printed.data.toList.drop 68 = dktX0_printed_3 := dk_seg dksX0_printed_2 22 rfl rfl
theorem dksX0_printed_4 : cX0_printed.data.toList.drop 92 = dktX0_printed_4 := dk_seg dksX0_printed_3 24 rfl rfl
theorem dksX0_printed_5 : cX0_printed.data.toList.drop 116 = dktX0_printed_5 := dk_seg dksX0_printed_4 24 rfl rfl
theorem dX0_printed_0 : decode cX0_printed 0 = .ok (.iload_n 1, 1) := dk_27 (dk_at dksX0_printed_0 0 rfl rfl)
theorem dX0_printed_1 : decode cX0_printed 1 = .ok (.iconst (-1), 1) := dk_2 (dk_at dksX0_printed_0 1 rfl rfl)
theorem dX0_printed_2 : decode cX0_printed 2 = .ok (.if_icmp .ne 16, 3) := dk_160 0 16 (dk_at dksX0_printed_0 2 rfl rfl)
theorem dX0_printed_5 : decode cX0_printed 5 = .ok (.aload_n 0, 1) := dk_42 (dk_at dksX0_printed_0 5 rfl rfl)
theorem dX0_printed_6 : decode cX0_printed 6 = .ok (.getfield 12, 3) := dk_180 0 12 (dk_at dksX0_printed_0 6 rfl rfl)
theorem dX0_printed_9 : decode cX0_printed 9 = .ok (.getfield 66, 3) := dk_180 0 66 (dk_at dksX0_printed_0 9 rfl rfl)
theorem dX0_printed_12 : decode cX0_printed 12 = .ok (.bipush 6, 2) := dk_16 6 (dk_at dksX0_printed_0 12 rfl rfl)
theorem dX0_printed_14 : decode cX0_printed 14 = .ok (.iconst 0, 1) := dk_3 (dk_at dksX0_printed_0 14 rfl rfl)
theorem dX0_printed_15 : decode cX0_printed 15 = .ok (.iastore, 1) := dk_79 (dk_at dksX0_printed_0 15 rfl rfl)
theorem dX0_printed_16 : decode cX0_printed 16 = .ok (.iconst 0, 1) := dk_3 (dk_at dksX0_printed_0 16 rfl rfl)
theorem dX0_printed_17 : decode cX0_printed 17 = .ok (.ireturn, 1) := dk_172 (dk_at dksX0_printed_0 17 rfl rfl)
theorem dX0_printed_18 : decode cX0_printed 18 = .ok (.aload_n 0, 1) := dk_42 (dk_at dksX0_printed_0 18 rfl rfl)
theorem dX0_printed_19 : decode cX0_printed 19 = .ok (.iload_n 1, 1) := dk_27 (dk_at dksX0_printed_0 19 rfl rfl)
theorem dX0_printed_20 : decode cX0_printed 20 = .ok (.invokevirtual 342, 3) := dk_182 1 86 (dk_at dksX0_printed_0 20 rfl rfl)
theorem dX0_printed_23 : decode cX0_printed 23 = .ok (.ifCond .eq 28, 3) := dk_153 0 28 (dk_at dksX0_printed_1 0 rfl rfl)
theorem dX0_printed_26 : decode cX0_printed 26 = .ok (.iload_n 2, 1) := dk_28 (dk_at dksX0_printed_1 3 rfl rfl)
theorem dX0_printed_27 : decode cX0_printed 27 = .ok (.iconst 0, 1) := dk_3 (dk_at dksX0_printed_1 4 rfl rfl)
theorem dX0_printed_28 : decode cX0_printed 28 = .ok (.bipush 30, 2) := dk_16 30 (dk_at dksX0_printed_1 5 rfl rfl)
theorem dX0_printed_30 : decode cX0_printed 30 = .ok (.invokestatic 62, 3) := dk_184 0 62 (dk_at dksX0_printed_1 7 rfl rfl)
theorem dX0_printed_33 : decode cX0_printed 33 = .ok (.ifCond .eq 18, 3) := dk_153 0 18 (dk_at dksX0_printed_1 10 rfl rfl)
theorem dX0_printed_36 : decode cX0_printed 36 = .ok (.aload_n 0, 1) := dk_42 (dk_at dksX0_printed_1 13 rfl rfl)
theorem dX0_printed_37 : decode cX0_printed 37 = .ok (.getfield 12, 3) := dk_180 0 12 (dk_at dksX0_printed_1 14 rfl rfl)
theorem dX0_printed_40 : decode cX0_printed 40 = .ok (.getfield 66, 3) := dk_180 0 66 (dk_at dksX0_printed_1 17 rfl rfl)
theorem dX0_printed_43 : decode cX0_printed 43 = .ok (.bipush 6, 2) := dk_16 6 (dk_at dksX0_printed_1 20 rfl rfl)
theorem dX0_printed_45 : decode cX0_printed 45 = .ok (.iaload, 1) := dk_46 (dk_at dksX0_printed_1 22 rfl rfl)
theorem dX0_printed_46 : decode cX0_printed 46 = .ok (.bipush 12, 2) := dk_16 12 (dk_at dksX0_printed_2 0 rfl rfl)
theorem dX0_printed_48 : decode cX0_printed 48 = .ok (.if_icmp .ne 6, 3) := dk_160 0 6 (dk_at dksX0_printed_2 2 rfl rfl)
theorem dX0_printed_51 : decode cX0_printed 51 = .ok (.bipush (-2), 2) := dk_16 254 (dk_at dksX0_printed_2 5 rfl rfl)
theorem dX0_printed_53 : decode cX0_printed 53 = .ok (.ireturn, 1) := dk_172 (dk_at dksX0_printed_2 7 rfl rfl)
theorem dX0_printed_54 : decode cX0_printed 54 = .ok (.iconst 3, 1) := dk_6 (dk_at dksX0_printed_2 8 rfl rfl)
theorem dX0_printed_55 : decode cX0_printed 55 = .ok (.newarray .int, 2) := dk_188_10 (dk_at dksX0_printed_2 9 rfl rfl)
theorem dX0_printed_57 : decode cX0_printed 57 = .ok (.dup, 1) := dk_89 (dk_at dksX0_printed_2 11 rfl rfl)
theorem dX0_printed_58 : decode cX0_printed 58 = .ok (.iconst 0, 1) := dk_3 (dk_at dksX0_printed_2 12 rfl rfl)
theorem dX0_printed_59 : decode cX0_printed 59 = .ok (.iload_n 1, 1) := dk_27 (dk_at dksX0_printed_2 13 rfl rfl)
theorem dX0_printed_60 : decode cX0_printed 60 = .ok (.iastore, 1) := dk_79 (dk_at dksX0_printed_2 14 rfl rfl)
theorem dX0_printed_61 : decode cX0_printed 61 = .ok (.dup, 1) := dk_89 (dk_at dksX0_printed_2 15 rfl rfl)
theorem dX0_printed_62 : decode cX0_printed 62 = .ok (.iconst 1, 1) := dk_4 (dk_at dksX0_printed_2 16 rfl rfl)
theorem dX0_printed_63 : decode cX0_printed 63 = .ok (.iload_n 2, 1) := dk_28 (dk_at dksX0_printed_2 17 rfl rfl)
theorem dX0_printed_64 : decode cX0_printed 64 = .ok (.iastore, 1) := dk_79 (dk_at dksX0_printed_2 18 rfl rfl)
theorem dX0_printed_65 : decode cX0_printed 65 = .ok (.dup, 1) := dk_89 (dk_at dksX0_printed_2 19 rfl rfl)
theorem dX0_printed_66 : decode cX0_printed 66 = .ok (.iconst 2, 1) := dk_5 (dk_at dksX0_printed_2 20 rfl rfl)
theorem dX0_printed_67 : decode cX0_printed 67 = .ok (.iload_n 3, 1) := dk_29 (dk_at dksX0_printed_2 21 rfl rfl)
theorem dX0_printed_68 : decode cX0_printed 68 = .ok (.ifCond .eq 7, 3) := dk_153 0 7 (dk_at dksX0_printed_3 0 rfl rfl)
theorem dX0_printed_71 : decode cX0_printed 71 = .ok (.iconst 1, 1) := dk_4 (dk_at dksX0_printed_3 3 rfl rfl)
theorem dX0_printed_72 : decode cX0_printed 72 = .ok (.goto 4, 3) := dk_167 0 4 (dk_at dksX0_printed_3 4 rfl rfl)
theorem dX0_printed_75 : decode cX0_printed 75 = .ok (.iconst 0, 1) := dk_3 (dk_at dksX0_printed_3 7 rfl rfl)
theorem dX0_printed_76 : decode cX0_printed 76 = .ok (.iastore, 1) := dk_79 (dk_at dksX0_printed_3 8 rfl rfl)
theorem dX0_printed_77 : decode cX0_printed 77 = .ok (.astore 4, 2) := dk_58 4 (dk_at dksX0_printed_3 9 rfl rfl)
theorem dX0_printed_79 : decode cX0_printed 79 = .ok (.aload 4, 2) := dk_25 4 (dk_at dksX0_printed_3 11 rfl rfl)
theorem dX0_printed_81 : decode cX0_printed 81 = .ok (.aload_n 0, 1) := dk_42 (dk_at dksX0_printed_3 13 rfl rfl)
theorem dX0_printed_82 : decode cX0_printed 82 = .ok (.getfield 12, 3) := dk_180 0 12 (dk_at dksX0_printed_3 14 rfl rfl)
theorem dX0_printed_85 : decode cX0_printed 85 = .ok (.getfield 446, 3) := dk_180 1 190 (dk_at dksX0_printed_3 17 rfl rfl)
theorem dX0_printed_88 : decode cX0_printed 88 = .ok (.aload_n 0, 1) := dk_42 (dk_at dksX0_printed_3 20 rfl rfl)
theorem dX0_printed_89 : decode cX0_printed 89 = .ok (.getfield 12, 3) := dk_180 0 12 (dk_at dksX0_printed_3 21 rfl rfl)
theorem dX0_printed_92 : decode cX0_printed 92 = .ok (.getfield 66, 3) := dk_180 0 66 (dk_at dksX0_printed_4 0 rfl rfl)
theorem dX0_printed_95 : decode cX0_printed 95 = .ok (.bipush 6, 2) := dk_16 6 (dk_at dksX0_printed_4 3 rfl rfl)
theorem dX0_printed_97 : decode cX0_printed 97 = .ok (.iaload, 1) := dk_46 (dk_at dksX0_printed_4 5 rfl rfl)
theorem dX0_printed_98 : decode cX0_printed 98 = .ok (.aaload, 1) := dk_50 (dk_at dksX0_printed_4 6 rfl rfl)
theorem dX0_printed_99 : decode cX0_printed 99 = .ok (.invokestatic 338, 3) := dk_184 1 82 (dk_at dksX0_printed_4 7 rfl rfl)
theorem dX0_printed_102 : decode cX0_printed 102 = .ok (.aload_n 0, 1) := dk_42 (dk_at dksX0_printed_4 10 rfl rfl)
theorem dX0_printed_103 : decode cX0_printed 103 = .ok (.getfield 12, 3) := dk_180 0 12 (dk_at dksX0_printed_4 11 rfl rfl)
theorem dX0_printed_106 : decode cX0_printed 106 = .ok (.getfield 66, 3) := dk_180 0 66 (dk_at dksX0_printed_4 14 rfl rfl)
theorem dX0_printed_109 : decode cX0_printed 109 = .ok (.bipush 6, 2) := dk_16 6 (dk_at dksX0_printed_4 17 rfl rfl)
theorem dX0_printed_111 : decode cX0_printed 111 = .ok (.dup2, 1) := dk_92 (dk_at dksX0_printed_4 19 rfl rfl)
theorem dX0_printed_112 : decode cX0_printed 112 = .ok (.iaload, 1) := dk_46 (dk_at dksX0_printed_4 20 rfl rfl)
theorem dX0_printed_113 : decode cX0_printed 113 = .ok (.iconst 1, 1) := dk_4 (dk_at dksX0_printed_4 21 rfl rfl)
theorem dX0_printed_114 : decode cX0_printed 114 = .ok (.iadd, 1) := dk_96 (dk_at dksX0_printed_4 22 rfl rfl)
theorem dX0_printed_115 : decode cX0_printed 115 = .ok (.iastore, 1) := dk_79 (dk_at dksX0_printed_4 23 rfl rfl)
theorem dX0_printed_116 : decode cX0_printed 116 = .ok (.aload_n 0, 1) := dk_42 (dk_at dksX0_printed_5 0 rfl rfl)
theorem dX0_printed_117 : decode cX0_printed 117 = .ok (.getfield 12, 3) := dk_180 0 12 (dk_at dksX0_printed_5 1 rfl rfl)
theorem dX0_printed_120 : decode cX0_printed 120 = .ok (.getfield 66, 3) := dk_180 0 66 (dk_at dksX0_printed_5 4 rfl rfl)
theorem dX0_printed_123 : decode cX0_printed 123 = .ok (.bipush 6, 2) := dk_16 6 (dk_at dksX0_printed_5 7 rfl rfl)
theorem dX0_printed_125 : decode cX0_printed 125 = .ok (.iaload, 1) := dk_46 (dk_at dksX0_printed_5 9 rfl rfl)
theorem dX0_printed_126 : decode cX0_printed 126 = .ok (.ireturn, 1) := dk_172 (dk_at dksX0_printed_5 10 rfl rfl)
def dkwX0_spells_5 : List UInt8 := [16, 254, 172]
abbrev dktX0_spells_5 : List UInt8 := dkwX0_spells_5 ++ []
def dkwX0_spells_4 : List UInt8 := [160, 0, 6, 21, 4, 172, 132, 3, 1, 132, 4, 1, 167, 255, 172, 28, 2, 160, 0, 7, 29, 167, 0, 5]
abbrev dktX0_spells_4 : List UInt8 := dkwX0_spells_4 ++ dktX0_spells_5
def dkwX0_spells_3 : List UInt8 := [21, 5, 21, 6, 163, 0, 29, 42, 27, 21, 5, 21, 6, 182, 1, 196, 154, 0, 6, 167, 0, 14, 29, 28]
abbrev dktX0_spells_3 : List UInt8 := dkwX0_spells_3 ++ dktX0_spells_4
def dkwX0_spells_2 : List UInt8 := [21, 4, 2, 160, 0, 7, 3, 167, 0, 8, 21, 4, 16, 31, 112, 54, 6, 21, 4, 2, 159, 0, 10]
abbrev dktX0_spells_2 : List UInt8 := dkwX0_spells_2 ++ dktX0_spells_3
def dkwX0_spells_1 : List UInt8 := [17, 3, 193, 162, 0, 82, 21, 4, 2, 160, 0, 7, 4, 167, 0, 8, 21, 4, 16, 31, 108, 54, 5]
abbrev dktX0_spells_1 : List UInt8 := dkwX0_spells_1 ++ dktX0_spells_2
def dkwX0_spells_0 : List UInt8 := [27, 184, 0, 70, 153, 0, 8, 28, 2, 162, 0, 6, 16, 254, 172, 3, 62, 2, 54, 4, 21, 4]
abbrev dktX0_spells_0 : List UInt8 := dkwX0_spells_0 ++ dktX0_spells_1
theorem dksX0_spells_0 : cX0_spells.data.toList.drop 0 = dktX0_spells_0 := by decide +kernel
theorem dksX0_spells_1 : cX0_spells.data.toList.drop 22 = dktX0_spells_1 := dk_seg dksX0_spells_0 22 rfl rfl
theorem dksX0_spells_2 : cX0_spells.data.toList.drop 45 = dktX0_spells_2 := dk_seg dksX0_spells_1 23 rfl rfl
theorem dksX0_spells_3 : cX0_spells.data.toList.drop 68 = dktX0_spells_3 := dk_seg dksX0_spells_2 23 rfl rfl
theorem dksX0_spells_4 : cX0_spells.data.toList.drop 92 = dktX0_spells_4 := dk_seg dksX0_spells_3 24 rfl rfl
theorem dksX0_spells_5 : cX0_spells.data.toList.drop 116 = dktX0_spells_5 := dk_seg dksX0_spells_4 24 rfl rfl
theorem dX0_spells_0 : decode cX0_spells 0 = .ok (.iload_n 1, 1) := dk_27 (dk_at dksX0_spells_0 0 rfl rfl)
theorem dX0_spells_1 : decode cX0_spells 1 = .ok (.invokestatic 70, 3) := dk_184 0 70 (dk_at dksX0_spells_0 1 rfl rfl)
theorem dX0_spells_4 : decode cX0_spells 4 = .ok (.ifCond .eq 8, 3) := dk_153 0 8 (dk_at dksX0_spells_0 4 rfl rfl)
theorem dX0_spells_7 : decode cX0_spells 7 = .ok (.iload_n 2, 1) := dk_28 (dk_at dksX0_spells_0 7 rfl rfl)
theorem dX0_spells_8 : decode cX0_spells 8 = .ok (.iconst (-1), 1) := dk_2 (dk_at dksX0_spells_0 8 rfl rfl)
theorem dX0_spells_9 : decode cX0_spells 9 = .ok (.if_icmp .ge 6, 3) := dk_162 0 6 (dk_at dksX0_spells_0 9 rfl rfl)
theorem dX0_spells_12 : decode cX0_spells 12 = .ok (.bipush (-2), 2) := dk_16 254 (dk_at dksX0_spells_0 12 rfl rfl)
theorem dX0_spells_14 : decode cX0_spells 14 = .ok (.ireturn, 1) := dk_172 (dk_at dksX0_spells_0 14 rfl rfl)
theorem dX0_spells_15 : decode cX0_spells 15 = .ok (.iconst 0, 1) := dk_3 (dk_at dksX0_spells_0 15 rfl rfl)
theorem dX0_spells_16 : decode cX0_spells 16 = .ok (.istore_n 3, 1) := dk_62 (dk_at dksX0_spells_0 16 rfl rfl)
theorem dX0_spells_17 : decode cX0_spells 17 = .ok (.iconst (-1), 1) := dk_2 (dk_at dksX0_spells_0 17 rfl rfl)
theorem dX0_spells_18 : decode cX0_spells 18 = .ok (.istore 4, 2) := dk_54 4 (dk_at dksX0_spells_0 18 rfl rfl)
theorem dX0_spells_20 : decode cX0_spells 20 = .ok (.iload 4, 2) := dk_21 4 (dk_at dksX0_spells_0 20 rfl rfl)
theorem dX0_spells_22 : decode cX0_spells 22 = .ok (.sipush 961, 3) := dk_17 3 193 (dk_at dksX0_spells_1 0 rfl rfl)
theorem dX0_spells_25 : decode cX0_spells 25 = .ok (.if_icmp .ge 82, 3) := dk_162 0 82 (dk_at dksX0_spells_1 3 rfl rfl)
theorem dX0_spells_28 : decode cX0_spells 28 = .ok (.iload 4, 2) := dk_21 4 (dk_at dksX0_spells_1 6 rfl rfl)
theorem dX0_spells_30 : decode cX0_spells 30 = .ok (.iconst (-1), 1) := dk_2 (dk_at dksX0_spells_1 8 rfl rfl)
theorem dX0_spells_31 : decode cX0_spells 31 = .ok (.if_icmp .ne 7, 3) := dk_160 0 7 (dk_at dksX0_spells_1 9 rfl rfl)
theorem dX0_spells_34 : decode cX0_spells 34 = .ok (.iconst 1, 1) := dk_4 (dk_at dksX0_spells_1 12 rfl rfl)
theorem dX0_spells_35 : decode cX0_spells 35 = .ok (.goto 8, 3) := dk_167 0 8 (dk_at dksX0_spells_1 13 rfl rfl)
theorem dX0_spells_38 : decode cX0_spells 38 = .ok (.iload 4, 2) := dk_21 4 (dk_at dksX0_spells_1 16 rfl rfl)
theorem dX0_spells_40 : decode cX0_spells 40 = .ok (.bipush 31, 2) := dk_16 31 (dk_at dksX0_spells_1 18 rfl rfl)
theorem dX0_spells_42 : decode cX0_spells 42 = .ok (.idiv, 1) := dk_108 (dk_at dksX0_spells_1 20 rfl rfl)
theorem dX0_spells_43 : decode cX0_spells 43 = .ok (.istore 5, 2) := dk_54 5 (dk_at dksX0_spells_1 21 rfl rfl)
theorem dX0_spells_45 : decode cX0_spells 45 = .ok (.iload 4, 2) := dk_21 4 (dk_at dksX0_spells_2 0 rfl rfl)
theorem dX0_spells_47 : decode cX0_spells 47 = .ok (.iconst (-1), 1) := dk_2 (dk_at dksX0_spells_2 2 rfl rfl)
theorem dX0_spells_48 : decode cX0_spells 48 = .ok (.if_icmp .ne 7, 3) := dk_160 0 7 (dk_at dksX0_spells_2 3 rfl rfl)
theorem dX0_spells_51 : decode cX0_spells 51 = .ok (.iconst 0, 1) := dk_3 (dk_at dksX0_spells_2 6 rfl rfl)
theorem dX0_spells_52 : decode cX0_spells 52 = .ok (.goto 8, 3) := dk_167 0 8 (dk_at dksX0_spells_2 7 rfl rfl)
theorem dX0_spells_55 : decode cX0_spells 55 = .ok (.iload 4, 2) := dk_21 4 (dk_at dksX0_spells_2 10 rfl rfl)
theorem dX0_spells_57 : decode cX0_spells 57 = .ok (.bipush 31, 2) := dk_16 31 (dk_at dksX0_spells_2 12 rfl rfl)
theorem dX0_spells_59 : decode cX0_spells 59 = .ok (.irem, 1) := dk_112 (dk_at dksX0_spells_2 14 rfl rfl)
theorem dX0_spells_60 : decode cX0_spells 60 = .ok (.istore 6, 2) := dk_54 6 (dk_at dksX0_spells_2 15 rfl rfl)
theorem dX0_spells_62 : decode cX0_spells 62 = .ok (.iload 4, 2) := dk_21 4 (dk_at dksX0_spells_2 17 rfl rfl)
theorem dX0_spells_64 : decode cX0_spells 64 = .ok (.iconst (-1), 1) := dk_2 (dk_at dksX0_spells_2 19 rfl rfl)
theorem dX0_spells_65 : decode cX0_spells 65 = .ok (.if_icmp .eq 10, 3) := dk_159 0 10 (dk_at dksX0_spells_2 20 rfl rfl)
theorem dX0_spells_68 : decode cX0_spells 68 = .ok (.iload 5, 2) := dk_21 5 (dk_at dksX0_spells_3 0 rfl rfl)
theorem dX0_spells_70 : decode cX0_spells 70 = .ok (.iload 6, 2) := dk_21 6 (dk_at dksX0_spells_3 2 rfl rfl)
theorem dX0_spells_72 : decode cX0_spells 72 = .ok (.if_icmp .gt 29, 3) := dk_163 0 29 (dk_at dksX0_spells_3 4 rfl rfl)
theorem dX0_spells_75 : decode cX0_spells 75 = .ok (.aload_n 0, 1) := dk_42 (dk_at dksX0_spells_3 7 rfl rfl)
theorem dX0_spells_76 : decode cX0_spells 76 = .ok (.iload_n 1, 1) := dk_27 (dk_at dksX0_spells_3 8 rfl rfl)
theorem dX0_spells_77 : decode cX0_spells 77 = .ok (.iload 5, 2) := dk_21 5 (dk_at dksX0_spells_3 9 rfl rfl)
theorem dX0_spells_79 : decode cX0_spells 79 = .ok (.iload 6, 2) := dk_21 6 (dk_at dksX0_spells_3 11 rfl rfl)
theorem dX0_spells_81 : decode cX0_spells 81 = .ok (.invokevirtual 452, 3) := dk_182 1 196 (dk_at dksX0_spells_3 13 rfl rfl)
theorem dX0_spells_84 : decode cX0_spells 84 = .ok (.ifCond .ne 6, 3) := dk_154 0 6 (dk_at dksX0_spells_3 16 rfl rfl)
theorem dX0_spells_87 : decode cX0_spells 87 = .ok (.goto 14, 3) := dk_167 0 14 (dk_at dksX0_spells_3 19 rfl rfl)
theorem dX0_spells_90 : decode cX0_spells 90 = .ok (.iload_n 3, 1) := dk_29 (dk_at dksX0_spells_3 22 rfl rfl)
theorem dX0_spells_91 : decode cX0_spells 91 = .ok (.iload_n 2, 1) := dk_28 (dk_at dksX0_spells_3 23 rfl rfl)
theorem dX0_spells_92 : decode cX0_spells 92 = .ok (.if_icmp .ne 6, 3) := dk_160 0 6 (dk_at dksX0_spells_4 0 rfl rfl)
theorem dX0_spells_95 : decode cX0_spells 95 = .ok (.iload 4, 2) := dk_21 4 (dk_at dksX0_spells_4 3 rfl rfl)
theorem dX0_spells_97 : decode cX0_spells 97 = .ok (.ireturn, 1) := dk_172 (dk_at dksX0_spells_4 5 rfl rfl)
theorem dX0_spells_98 : decode cX0_spells 98 = .ok (.iinc 3 1, 3) := dk_132 3 1 (dk_at dksX0_spells_4 6 rfl rfl)
theorem dX0_spells_101 : decode cX0_spells 101 = .ok (.iinc 4 1, 3) := dk_132 4 1 (dk_at dksX0_spells_4 9 rfl rfl)
theorem dX0_spells_104 : decode cX0_spells 104 = .ok (.goto (-84), 3) := dk_167 255 172 (dk_at dksX0_spells_4 12 rfl rfl)
theorem dX0_spells_107 : decode cX0_spells 107 = .ok (.iload_n 2, 1) := dk_28 (dk_at dksX0_spells_4 15 rfl rfl)
theorem dX0_spells_108 : decode cX0_spells 108 = .ok (.iconst (-1), 1) := dk_2 (dk_at dksX0_spells_4 16 rfl rfl)
theorem dX0_spells_109 : decode cX0_spells 109 = .ok (.if_icmp .ne 7, 3) := dk_160 0 7 (dk_at dksX0_spells_4 17 rfl rfl)
theorem dX0_spells_112 : decode cX0_spells 112 = .ok (.iload_n 3, 1) := dk_29 (dk_at dksX0_spells_4 20 rfl rfl)
theorem dX0_spells_113 : decode cX0_spells 113 = .ok (.goto 5, 3) := dk_167 0 5 (dk_at dksX0_spells_4 21 rfl rfl)
theorem dX0_spells_116 : decode cX0_spells 116 = .ok (.bipush (-2), 2) := dk_16 254 (dk_at dksX0_spells_5 0 rfl rfl)
theorem dX0_spells_118 : decode cX0_spells 118 = .ok (.ireturn, 1) := dk_172 (dk_at dksX0_spells_5 2 rfl rfl)
def dkwX0_goes_6 : List UInt8 := [132, 4, 1, 167, 255, 118, 4, 172]
abbrev dktX0_goes_6 : List UInt8 := dkwX0_goes_6 ++ []
def dkwX0_goes_5 : List UInt8 := [126, 54, 8, 21, 8, 154, 0, 19, 21, 7, 153, 0, 12, 21, 5, 27, 184, 0, 77, 154, 0, 5, 3, 172]
abbrev dktX0_goes_5 : List UInt8 := dkwX0_goes_5 ++ dktX0_goes_6
def dkwX0_goes_4 : List UInt8 := [184, 0, 77, 153, 0, 45, 3, 172, 21, 5, 42, 21, 6, 182, 1, 193, 2, 130, 126, 4, 27, 120, 2, 130]
abbrev dktX0_goes_4 : List UInt8 := dkwX0_goes_4 ++ dktX0_goes_5
def dkwX0_goes_3 : List UInt8 := [180, 0, 12, 180, 1, 190, 21, 4, 50, 5, 46, 4, 160, 0, 19, 21, 7, 153, 0, 54, 21, 5, 27]
abbrev dktX0_goes_3 : List UInt8 := dkwX0_goes_3 ++ dktX0_goes_4
def dkwX0_goes_2 : List UInt8 := [180, 0, 12, 180, 1, 190, 21, 4, 50, 4, 46, 54, 6, 21, 6, 28, 29, 184, 0, 62, 54, 7, 42]
abbrev dktX0_goes_2 : List UInt8 := dkwX0_goes_2 ++ dktX0_goes_3
def dkwX0_goes_1 : List UInt8 := [180, 0, 81, 42, 180, 0, 12, 180, 1, 190, 21, 4, 50, 3, 46, 50, 182, 0, 162, 54, 5, 42]
abbrev dktX0_goes_1 : List UInt8 := dkwX0_goes_1 ++ dktX0_goes_2
def dkwX0_goes_0 : List UInt8 := [3, 54, 4, 21, 4, 42, 180, 0, 12, 180, 0, 66, 16, 6, 46, 162, 0, 129, 42, 180, 0, 12]
abbrev dktX0_goes_0 : List UInt8 := dkwX0_goes_0 ++ dktX0_goes_1
theorem dksX0_goes_0 : cX0_goes.data.toList.drop 0 = dktX0_goes_0 := by decide +kernel
theorem dksX0_goes_1 : cX0_goes.data.toList.drop 22 = dktX0_goes_1 := dk_seg dksX0_goes_0 22 rfl rfl
theorem dksX0_goes_2 : cX0_goes.data.toList.drop 44 = dktX0_goes_2 := dk_seg dksX0_goes_1 22 rfl rfl
theorem dksX0_goes_3 : cX0_goes.data.toList.drop 67 = dktX0_goes_3 := dk_seg dksX0_goes_2 23 rfl rfl
theorem dksX0_goes_4 : cX0_goes.data.toList.drop 90 = dktX0_goes_4 := dk_seg dksX0_goes_3 23 rfl rfl
theorem dksX0_goes_5 : cX0_goes.data.toList.drop 114 = dktX0_goes_5 := dk_seg dksX0_goes_4 24 rfl rfl
theorem dksX0_goes_6 : cX0_goes.data.toList.drop 138 = dktX0_goes_6 := dk_seg dksX0_goes_5 24 rfl rfl
theorem dX0_goes_0 : decode cX0_goes 0 = .ok (.iconst 0, 1) := dk_3 (dk_at dksX0_goes_0 0 rfl rfl)
theorem dX0_goes_1 : decode cX0_goes 1 = .ok (.istore 4, 2) := dk_54 4 (dk_at dksX0_goes_0 1 rfl rfl)
theorem dX0_goes_3 : decode cX0_goes 3 = .ok (.iload 4, 2) := dk_21 4 (dk_at dksX0_goes_0 3 rfl rfl)
theorem dX0_goes_5 : decode cX0_goes 5 = .ok (.aload_n 0, 1) := dk_42 (dk_at dksX0_goes_0 5 rfl rfl)
theorem dX0_goes_6 : decode cX0_goes 6 = .ok (.getfield 12, 3) := dk_180 0 12 (dk_at dksX0_goes_0 6 rfl rfl)
theorem dX0_goes_9 : decode cX0_goes 9 = .ok (.getfield 66, 3) := dk_180 0 66 (dk_at dksX0_goes_0 9 rfl rfl)
theorem dX0_goes_12 : decode cX0_goes 12 = .ok (.bipush 6, 2) := dk_16 6 (dk_at dksX0_goes_0 12 rfl rfl)
theorem dX0_goes_14 : decode cX0_goes 14 = .ok (.iaload, 1) := dk_46 (dk_at dksX0_goes_0 14 rfl rfl)
theorem dX0_goes_15 : decode cX0_goes 15 = .ok (.if_icmp .ge 129, 3) := dk_162 0 129 (dk_at dksX0_goes_0 15 rfl rfl)
theorem dX0_goes_18 : decode cX0_goes 18 = .ok (.aload_n 0, 1) := dk_42 (dk_at dksX0_goes_0 18 rfl rfl)
theorem dX0_goes_19 : decode cX0_goes 19 = .ok (.getfield 12, 3) := dk_180 0 12 (dk_at dksX0_goes_0 19 rfl rfl)
theorem dX0_goes_22 : decode cX0_goes 22 = .ok (.getfield 81, 3) := dk_180 0 81 (dk_at dksX0_goes_1 0 rfl rfl)
theorem dX0_goes_25 : decode cX0_goes 25 = .ok (.aload_n 0, 1) := dk_42 (dk_at dksX0_goes_1 3 rfl rfl)
theorem dX0_goes_26 : decode cX0_goes 26 = .ok (.getfield 12, 3) := dk_180 0 12 (dk_at dksX0_goes_1 4 rfl rfl)
theorem dX0_goes_29 : decode cX0_goes 29 = .ok (.getfield 446, 3) := dk_180 1 190 (dk_at dksX0_goes_1 7 rfl rfl)
theorem dX0_goes_32 : decode cX0_goes 32 = .ok (.iload 4, 2) := dk_21 4 (dk_at dksX0_goes_1 10 rfl rfl)
theorem dX0_goes_34 : decode cX0_goes 34 = .ok (.aaload, 1) := dk_50 (dk_at dksX0_goes_1 12 rfl rfl)
theorem dX0_goes_35 : decode cX0_goes 35 = .ok (.iconst 0, 1) := dk_3 (dk_at dksX0_goes_1 13 rfl rfl)
theorem dX0_goes_36 : decode cX0_goes 36 = .ok (.iaload, 1) := dk_46 (dk_at dksX0_goes_1 14 rfl rfl)
theorem dX0_goes_37 : decode cX0_goes 37 = .ok (.aaload, 1) := dk_50 (dk_at dksX0_goes_1 15 rfl rfl)
theorem dX0_goes_38 : decode cX0_goes 38 = .ok (.invokevirtual 162, 3) := dk_182 0 162 (dk_at dksX0_goes_1 16 rfl rfl)
theorem dX0_goes_41 : decode cX0_goes 41 = .ok (.istore 5, 2) := dk_54 5 (dk_at dksX0_goes_1 19 rfl rfl)
theorem dX0_goes_43 : decode cX0_goes 43 = .ok (.aload_n 0, 1) := dk_42 (dk_at dksX0_goes_1 21 rfl rfl)
theorem dX0_goes_44 : decode cX0_goes 44 = .ok (.getfield 12, 3) := dk_180 0 12 (dk_at dksX0_goes_2 0 rfl rfl)
theorem dX0_goes_47 : decode cX0_goes 47 = .ok (.getfield 446, 3) := dk_180 1 190 (dk_at dksX0_goes_2 3 rfl rfl)
theorem dX0_goes_50 : decode cX0_goes 50 = .ok (.iload 4, 2) := dk_21 4 (dk_at dksX0_goes_2 6 rfl rfl)
theorem dX0_goes_52 : decode cX0_goes 52 = .ok (.aaload, 1) := dk_50 (dk_at dksX0_goes_2 8 rfl rfl)
theorem dX0_goes_53 : decode cX0_goes 53 = .ok (.iconst 1, 1) := dk_4 (dk_at dksX0_goes_2 9 rfl rfl)
theorem dX0_goes_54 : decode cX0_goes 54 = .ok (.iaload, 1) := dk_46 (dk_at dksX0_goes_2 10 rfl rfl)
theorem dX0_goes_55 : decode cX0_goes 55 = .ok (.istore 6, 2) := dk_54 6 (dk_at dksX0_goes_2 11 rfl rfl)
theorem dX0_goes_57 : decode cX0_goes 57 = .ok (.iload 6, 2) := dk_21 6 (dk_at dksX0_goes_2 13 rfl rfl)
theorem dX0_goes_59 : decode cX0_goes 59 = .ok (.iload_n 2, 1) := dk_28 (dk_at dksX0_goes_2 15 rfl rfl)
theorem dX0_goes_60 : decode cX0_goes 60 = .ok (.iload_n 3, 1) := dk_29 (dk_at dksX0_goes_2 16 rfl rfl)
theorem dX0_goes_61 : decode cX0_goes 61 = .ok (.invokestatic 62, 3) := dk_184 0 62 (dk_at dksX0_goes_2 17 rfl rfl)
theorem dX0_goes_64 : decode cX0_goes 64 = .ok (.istore 7, 2) := dk_54 7 (dk_at dksX0_goes_2 20 rfl rfl)
theorem dX0_goes_66 : decode cX0_goes 66 = .ok (.aload_n 0, 1) := dk_42 (dk_at dksX0_goes_2 22 rfl rfl)
theorem dX0_goes_67 : decode cX0_goes 67 = .ok (.getfield 12, 3) := dk_180 0 12 (dk_at dksX0_goes_3 0 rfl rfl)
theorem dX0_goes_70 : decode cX0_goes 70 = .ok (.getfield 446, 3) := dk_180 1 190 (dk_at dksX0_goes_3 3 rfl rfl)
theorem dX0_goes_73 : decode cX0_goes 73 = .ok (.iload 4, 2) := dk_21 4 (dk_at dksX0_goes_3 6 rfl rfl)
theorem dX0_goes_75 : decode cX0_goes 75 = .ok (.aaload, 1) := dk_50 (dk_at dksX0_goes_3 8 rfl rfl)
theorem dX0_goes_76 : decode cX0_goes 76 = .ok (.iconst 2, 1) := dk_5 (dk_at dksX0_goes_3 9 rfl rfl)
theorem dX0_goes_77 : decode cX0_goes 77 = .ok (.iaload, 1) := dk_46 (dk_at dksX0_goes_3 10 rfl rfl)
theorem dX0_goes_78 : decode cX0_goes 78 = .ok (.iconst 1, 1) := dk_4 (dk_at dksX0_goes_3 11 rfl rfl)
theorem dX0_goes_79 : decode cX0_goes 79 = .ok (.if_icmp .ne 19, 3) := dk_160 0 19 (dk_at dksX0_goes_3 12 rfl rfl)
theorem dX0_goes_82 : decode cX0_goes 82 = .ok (.iload 7, 2) := dk_21 7 (dk_at dksX0_goes_3 15 rfl rfl)
theorem dX0_goes_84 : decode cX0_goes 84 = .ok (.ifCond .eq 54, 3) := dk_153 0 54 (dk_at dksX0_goes_3 17 rfl rfl)
theorem dX0_goes_87 : decode cX0_goes 87 = .ok (.iload 5, 2) := dk_21 5 (dk_at dksX0_goes_3 20 rfl rfl)
theorem dX0_goes_89 : decode cX0_goes 89 = .ok (.iload_n 1, 1) := dk_27 (dk_at dksX0_goes_3 22 rfl rfl)
theorem dX0_goes_90 : decode cX0_goes 90 = .ok (.invokestatic 77, 3) := dk_184 0 77 (dk_at dksX0_goes_4 0 rfl rfl)
theorem dX0_goes_93 : decode cX0_goes 93 = .ok (.ifCond .eq 45, 3) := dk_153 0 45 (dk_at dksX0_goes_4 3 rfl rfl)
theorem dX0_goes_96 : decode cX0_goes 96 = .ok (.iconst 0, 1) := dk_3 (dk_at dksX0_goes_4 6 rfl rfl)
theorem dX0_goes_97 : decode cX0_goes 97 = .ok (.ireturn, 1) := dk_172 (dk_at dksX0_goes_4 7 rfl rfl)
theorem dX0_goes_98 : decode cX0_goes 98 = .ok (.iload 5, 2) := dk_21 5 (dk_at dksX0_goes_4 8 rfl rfl)
theorem dX0_goes_100 : decode cX0_goes 100 = .ok (.aload_n 0, 1) := dk_42 (dk_at dksX0_goes_4 10 rfl rfl)
theorem dX0_goes_101 : decode cX0_goes 101 = .ok (.iload 6, 2) := dk_21 6 (dk_at dksX0_goes_4 11 rfl rfl)
theorem dX0_goes_103 : decode cX0_goes 103 = .ok (.invokevirtual 449, 3) := dk_182 1 193 (dk_at dksX0_goes_4 13 rfl rfl)
theorem dX0_goes_106 : decode cX0_goes 106 = .ok (.iconst (-1), 1) := dk_2 (dk_at dksX0_goes_4 16 rfl rfl)
theorem dX0_goes_107 : decode cX0_goes 107 = .ok (.ixor, 1) := dk_130 (dk_at dksX0_goes_4 17 rfl rfl)
theorem dX0_goes_108 : decode cX0_goes 108 = .ok (.iand, 1) := dk_126 (dk_at dksX0_goes_4 18 rfl rfl)
theorem dX0_goes_109 : decode cX0_goes 109 = .ok (.iconst 1, 1) := dk_4 (dk_at dksX0_goes_4 19 rfl rfl)
theorem dX0_goes_110 : decode cX0_goes 110 = .ok (.iload_n 1, 1) := dk_27 (dk_at dksX0_goes_4 20 rfl rfl)
theorem dX0_goes_111 : decode cX0_goes 111 = .ok (.ishl, 1) := dk_120 (dk_at dksX0_goes_4 21 rfl rfl)
theorem dX0_goes_112 : decode cX0_goes 112 = .ok (.iconst (-1), 1) := dk_2 (dk_at dksX0_goes_4 22 rfl rfl)
theorem dX0_goes_113 : decode cX0_goes 113 = .ok (.ixor, 1) := dk_130 (dk_at dksX0_goes_4 23 rfl rfl)
theorem dX0_goes_114 : decode cX0_goes 114 = .ok (.iand, 1) := dk_126 (dk_at dksX0_goes_5 0 rfl rfl)
theorem dX0_goes_115 : decode cX0_goes 115 = .ok (.istore 8, 2) := dk_54 8 (dk_at dksX0_goes_5 1 rfl rfl)
theorem dX0_goes_117 : decode cX0_goes 117 = .ok (.iload 8, 2) := dk_21 8 (dk_at dksX0_goes_5 3 rfl rfl)
theorem dX0_goes_119 : decode cX0_goes 119 = .ok (.ifCond .ne 19, 3) := dk_154 0 19 (dk_at dksX0_goes_5 5 rfl rfl)
theorem dX0_goes_122 : decode cX0_goes 122 = .ok (.iload 7, 2) := dk_21 7 (dk_at dksX0_goes_5 8 rfl rfl)
theorem dX0_goes_124 : decode cX0_goes 124 = .ok (.ifCond .eq 12, 3) := dk_153 0 12 (dk_at dksX0_goes_5 10 rfl rfl)
theorem dX0_goes_127 : decode cX0_goes 127 = .ok (.iload 5, 2) := dk_21 5 (dk_at dksX0_goes_5 13 rfl rfl)
theorem dX0_goes_129 : decode cX0_goes 129 = .ok (.iload_n 1, 1) := dk_27 (dk_at dksX0_goes_5 15 rfl rfl)
theorem dX0_goes_130 : decode cX0_goes 130 = .ok (.invokestatic 77, 3) := dk_184 0 77 (dk_at dksX0_goes_5 16 rfl rfl)
theorem dX0_goes_133 : decode cX0_goes 133 = .ok (.ifCond .ne 5, 3) := dk_154 0 5 (dk_at dksX0_goes_5 19 rfl rfl)
theorem dX0_goes_136 : decode cX0_goes 136 = .ok (.iconst 0, 1) := dk_3 (dk_at dksX0_goes_5 22 rfl rfl)
theorem dX0_goes_137 : decode cX0_goes 137 = .ok (.ireturn, 1) := dk_172 (dk_at dksX0_goes_5 23 rfl rfl)
theorem dX0_goes_138 : decode cX0_goes 138 = .ok (.iinc 4 1, 3) := dk_132 4 1 (dk_at dksX0_goes_6 0 rfl rfl)
theorem dX0_goes_141 : decode cX0_goes 141 = .ok (.goto (-138), 3) := dk_167 255 118 (dk_at dksX0_goes_6 3 rfl rfl)
theorem dX0_goes_144 : decode cX0_goes 144 = .ok (.iconst 1, 1) := dk_4 (dk_at dksX0_goes_6 6 rfl rfl)
theorem dX0_goes_145 : decode cX0_goes 145 = .ok (.ireturn, 1) := dk_172 (dk_at dksX0_goes_6 7 rfl rfl)
def dkwX0_thereOn_3 : List UInt8 := [182, 0, 162, 167, 0, 4, 3, 128, 61, 132, 3, 1, 167, 255, 180, 28, 172]
abbrev dktX0_thereOn_3 : List UInt8 := dkwX0_thereOn_3 ++ []
def dkwX0_thereOn_2 : List UInt8 := [160, 0, 28, 42, 180, 0, 12, 180, 0, 81, 42, 180, 0, 12, 180, 1, 190, 29, 50, 3, 46, 50]
abbrev dktX0_thereOn_2 : List UInt8 := dkwX0_thereOn_2 ++ dktX0_thereOn_3
def dkwX0_thereOn_1 : List UInt8 := [180, 1, 190, 29, 50, 4, 46, 27, 160, 0, 43, 42, 180, 0, 12, 180, 1, 190, 29, 50, 5, 46, 4]
abbrev dktX0_thereOn_1 : List UInt8 := dkwX0_thereOn_1 ++ dktX0_thereOn_2
def dkwX0_thereOn_0 : List UInt8 := [3, 61, 3, 62, 29, 42, 180, 0, 12, 180, 0, 66, 16, 6, 46, 162, 0, 68, 28, 42, 180, 0, 12]
abbrev dktX0_thereOn_0 : List UInt8 := dkwX0_thereOn_0 ++ dktX0_thereOn_1
theorem dksX0_thereOn_0 : cX0_thereOn.data.toList.drop 0 = dktX0_thereOn_0 := by decide +kernel
theorem dksX0_thereOn_1 : cX0_thereOn.data.toList.drop 23 = dktX0_thereOn_1 := dk_seg dksX0_thereOn_0 23 rfl rfl
theorem dksX0_thereOn_2 : cX0_thereOn.data.toList.drop 46 = dktX0_thereOn_2 := dk_seg dksX0_thereOn_1 23 rfl rfl
theorem dksX0_thereOn_3 : cX0_thereOn.data.toList.drop 68 = dktX0_thereOn_3 := dk_seg dksX0_thereOn_2 22 rfl rfl
theorem dX0_thereOn_0 : decode cX0_thereOn 0 = .ok (.iconst 0, 1) := dk_3 (dk_at dksX0_thereOn_0 0 rfl rfl)
theorem dX0_thereOn_1 : decode cX0_thereOn 1 = .ok (.istore_n 2, 1) := dk_61 (dk_at dksX0_thereOn_0 1 rfl rfl)
theorem dX0_thereOn_2 : decode cX0_thereOn 2 = .ok (.iconst 0, 1) := dk_3 (dk_at dksX0_thereOn_0 2 rfl rfl)
theorem dX0_thereOn_3 : decode cX0_thereOn 3 = .ok (.istore_n 3, 1) := dk_62 (dk_at dksX0_thereOn_0 3 rfl rfl)
theorem dX0_thereOn_4 : decode cX0_thereOn 4 = .ok (.iload_n 3, 1) := dk_29 (dk_at dksX0_thereOn_0 4 rfl rfl)
theorem dX0_thereOn_5 : decode cX0_thereOn 5 = .ok (.aload_n 0, 1) := dk_42 (dk_at dksX0_thereOn_0 5 rfl rfl)
theorem dX0_thereOn_6 : decode cX0_thereOn 6 = .ok (.getfield 12, 3) := dk_180 0 12 (dk_at dksX0_thereOn_0 6 rfl rfl)
theorem dX0_thereOn_9 : decode cX0_thereOn 9 = .ok (.getfield 66, 3) := dk_180 0 66 (dk_at dksX0_thereOn_0 9 rfl rfl)
theorem dX0_thereOn_12 : decode cX0_thereOn 12 = .ok (.bipush 6, 2) := dk_16 6 (dk_at dksX0_thereOn_0 12 rfl rfl)
theorem dX0_thereOn_14 : decode cX0_thereOn 14 = .ok (.iaload, 1) := dk_46 (dk_at dksX0_thereOn_0 14 rfl rfl)
theorem dX0_thereOn_15 : decode cX0_thereOn 15 = .ok (.if_icmp .ge 68, 3) := dk_162 0 68 (dk_at dksX0_thereOn_0 15 rfl rfl)
theorem dX0_thereOn_18 : decode cX0_thereOn 18 = .ok (.iload_n 2, 1) := dk_28 (dk_at dksX0_thereOn_0 18 rfl rfl)
theorem dX0_thereOn_19 : decode cX0_thereOn 19 = .ok (.aload_n 0, 1) := dk_42 (dk_at dksX0_thereOn_0 19 rfl rfl)
theorem dX0_thereOn_20 : decode cX0_thereOn 20 = .ok (.getfield 12, 3) := dk_180 0 12 (dk_at dksX0_thereOn_0 20 rfl rfl)
theorem dX0_thereOn_23 : decode cX0_thereOn 23 = .ok (.getfield 446, 3) := dk_180 1 190 (dk_at dksX0_thereOn_1 0 rfl rfl)
theorem dX0_thereOn_26 : decode cX0_thereOn 26 = .ok (.iload_n 3, 1) := dk_29 (dk_at dksX0_thereOn_1 3 rfl rfl)
theorem dX0_thereOn_27 : decode cX0_thereOn 27 = .ok (.aaload, 1) := dk_50 (dk_at dksX0_thereOn_1 4 rfl rfl)
theorem dX0_thereOn_28 : decode cX0_thereOn 28 = .ok (.iconst 1, 1) := dk_4 (dk_at dksX0_thereOn_1 5 rfl rfl)
theorem dX0_thereOn_29 : decode cX0_thereOn 29 = .ok (.iaload, 1) := dk_46 (dk_at dksX0_thereOn_1 6 rfl rfl)
theorem dX0_thereOn_30 : decode cX0_thereOn 30 = .ok (.iload_n 1, 1) := dk_27 (dk_at dksX0_thereOn_1 7 rfl rfl)
theorem dX0_thereOn_31 : decode cX0_thereOn 31 = .ok (.if_icmp .ne 43, 3) := dk_160 0 43 (dk_at dksX0_thereOn_1 8 rfl rfl)
theorem dX0_thereOn_34 : decode cX0_thereOn 34 = .ok (.aload_n 0, 1) := dk_42 (dk_at dksX0_thereOn_1 11 rfl rfl)
theorem dX0_thereOn_35 : decode cX0_thereOn 35 = .ok (.getfield 12, 3) := dk_180 0 12 (dk_at dksX0_thereOn_1 12 rfl rfl)
theorem dX0_thereOn_38 : decode cX0_thereOn 38 = .ok (.getfield 446, 3) := dk_180 1 190 (dk_at dksX0_thereOn_1 15 rfl rfl)
theorem dX0_thereOn_41 : decode cX0_thereOn 41 = .ok (.iload_n 3, 1) := dk_29 (dk_at dksX0_thereOn_1 18 rfl rfl)
theorem dX0_thereOn_42 : decode cX0_thereOn 42 = .ok (.aaload, 1) := dk_50 (dk_at dksX0_thereOn_1 19 rfl rfl)
theorem dX0_thereOn_43 : decode cX0_thereOn 43 = .ok (.iconst 2, 1) := dk_5 (dk_at dksX0_thereOn_1 20 rfl rfl)
theorem dX0_thereOn_44 : decode cX0_thereOn 44 = .ok (.iaload, 1) := dk_46 (dk_at dksX0_thereOn_1 21 rfl rfl)
theorem dX0_thereOn_45 : decode cX0_thereOn 45 = .ok (.iconst 1, 1) := dk_4 (dk_at dksX0_thereOn_1 22 rfl rfl)
theorem dX0_thereOn_46 : decode cX0_thereOn 46 = .ok (.if_icmp .ne 28, 3) := dk_160 0 28 (dk_at dksX0_thereOn_2 0 rfl rfl)
theorem dX0_thereOn_49 : decode cX0_thereOn 49 = .ok (.aload_n 0, 1) := dk_42 (dk_at dksX0_thereOn_2 3 rfl rfl)
theorem dX0_thereOn_50 : decode cX0_thereOn 50 = .ok (.getfield 12, 3) := dk_180 0 12 (dk_at dksX0_thereOn_2 4 rfl rfl)
theorem dX0_thereOn_53 : decode cX0_thereOn 53 = .ok (.getfield 81, 3) := dk_180 0 81 (dk_at dksX0_thereOn_2 7 rfl rfl)
theorem dX0_thereOn_56 : decode cX0_thereOn 56 = .ok (.aload_n 0, 1) := dk_42 (dk_at dksX0_thereOn_2 10 rfl rfl)
theorem dX0_thereOn_57 : decode cX0_thereOn 57 = .ok (.getfield 12, 3) := dk_180 0 12 (dk_at dksX0_thereOn_2 11 rfl rfl)
theorem dX0_thereOn_60 : decode cX0_thereOn 60 = .ok (.getfield 446, 3) := dk_180 1 190 (dk_at dksX0_thereOn_2 14 rfl rfl)
theorem dX0_thereOn_63 : decode cX0_thereOn 63 = .ok (.iload_n 3, 1) := dk_29 (dk_at dksX0_thereOn_2 17 rfl rfl)
theorem dX0_thereOn_64 : decode cX0_thereOn 64 = .ok (.aaload, 1) := dk_50 (dk_at dksX0_thereOn_2 18 rfl rfl)
theorem dX0_thereOn_65 : decode cX0_thereOn 65 = .ok (.iconst 0, 1) := dk_3 (dk_at dksX0_thereOn_2 19 rfl rfl)
theorem dX0_thereOn_66 : decode cX0_thereOn 66 = .ok (.iaload, 1) := dk_46 (dk_at dksX0_thereOn_2 20 rfl rfl)
theorem dX0_thereOn_67 : decode cX0_thereOn 67 = .ok (.aaload, 1) := dk_50 (dk_at dksX0_thereOn_2 21 rfl rfl)
theorem dX0_thereOn_68 : decode cX0_thereOn 68 = .ok (.invokevirtual 162, 3) := dk_182 0 162 (dk_at dksX0_thereOn_3 0 rfl rfl)
theorem dX0_thereOn_71 : decode cX0_thereOn 71 = .ok (.goto 4, 3) := dk_167 0 4 (dk_at dksX0_thereOn_3 3 rfl rfl)
theorem dX0_thereOn_74 : decode cX0_thereOn 74 = .ok (.iconst 0, 1) := dk_3 (dk_at dksX0_thereOn_3 6 rfl rfl)
theorem dX0_thereOn_75 : decode cX0_thereOn 75 = .ok (.ior, 1) := dk_128 (dk_at dksX0_thereOn_3 7 rfl rfl)
theorem dX0_thereOn_76 : decode cX0_thereOn 76 = .ok (.istore_n 2, 1) := dk_61 (dk_at dksX0_thereOn_3 8 rfl rfl)
theorem dX0_thereOn_77 : decode cX0_thereOn 77 = .ok (.iinc 3 1, 3) := dk_132 3 1 (dk_at dksX0_thereOn_3 9 rfl rfl)
theorem dX0_thereOn_80 : decode cX0_thereOn 80 = .ok (.goto (-76), 3) := dk_167 255 180 (dk_at dksX0_thereOn_3 12 rfl rfl)
theorem dX0_thereOn_83 : decode cX0_thereOn 83 = .ok (.iload_n 2, 1) := dk_28 (dk_at dksX0_thereOn_3 15 rfl rfl)
theorem dX0_thereOn_84 : decode cX0_thereOn 84 = .ok (.ireturn, 1) := dk_172 (dk_at dksX0_thereOn_3 16 rfl rfl)
def dkwX0_signed_8 : List UInt8 := [167, 0, 5, 16, 254, 172]
abbrev dktX0_signed_8 : List UInt8 := dkwX0_signed_8 ++ []
def dkwX0_signed_7 : List UInt8 := [96, 46, 96, 184, 0, 62, 153, 0, 20, 42, 180, 0, 12, 180, 0, 149, 29, 28, 96, 16, 7, 100, 46]
abbrev dktX0_signed_7 : List UInt8 := dkwX0_signed_7 ++ dktX0_signed_8
def dkwX0_signed_6 : List UInt8 := [182, 1, 199, 172, 42, 29, 182, 1, 207, 172, 28, 16, 10, 16, 9, 42, 180, 0, 12, 180, 0, 149, 29, 5]
abbrev dktX0_signed_6 : List UInt8 := dkwX0_signed_6 ++ dktX0_signed_7
def dkwX0_signed_5 : List UInt8 := [182, 0, 158, 182, 1, 205, 153, 0, 7, 4, 167, 0, 4, 3, 172, 42, 29, 42, 180, 0, 12, 182, 0, 246]
abbrev dktX0_signed_5 : List UInt8 := dkwX0_signed_5 ++ dktX0_signed_6
def dkwX0_signed_4 : List UInt8 := [42, 180, 0, 12, 180, 0, 149, 29, 28, 96, 46, 172, 42, 29, 42, 180, 0, 12, 182, 0, 246, 42]
abbrev dktX0_signed_4 : List UInt8 := dkwX0_signed_4 ++ dktX0_signed_5
def dkwX0_signed_3 : List UInt8 := [170, 0, 0, 0, 0, 0, 0, 96, 0, 0, 0, 0, 0, 0, 0, 5, 0, 0, 0, 40, 0, 0, 0, 40, 0, 0, 0, 40, 0, 0, 0, 52, 0, 0, 0, 77, 0, 0, 0, 90]
abbrev dktX0_signed_3 : List UInt8 := dkwX0_signed_3 ++ dktX0_signed_4
def dkwX0_signed_2 : List UInt8 := [62, 28]
abbrev dktX0_signed_2 : List UInt8 := dkwX0_signed_2 ++ dktX0_signed_3
def dkwX0_signed_1 : List UInt8 := [180, 0, 149, 16, 81, 46, 4, 100, 184, 0, 62, 154, 0, 6, 16, 254, 172, 16, 82, 16, 11, 27, 104, 96]
abbrev dktX0_signed_1 : List UInt8 := dkwX0_signed_1 ++ dktX0_signed_2
def dkwX0_signed_0 : List UInt8 := [27, 2, 160, 0, 14, 42, 180, 0, 12, 180, 0, 149, 16, 81, 46, 172, 27, 3, 42, 180, 0, 12]
abbrev dktX0_signed_0 : List UInt8 := dkwX0_signed_0 ++ dktX0_signed_1
theorem dksX0_signed_0 : cX0_signed.data.toList.drop 0 = dktX0_signed_0 := by decide +kernel
theorem dksX0_signed_1 : cX0_signed.data.toList.drop 22 = dktX0_signed_1 := dk_seg dksX0_signed_0 22 rfl rfl
theorem dksX0_signed_2 : cX0_signed.data.toList.drop 46 = dktX0_signed_2 := dk_seg dksX0_signed_1 24 rfl rfl
theorem dksX0_signed_3 : cX0_signed.data.toList.drop 48 = dktX0_signed_3 := dk_seg dksX0_signed_2 2 rfl rfl
theorem dksX0_signed_4 : cX0_signed.data.toList.drop 88 = dktX0_signed_4 := dk_seg dksX0_signed_3 40 rfl rfl
theorem dksX0_signed_5 : cX0_signed.data.toList.drop 110 = dktX0_signed_5 := dk_seg dksX0_signed_4 22 rfl rfl
theorem dksX0_signed_6 : cX0_signed.data.toList.drop 134 = dktX0_signed_6 := dk_seg dksX0_signed_5 24 rfl rfl
theorem dksX0_signed_7 : cX0_signed.data.toList.drop 158 = dktX0_signed_7 := dk_seg dksX0_signed_6 24 rfl rfl
theorem dksX0_signed_8 : cX0_signed.data.toList.drop 181 = dktX0_signed_8 := dk_seg dksX0_signed_7 23 rfl rfl
theorem dX0_signed_0 : decode cX0_signed 0 = .ok (.iload_n 1, 1) := dk_27 (dk_at dksX0_signed_0 0 rfl rfl)
theorem dX0_signed_1 : decode cX0_signed 1 = .ok (.iconst (-1), 1) := dk_2 (dk_at dksX0_signed_0 1 rfl rfl)
theorem dX0_signed_2 : decode cX0_signed 2 = .ok (.if_icmp .ne 14, 3) := dk_160 0 14 (dk_at dksX0_signed_0 2 rfl rfl)
theorem dX0_signed_5 : decode cX0_signed 5 = .ok (.aload_n 0, 1) := dk_42 (dk_at dksX0_signed_0 5 rfl rfl)
theorem dX0_signed_6 : decode cX0_signed 6 = .ok (.getfield 12, 3) := dk_180 0 12 (dk_at dksX0_signed_0 6 rfl rfl)
theorem dX0_signed_9 : decode cX0_signed 9 = .ok (.getfield 149, 3) := dk_180 0 149 (dk_at dksX0_signed_0 9 rfl rfl)
theorem dX0_signed_12 : decode cX0_signed 12 = .ok (.bipush 81, 2) := dk_16 81 (dk_at dksX0_signed_0 12 rfl rfl)
theorem dX0_signed_14 : decode cX0_signed 14 = .ok (.iaload, 1) := dk_46 (dk_at dksX0_signed_0 14 rfl rfl)
theorem dX0_signed_15 : decode cX0_signed 15 = .ok (.ireturn, 1) := dk_172 (dk_at dksX0_signed_0 15 rfl rfl)
theorem dX0_signed_16 : decode cX0_signed 16 = .ok (.iload_n 1, 1) := dk_27 (dk_at dksX0_signed_0 16 rfl rfl)
theorem dX0_signed_17 : decode cX0_signed 17 = .ok (.iconst 0, 1) := dk_3 (dk_at dksX0_signed_0 17 rfl rfl)
theorem dX0_signed_18 : decode cX0_signed 18 = .ok (.aload_n 0, 1) := dk_42 (dk_at dksX0_signed_0 18 rfl rfl)
theorem dX0_signed_19 : decode cX0_signed 19 = .ok (.getfield 12, 3) := dk_180 0 12 (dk_at dksX0_signed_0 19 rfl rfl)
theorem dX0_signed_22 : decode cX0_signed 22 = .ok (.getfield 149, 3) := dk_180 0 149 (dk_at dksX0_signed_1 0 rfl rfl)
theorem dX0_signed_25 : decode cX0_signed 25 = .ok (.bipush 81, 2) := dk_16 81 (dk_at dksX0_signed_1 3 rfl rfl)
theorem dX0_signed_27 : decode cX0_signed 27 = .ok (.iaload, 1) := dk_46 (dk_at dksX0_signed_1 5 rfl rfl)
theorem dX0_signed_28 : decode cX0_signed 28 = .ok (.iconst 1, 1) := dk_4 (dk_at dksX0_signed_1 6 rfl rfl)
theorem dX0_signed_29 : decode cX0_signed 29 = .ok (.isub, 1) := dk_100 (dk_at dksX0_signed_1 7 rfl rfl)
theorem dX0_signed_30 : decode cX0_signed 30 = .ok (.invokestatic 62, 3) := dk_184 0 62 (dk_at dksX0_signed_1 8 rfl rfl)
theorem dX0_signed_33 : decode cX0_signed 33 = .ok (.ifCond .ne 6, 3) := dk_154 0 6 (dk_at dksX0_signed_1 11 rfl rfl)
theorem dX0_signed_36 : decode cX0_signed 36 = .ok (.bipush (-2), 2) := dk_16 254 (dk_at dksX0_signed_1 14 rfl rfl)
theorem dX0_signed_38 : decode cX0_signed 38 = .ok (.ireturn, 1) := dk_172 (dk_at dksX0_signed_1 16 rfl rfl)
theorem dX0_signed_39 : decode cX0_signed 39 = .ok (.bipush 82, 2) := dk_16 82 (dk_at dksX0_signed_1 17 rfl rfl)
theorem dX0_signed_41 : decode cX0_signed 41 = .ok (.bipush 11, 2) := dk_16 11 (dk_at dksX0_signed_1 19 rfl rfl)
theorem dX0_signed_43 : decode cX0_signed 43 = .ok (.iload_n 1, 1) := dk_27 (dk_at dksX0_signed_1 21 rfl rfl)
theorem dX0_signed_44 : decode cX0_signed 44 = .ok (.imul, 1) := dk_104 (dk_at dksX0_signed_1 22 rfl rfl)
theorem dX0_signed_45 : decode cX0_signed 45 = .ok (.iadd, 1) := dk_96 (dk_at dksX0_signed_1 23 rfl rfl)
theorem dX0_signed_46 : decode cX0_signed 46 = .ok (.istore_n 3, 1) := dk_62 (dk_at dksX0_signed_2 0 rfl rfl)
theorem dX0_signed_47 : decode cX0_signed 47 = .ok (.iload_n 2, 1) := dk_28 (dk_at dksX0_signed_2 1 rfl rfl)
theorem dX0_signed_48 : decode cX0_signed 48 = .ok (.tableswitch 96 0 5 #[40, 40, 40, 52, 77, 90], 40) := by decide +kernel
theorem dX0_signed_88 : decode cX0_signed 88 = .ok (.aload_n 0, 1) := dk_42 (dk_at dksX0_signed_4 0 rfl rfl)
theorem dX0_signed_89 : decode cX0_signed 89 = .ok (.getfield 12, 3) := dk_180 0 12 (dk_at dksX0_signed_4 1 rfl rfl)
theorem dX0_signed_92 : decode cX0_signed 92 = .ok (.getfield 149, 3) := dk_180 0 149 (dk_at dksX0_signed_4 4 rfl rfl)
theorem dX0_signed_95 : decode cX0_signed 95 = .ok (.iload_n 3, 1) := dk_29 (dk_at dksX0_signed_4 7 rfl rfl)
theorem dX0_signed_96 : decode cX0_signed 96 = .ok (.iload_n 2, 1) := dk_28 (dk_at dksX0_signed_4 8 rfl rfl)
theorem dX0_signed_97 : decode cX0_signed 97 = .ok (.iadd, 1) := dk_96 (dk_at dksX0_signed_4 9 rfl rfl)
theorem dX0_signed_98 : decode cX0_signed 98 = .ok (.iaload, 1) := dk_46 (dk_at dksX0_signed_4 10 rfl rfl)
theorem dX0_signed_99 : decode cX0_signed 99 = .ok (.ireturn, 1) := dk_172 (dk_at dksX0_signed_4 11 rfl rfl)
theorem dX0_signed_100 : decode cX0_signed 100 = .ok (.aload_n 0, 1) := dk_42 (dk_at dksX0_signed_4 12 rfl rfl)
theorem dX0_signed_101 : decode cX0_signed 101 = .ok (.iload_n 3, 1) := dk_29 (dk_at dksX0_signed_4 13 rfl rfl)
theorem dX0_signed_102 : decode cX0_signed 102 = .ok (.aload_n 0, 1) := dk_42 (dk_at dksX0_signed_4 14 rfl rfl)
theorem dX0_signed_103 : decode cX0_signed 103 = .ok (.getfield 12, 3) := dk_180 0 12 (dk_at dksX0_signed_4 15 rfl rfl)
theorem dX0_signed_106 : decode cX0_signed 106 = .ok (.invokevirtual 246, 3) := dk_182 0 246 (dk_at dksX0_signed_4 18 rfl rfl)
theorem dX0_signed_109 : decode cX0_signed 109 = .ok (.aload_n 0, 1) := dk_42 (dk_at dksX0_signed_4 21 rfl rfl)
theorem dX0_signed_110 : decode cX0_signed 110 = .ok (.invokevirtual 158, 3) := dk_182 0 158 (dk_at dksX0_signed_5 0 rfl rfl)
theorem dX0_signed_113 : decode cX0_signed 113 = .ok (.invokevirtual 461, 3) := dk_182 1 205 (dk_at dksX0_signed_5 3 rfl rfl)
theorem dX0_signed_116 : decode cX0_signed 116 = .ok (.ifCond .eq 7, 3) := dk_153 0 7 (dk_at dksX0_signed_5 6 rfl rfl)
theorem dX0_signed_119 : decode cX0_signed 119 = .ok (.iconst 1, 1) := dk_4 (dk_at dksX0_signed_5 9 rfl rfl)
theorem dX0_signed_120 : decode cX0_signed 120 = .ok (.goto 4, 3) := dk_167 0 4 (dk_at dksX0_signed_5 10 rfl rfl)
theorem dX0_signed_123 : decode cX0_signed 123 = .ok (.iconst 0, 1) := dk_3 (dk_at dksX0_signed_5 13 rfl rfl)
theorem dX0_signed_124 : decode cX0_signed 124 = .ok (.ireturn, 1) := dk_172 (dk_at dksX0_signed_5 14 rfl rfl)
theorem dX0_signed_125 : decode cX0_signed 125 = .ok (.aload_n 0, 1) := dk_42 (dk_at dksX0_signed_5 15 rfl rfl)
theorem dX0_signed_126 : decode cX0_signed 126 = .ok (.iload_n 3, 1) := dk_29 (dk_at dksX0_signed_5 16 rfl rfl)
theorem dX0_signed_127 : decode cX0_signed 127 = .ok (.aload_n 0, 1) := dk_42 (dk_at dksX0_signed_5 17 rfl rfl)
theorem dX0_signed_128 : decode cX0_signed 128 = .ok (.getfield 12, 3) := dk_180 0 12 (dk_at dksX0_signed_5 18 rfl rfl)
theorem dX0_signed_131 : decode cX0_signed 131 = .ok (.invokevirtual 246, 3) := dk_182 0 246 (dk_at dksX0_signed_5 21 rfl rfl)
theorem dX0_signed_134 : decode cX0_signed 134 = .ok (.invokevirtual 455, 3) := dk_182 1 199 (dk_at dksX0_signed_6 0 rfl rfl)
theorem dX0_signed_137 : decode cX0_signed 137 = .ok (.ireturn, 1) := dk_172 (dk_at dksX0_signed_6 3 rfl rfl)
theorem dX0_signed_138 : decode cX0_signed 138 = .ok (.aload_n 0, 1) := dk_42 (dk_at dksX0_signed_6 4 rfl rfl)
theorem dX0_signed_139 : decode cX0_signed 139 = .ok (.iload_n 3, 1) := dk_29 (dk_at dksX0_signed_6 5 rfl rfl)
theorem dX0_signed_140 : decode cX0_signed 140 = .ok (.invokevirtual 463, 3) := dk_182 1 207 (dk_at dksX0_signed_6 6 rfl rfl)
theorem dX0_signed_143 : decode cX0_signed 143 = .ok (.ireturn, 1) := dk_172 (dk_at dksX0_signed_6 9 rfl rfl)
theorem dX0_signed_144 : decode cX0_signed 144 = .ok (.iload_n 2, 1) := dk_28 (dk_at dksX0_signed_6 10 rfl rfl)
theorem dX0_signed_145 : decode cX0_signed 145 = .ok (.bipush 10, 2) := dk_16 10 (dk_at dksX0_signed_6 11 rfl rfl)
theorem dX0_signed_147 : decode cX0_signed 147 = .ok (.bipush 9, 2) := dk_16 9 (dk_at dksX0_signed_6 13 rfl rfl)
theorem dX0_signed_149 : decode cX0_signed 149 = .ok (.aload_n 0, 1) := dk_42 (dk_at dksX0_signed_6 15 rfl rfl)
theorem dX0_signed_150 : decode cX0_signed 150 = .ok (.getfield 12, 3) := dk_180 0 12 (dk_at dksX0_signed_6 16 rfl rfl)
theorem dX0_signed_153 : decode cX0_signed 153 = .ok (.getfield 149, 3) := dk_180 0 149 (dk_at dksX0_signed_6 19 rfl rfl)
theorem dX0_signed_156 : decode cX0_signed 156 = .ok (.iload_n 3, 1) := dk_29 (dk_at dksX0_signed_6 22 rfl rfl)
theorem dX0_signed_157 : decode cX0_signed 157 = .ok (.iconst 2, 1) := dk_5 (dk_at dksX0_signed_6 23 rfl rfl)
theorem dX0_signed_158 : decode cX0_signed 158 = .ok (.iadd, 1) := dk_96 (dk_at dksX0_signed_7 0 rfl rfl)
theorem dX0_signed_159 : decode cX0_signed 159 = .ok (.iaload, 1) := dk_46 (dk_at dksX0_signed_7 1 rfl rfl)
theorem dX0_signed_160 : decode cX0_signed 160 = .ok (.iadd, 1) := dk_96 (dk_at dksX0_signed_7 2 rfl rfl)
theorem dX0_signed_161 : decode cX0_signed 161 = .ok (.invokestatic 62, 3) := dk_184 0 62 (dk_at dksX0_signed_7 3 rfl rfl)
theorem dX0_signed_164 : decode cX0_signed 164 = .ok (.ifCond .eq 20, 3) := dk_153 0 20 (dk_at dksX0_signed_7 6 rfl rfl)
theorem dX0_signed_167 : decode cX0_signed 167 = .ok (.aload_n 0, 1) := dk_42 (dk_at dksX0_signed_7 9 rfl rfl)
theorem dX0_signed_168 : decode cX0_signed 168 = .ok (.getfield 12, 3) := dk_180 0 12 (dk_at dksX0_signed_7 10 rfl rfl)
theorem dX0_signed_171 : decode cX0_signed 171 = .ok (.getfield 149, 3) := dk_180 0 149 (dk_at dksX0_signed_7 13 rfl rfl)
theorem dX0_signed_174 : decode cX0_signed 174 = .ok (.iload_n 3, 1) := dk_29 (dk_at dksX0_signed_7 16 rfl rfl)
theorem dX0_signed_175 : decode cX0_signed 175 = .ok (.iload_n 2, 1) := dk_28 (dk_at dksX0_signed_7 17 rfl rfl)
theorem dX0_signed_176 : decode cX0_signed 176 = .ok (.iadd, 1) := dk_96 (dk_at dksX0_signed_7 18 rfl rfl)
theorem dX0_signed_177 : decode cX0_signed 177 = .ok (.bipush 7, 2) := dk_16 7 (dk_at dksX0_signed_7 19 rfl rfl)
theorem dX0_signed_179 : decode cX0_signed 179 = .ok (.isub, 1) := dk_100 (dk_at dksX0_signed_7 21 rfl rfl)
theorem dX0_signed_180 : decode cX0_signed 180 = .ok (.iaload, 1) := dk_46 (dk_at dksX0_signed_7 22 rfl rfl)
theorem dX0_signed_181 : decode cX0_signed 181 = .ok (.goto 5, 3) := dk_167 0 5 (dk_at dksX0_signed_8 0 rfl rfl)
theorem dX0_signed_184 : decode cX0_signed 184 = .ok (.bipush (-2), 2) := dk_16 254 (dk_at dksX0_signed_8 3 rfl rfl)
theorem dX0_signed_186 : decode cX0_signed 186 = .ok (.ireturn, 1) := dk_172 (dk_at dksX0_signed_8 5 rfl rfl)
def dkwX0_binds_5 : List UInt8 := [185, 0, 189, 2, 0, 172]
abbrev dktX0_binds_5 : List UInt8 := dkwX0_binds_5 ++ []
def dkwX0_binds_4 : List UInt8 := [180, 0, 12, 180, 0, 149, 27, 4, 96, 46, 100, 79, 42, 182, 0, 168, 180, 1, 202, 42, 180, 0, 30]
abbrev dktX0_binds_4 : List UInt8 := dkwX0_binds_4 ++ dktX0_binds_5
def dkwX0_binds_3 : List UInt8 := [180, 0, 149, 27, 5, 96, 46, 79, 42, 180, 0, 30, 16, 13, 42, 180, 0, 12, 180, 0, 149, 4, 46, 42]
abbrev dktX0_binds_3 : List UInt8 := dkwX0_binds_3 ++ dktX0_binds_4
def dkwX0_binds_2 : List UInt8 := [4, 29, 79, 42, 180, 0, 30, 16, 11, 21, 4, 79, 42, 180, 0, 30, 16, 12, 42, 180, 0, 12]
abbrev dktX0_binds_2 : List UInt8 := dkwX0_binds_2 ++ dktX0_binds_3
def dkwX0_binds_1 : List UInt8 := [167, 0, 4, 3, 172, 42, 180, 0, 30, 3, 42, 180, 0, 12, 180, 0, 149, 4, 46, 79, 42, 180, 0, 30]
abbrev dktX0_binds_1 : List UInt8 := dkwX0_binds_1 ++ dktX0_binds_2
def dkwX0_binds_0 : List UInt8 := [42, 27, 28, 182, 1, 199, 54, 4, 42, 182, 0, 168, 180, 1, 202, 199, 0, 14, 21, 4, 154, 0, 7, 4]
abbrev dktX0_binds_0 : List UInt8 := dkwX0_binds_0 ++ dktX0_binds_1
theorem dksX0_binds_0 : cX0_binds.data.toList.drop 0 = dktX0_binds_0 := by decide +kernel
theorem dksX0_binds_1 : cX0_binds.data.toList.drop 24 = dktX0_binds_1 := dk_seg dksX0_binds_0 24 rfl rfl
theorem dksX0_binds_2 : cX0_binds.data.toList.drop 48 = dktX0_binds_2 := dk_seg dksX0_binds_1 24 rfl rfl
theorem dksX0_binds_3 : cX0_binds.data.toList.drop 70 = dktX0_binds_3 := dk_seg dksX0_binds_2 22 rfl rfl
theorem dksX0_binds_4 : cX0_binds.data.toList.drop 94 = dktX0_binds_4 := dk_seg dksX0_binds_3 24 rfl rfl
theorem dksX0_binds_5 : cX0_binds.data.toList.drop 117 = dktX0_binds_5 := dk_seg dksX0_binds_4 23 rfl rfl
theorem dX0_binds_0 : decode cX0_binds 0 = .ok (.aload_n 0, 1) := dk_42 (dk_at dksX0_binds_0 0 rfl rfl)
theorem dX0_binds_1 : decode cX0_binds 1 = .ok (.iload_n 1, 1) := dk_27 (dk_at dksX0_binds_0 1 rfl rfl)
theorem dX0_binds_2 : decode cX0_binds 2 = .ok (.iload_n 2, 1) := dk_28 (dk_at dksX0_binds_0 2 rfl rfl)
theorem dX0_binds_3 : decode cX0_binds 3 = .ok (.invokevirtual 455, 3) := dk_182 1 199 (dk_at dksX0_binds_0 3 rfl rfl)
theorem dX0_binds_6 : decode cX0_binds 6 = .ok (.istore 4, 2) := dk_54 4 (dk_at dksX0_binds_0 6 rfl rfl)
theorem dX0_binds_8 : decode cX0_binds 8 = .ok (.aload_n 0, 1) := dk_42 (dk_at dksX0_binds_0 8 rfl rfl)
theorem dX0_binds_9 : decode cX0_binds 9 = .ok (.invokevirtual 168, 3) := dk_182 0 168 (dk_at dksX0_binds_0 9 rfl rfl)
theorem dX0_binds_12 : decode cX0_binds 12 = .ok (.getfield 458, 3) := dk_180 1 202 (dk_at dksX0_binds_0 12 rfl rfl)
theorem dX0_binds_15 : decode cX0_binds 15 = .ok (.ifnonnull 14, 3) := dk_199 0 14 (dk_at dksX0_binds_0 15 rfl rfl)
theorem dX0_binds_18 : decode cX0_binds 18 = .ok (.iload 4, 2) := dk_21 4 (dk_at dksX0_binds_0 18 rfl rfl)
theorem dX0_binds_20 : decode cX0_binds 20 = .ok (.ifCond .ne 7, 3) := dk_154 0 7 (dk_at dksX0_binds_0 20 rfl rfl)
theorem dX0_binds_23 : decode cX0_binds 23 = .ok (.iconst 1, 1) := dk_4 (dk_at dksX0_binds_0 23 rfl rfl)
theorem dX0_binds_24 : decode cX0_binds 24 = .ok (.goto 4, 3) := dk_167 0 4 (dk_at dksX0_binds_1 0 rfl rfl)
theorem dX0_binds_27 : decode cX0_binds 27 = .ok (.iconst 0, 1) := dk_3 (dk_at dksX0_binds_1 3 rfl rfl)
theorem dX0_binds_28 : decode cX0_binds 28 = .ok (.ireturn, 1) := dk_172 (dk_at dksX0_binds_1 4 rfl rfl)
theorem dX0_binds_29 : decode cX0_binds 29 = .ok (.aload_n 0, 1) := dk_42 (dk_at dksX0_binds_1 5 rfl rfl)
theorem dX0_binds_30 : decode cX0_binds 30 = .ok (.getfield 30, 3) := dk_180 0 30 (dk_at dksX0_binds_1 6 rfl rfl)
theorem dX0_binds_33 : decode cX0_binds 33 = .ok (.iconst 0, 1) := dk_3 (dk_at dksX0_binds_1 9 rfl rfl)
theorem dX0_binds_34 : decode cX0_binds 34 = .ok (.aload_n 0, 1) := dk_42 (dk_at dksX0_binds_1 10 rfl rfl)
theorem dX0_binds_35 : decode cX0_binds 35 = .ok (.getfield 12, 3) := dk_180 0 12 (dk_at dksX0_binds_1 11 rfl rfl)
theorem dX0_binds_38 : decode cX0_binds 38 = .ok (.getfield 149, 3) := dk_180 0 149 (dk_at dksX0_binds_1 14 rfl rfl)
theorem dX0_binds_41 : decode cX0_binds 41 = .ok (.iconst 1, 1) := dk_4 (dk_at dksX0_binds_1 17 rfl rfl)
theorem dX0_binds_42 : decode cX0_binds 42 = .ok (.iaload, 1) := dk_46 (dk_at dksX0_binds_1 18 rfl rfl)
theorem dX0_binds_43 : decode cX0_binds 43 = .ok (.iastore, 1) := dk_79 (dk_at dksX0_binds_1 19 rfl rfl)
theorem dX0_binds_44 : decode cX0_binds 44 = .ok (.aload_n 0, 1) := dk_42 (dk_at dksX0_binds_1 20 rfl rfl)
theorem dX0_binds_45 : decode cX0_binds 45 = .ok (.getfield 30, 3) := dk_180 0 30 (dk_at dksX0_binds_1 21 rfl rfl)
theorem dX0_binds_48 : decode cX0_binds 48 = .ok (.iconst 1, 1) := dk_4 (dk_at dksX0_binds_2 0 rfl rfl)
theorem dX0_binds_49 : decode cX0_binds 49 = .ok (.iload_n 3, 1) := dk_29 (dk_at dksX0_binds_2 1 rfl rfl)
theorem dX0_binds_50 : decode cX0_binds 50 = .ok (.iastore, 1) := dk_79 (dk_at dksX0_binds_2 2 rfl rfl)
theorem dX0_binds_51 : decode cX0_binds 51 = .ok (.aload_n 0, 1) := dk_42 (dk_at dksX0_binds_2 3 rfl rfl)
theorem dX0_binds_52 : decode cX0_binds 52 = .ok (.getfield 30, 3) := dk_180 0 30 (dk_at dksX0_binds_2 4 rfl rfl)
theorem dX0_binds_55 : decode cX0_binds 55 = .ok (.bipush 11, 2) := dk_16 11 (dk_at dksX0_binds_2 7 rfl rfl)
theorem dX0_binds_57 : decode cX0_binds 57 = .ok (.iload 4, 2) := dk_21 4 (dk_at dksX0_binds_2 9 rfl rfl)
theorem dX0_binds_59 : decode cX0_binds 59 = .ok (.iastore, 1) := dk_79 (dk_at dksX0_binds_2 11 rfl rfl)
theorem dX0_binds_60 : decode cX0_binds 60 = .ok (.aload_n 0, 1) := dk_42 (dk_at dksX0_binds_2 12 rfl rfl)
theorem dX0_binds_61 : decode cX0_binds 61 = .ok (.getfield 30, 3) := dk_180 0 30 (dk_at dksX0_binds_2 13 rfl rfl)
theorem dX0_binds_64 : decode cX0_binds 64 = .ok (.bipush 12, 2) := dk_16 12 (dk_at dksX0_binds_2 16 rfl rfl)
theorem dX0_binds_66 : decode cX0_binds 66 = .ok (.aload_n 0, 1) := dk_42 (dk_at dksX0_binds_2 18 rfl rfl)
theorem dX0_binds_67 : decode cX0_binds 67 = .ok (.getfield 12, 3) := dk_180 0 12 (dk_at dksX0_binds_2 19 rfl rfl)
theorem dX0_binds_70 : decode cX0_binds 70 = .ok (.getfield 149, 3) := dk_180 0 149 (dk_at dksX0_binds_3 0 rfl rfl)
theorem dX0_binds_73 : decode cX0_binds 73 = .ok (.iload_n 1, 1) := dk_27 (dk_at dksX0_binds_3 3 rfl rfl)
theorem dX0_binds_74 : decode cX0_binds 74 = .ok (.iconst 2, 1) := dk_5 (dk_at dksX0_binds_3 4 rfl rfl)
theorem dX0_binds_75 : decode cX0_binds 75 = .ok (.iadd, 1) := dk_96 (dk_at dksX0_binds_3 5 rfl rfl)
theorem dX0_binds_76 : decode cX0_binds 76 = .ok (.iaload, 1) := dk_46 (dk_at dksX0_binds_3 6 rfl rfl)
theorem dX0_binds_77 : decode cX0_binds 77 = .ok (.iastore, 1) := dk_79 (dk_at dksX0_binds_3 7 rfl rfl)
theorem dX0_binds_78 : decode cX0_binds 78 = .ok (.aload_n 0, 1) := dk_42 (dk_at dksX0_binds_3 8 rfl rfl)
theorem dX0_binds_79 : decode cX0_binds 79 = .ok (.getfield 30, 3) := dk_180 0 30 (dk_at dksX0_binds_3 9 rfl rfl)
theorem dX0_binds_82 : decode cX0_binds 82 = .ok (.bipush 13, 2) := dk_16 13 (dk_at dksX0_binds_3 12 rfl rfl)
theorem dX0_binds_84 : decode cX0_binds 84 = .ok (.aload_n 0, 1) := dk_42 (dk_at dksX0_binds_3 14 rfl rfl)
theorem dX0_binds_85 : decode cX0_binds 85 = .ok (.getfield 12, 3) := dk_180 0 12 (dk_at dksX0_binds_3 15 rfl rfl)
theorem dX0_binds_88 : decode cX0_binds 88 = .ok (.getfield 149, 3) := dk_180 0 149 (dk_at dksX0_binds_3 18 rfl rfl)
theorem dX0_binds_91 : decode cX0_binds 91 = .ok (.iconst 1, 1) := dk_4 (dk_at dksX0_binds_3 21 rfl rfl)
theorem dX0_binds_92 : decode cX0_binds 92 = .ok (.iaload, 1) := dk_46 (dk_at dksX0_binds_3 22 rfl rfl)
theorem dX0_binds_93 : decode cX0_binds 93 = .ok (.aload_n 0, 1) := dk_42 (dk_at dksX0_binds_3 23 rfl rfl)
theorem dX0_binds_94 : decode cX0_binds 94 = .ok (.getfield 12, 3) := dk_180 0 12 (dk_at dksX0_binds_4 0 rfl rfl)
theorem dX0_binds_97 : decode cX0_binds 97 = .ok (.getfield 149, 3) := dk_180 0 149 (dk_at dksX0_binds_4 3 rfl rfl)
theorem dX0_binds_100 : decode cX0_binds 100 = .ok (.iload_n 1, 1) := dk_27 (dk_at dksX0_binds_4 6 rfl rfl)
theorem dX0_binds_101 : decode cX0_binds 101 = .ok (.iconst 1, 1) := dk_4 (dk_at dksX0_binds_4 7 rfl rfl)
theorem dX0_binds_102 : decode cX0_binds 102 = .ok (.iadd, 1) := dk_96 (dk_at dksX0_binds_4 8 rfl rfl)
theorem dX0_binds_103 : decode cX0_binds 103 = .ok (.iaload, 1) := dk_46 (dk_at dksX0_binds_4 9 rfl rfl)
theorem dX0_binds_104 : decode cX0_binds 104 = .ok (.isub, 1) := dk_100 (dk_at dksX0_binds_4 10 rfl rfl)
theorem dX0_binds_105 : decode cX0_binds 105 = .ok (.iastore, 1) := dk_79 (dk_at dksX0_binds_4 11 rfl rfl)
theorem dX0_binds_106 : decode cX0_binds 106 = .ok (.aload_n 0, 1) := dk_42 (dk_at dksX0_binds_4 12 rfl rfl)
theorem dX0_binds_107 : decode cX0_binds 107 = .ok (.invokevirtual 168, 3) := dk_182 0 168 (dk_at dksX0_binds_4 13 rfl rfl)
theorem dX0_binds_110 : decode cX0_binds 110 = .ok (.getfield 458, 3) := dk_180 1 202 (dk_at dksX0_binds_4 16 rfl rfl)
theorem dX0_binds_113 : decode cX0_binds 113 = .ok (.aload_n 0, 1) := dk_42 (dk_at dksX0_binds_4 19 rfl rfl)
theorem dX0_binds_114 : decode cX0_binds 114 = .ok (.getfield 30, 3) := dk_180 0 30 (dk_at dksX0_binds_4 20 rfl rfl)
theorem dX0_binds_117 : decode cX0_binds 117 = .ok (.invokeinterface 189 2, 5) := by decide +kernel
theorem dX0_binds_122 : decode cX0_binds 122 = .ok (.ireturn, 1) := dk_172 (dk_at dksX0_binds_5 5 rfl rfl)
def dkwX0_brokenBy_2 : List UInt8 := [4, 96, 62, 132, 4, 1, 167, 255, 207, 29, 172]
abbrev dktX0_brokenBy_2 : List UInt8 := dkwX0_brokenBy_2 ++ []
def dkwX0_brokenBy_1 : List UInt8 := [180, 0, 12, 180, 0, 149, 27, 6, 96, 21, 4, 96, 46, 28, 182, 1, 89, 153, 0, 7, 3, 167, 0, 4]
abbrev dktX0_brokenBy_1 : List UInt8 := dkwX0_brokenBy_1 ++ dktX0_brokenBy_2
def dkwX0_brokenBy_0 : List UInt8 := [3, 62, 3, 54, 4, 21, 4, 42, 180, 0, 12, 180, 0, 149, 27, 5, 96, 46, 162, 0, 39, 29, 42, 42]
abbrev dktX0_brokenBy_0 : List UInt8 := dkwX0_brokenBy_0 ++ dktX0_brokenBy_1
theorem dksX0_brokenBy_0 : cX0_brokenBy.data.toList.drop 0 = dktX0_brokenBy_0 := by decide +kernel
theorem dksX0_brokenBy_1 : cX0_brokenBy.data.toList.drop 24 = dktX0_brokenBy_1 := dk_seg dksX0_brokenBy_0 24 rfl rfl
theorem dksX0_brokenBy_2 : cX0_brokenBy.data.toList.drop 48 = dktX0_brokenBy_2 := dk_seg dksX0_brokenBy_1 24 rfl rfl
theorem dX0_brokenBy_0 : decode cX0_brokenBy 0 = .ok (.iconst 0, 1) := dk_3 (dk_at dksX0_brokenBy_0 0 rfl rfl)
theorem dX0_brokenBy_1 : decode cX0_brokenBy 1 = .ok (.istore_n 3, 1) := dk_62 (dk_at dksX0_brokenBy_0 1 rfl rfl)
theorem dX0_brokenBy_2 : decode cX0_brokenBy 2 = .ok (.iconst 0, 1) := dk_3 (dk_at dksX0_brokenBy_0 2 rfl rfl)
theorem dX0_brokenBy_3 : decode cX0_brokenBy 3 = .ok (.istore 4, 2) := dk_54 4 (dk_at dksX0_brokenBy_0 3 rfl rfl)
theorem dX0_brokenBy_5 : decode cX0_brokenBy 5 = .ok (.iload 4, 2) := dk_21 4 (dk_at dksX0_brokenBy_0 5 rfl rfl)
theorem dX0_brokenBy_7 : decode cX0_brokenBy 7 = .ok (.aload_n 0, 1) := dk_42 (dk_at dksX0_brokenBy_0 7 rfl rfl)
theorem dX0_brokenBy_8 : decode cX0_brokenBy 8 = .ok (.getfield 12, 3) := dk_180 0 12 (dk_at dksX0_brokenBy_0 8 rfl rfl)
theorem dX0_brokenBy_11 : decode cX0_brokenBy 11 = .ok (.getfield 149, 3) := dk_180 0 149 (dk_at dksX0_brokenBy_0 11 rfl rfl)
theorem dX0_brokenBy_14 : decode cX0_brokenBy 14 = .ok (.iload_n 1, 1) := dk_27 (dk_at dksX0_brokenBy_0 14 rfl rfl)
theorem dX0_brokenBy_15 : decode cX0_brokenBy 15 = .ok (.iconst 2, 1) := dk_5 (dk_at dksX0_brokenBy_0 15 rfl rfl)
theorem dX0_brokenBy_16 : decode cX0_brokenBy 16 = .ok (.iadd, 1) := dk_96 (dk_at dksX0_brokenBy_0 16 rfl rfl)
theorem dX0_brokenBy_17 : decode cX0_brokenBy 17 = .ok (.iaload, 1) := dk_46 (dk_at dksX0_brokenBy_0 17 rfl rfl)
theorem dX0_brokenBy_18 : decode cX0_brokenBy 18 = .ok (.if_icmp .ge 39, 3) := dk_162 0 39 (dk_at dksX0_brokenBy_0 18 rfl rfl)
theorem dX0_brokenBy_21 : decode cX0_brokenBy 21 = .ok (.iload_n 3, 1) := dk_29 (dk_at dksX0_brokenBy_0 21 rfl rfl)
theorem dX0_brokenBy_22 : decode cX0_brokenBy 22 = .ok (.aload_n 0, 1) := dk_42 (dk_at dksX0_brokenBy_0 22 rfl rfl)
theorem dX0_brokenBy_23 : decode cX0_brokenBy 23 = .ok (.aload_n 0, 1) := dk_42 (dk_at dksX0_brokenBy_0 23 rfl rfl)
theorem dX0_brokenBy_24 : decode cX0_brokenBy 24 = .ok (.getfield 12, 3) := dk_180 0 12 (dk_at dksX0_brokenBy_1 0 rfl rfl)
theorem dX0_brokenBy_27 : decode cX0_brokenBy 27 = .ok (.getfield 149, 3) := dk_180 0 149 (dk_at dksX0_brokenBy_1 3 rfl rfl)
theorem dX0_brokenBy_30 : decode cX0_brokenBy 30 = .ok (.iload_n 1, 1) := dk_27 (dk_at dksX0_brokenBy_1 6 rfl rfl)
theorem dX0_brokenBy_31 : decode cX0_brokenBy 31 = .ok (.iconst 3, 1) := dk_6 (dk_at dksX0_brokenBy_1 7 rfl rfl)
theorem dX0_brokenBy_32 : decode cX0_brokenBy 32 = .ok (.iadd, 1) := dk_96 (dk_at dksX0_brokenBy_1 8 rfl rfl)
theorem dX0_brokenBy_33 : decode cX0_brokenBy 33 = .ok (.iload 4, 2) := dk_21 4 (dk_at dksX0_brokenBy_1 9 rfl rfl)
theorem dX0_brokenBy_35 : decode cX0_brokenBy 35 = .ok (.iadd, 1) := dk_96 (dk_at dksX0_brokenBy_1 11 rfl rfl)
theorem dX0_brokenBy_36 : decode cX0_brokenBy 36 = .ok (.iaload, 1) := dk_46 (dk_at dksX0_brokenBy_1 12 rfl rfl)
theorem dX0_brokenBy_37 : decode cX0_brokenBy 37 = .ok (.iload_n 2, 1) := dk_28 (dk_at dksX0_brokenBy_1 13 rfl rfl)
theorem dX0_brokenBy_38 : decode cX0_brokenBy 38 = .ok (.invokevirtual 345, 3) := dk_182 1 89 (dk_at dksX0_brokenBy_1 14 rfl rfl)
theorem dX0_brokenBy_41 : decode cX0_brokenBy 41 = .ok (.ifCond .eq 7, 3) := dk_153 0 7 (dk_at dksX0_brokenBy_1 17 rfl rfl)
theorem dX0_brokenBy_44 : decode cX0_brokenBy 44 = .ok (.iconst 0, 1) := dk_3 (dk_at dksX0_brokenBy_1 20 rfl rfl)
theorem dX0_brokenBy_45 : decode cX0_brokenBy 45 = .ok (.goto 4, 3) := dk_167 0 4 (dk_at dksX0_brokenBy_1 21 rfl rfl)
theorem dX0_brokenBy_48 : decode cX0_brokenBy 48 = .ok (.iconst 1, 1) := dk_4 (dk_at dksX0_brokenBy_2 0 rfl rfl)
theorem dX0_brokenBy_49 : decode cX0_brokenBy 49 = .ok (.iadd, 1) := dk_96 (dk_at dksX0_brokenBy_2 1 rfl rfl)
theorem dX0_brokenBy_50 : decode cX0_brokenBy 50 = .ok (.istore_n 3, 1) := dk_62 (dk_at dksX0_brokenBy_2 2 rfl rfl)
theorem dX0_brokenBy_51 : decode cX0_brokenBy 51 = .ok (.iinc 4 1, 3) := dk_132 4 1 (dk_at dksX0_brokenBy_2 3 rfl rfl)
theorem dX0_brokenBy_54 : decode cX0_brokenBy 54 = .ok (.goto (-49), 3) := dk_167 255 207 (dk_at dksX0_brokenBy_2 6 rfl rfl)
theorem dX0_brokenBy_57 : decode cX0_brokenBy 57 = .ok (.iload_n 3, 1) := dk_29 (dk_at dksX0_brokenBy_2 9 rfl rfl)
theorem dX0_brokenBy_58 : decode cX0_brokenBy 58 = .ok (.ireturn, 1) := dk_172 (dk_at dksX0_brokenBy_2 10 rfl rfl)
def dkwX0_loopholeOf_3 : List UInt8 := [42, 182, 0, 158, 4, 96, 182, 1, 205, 154, 0, 5, 29, 172, 132, 3, 1, 167, 255, 192, 2, 172]
abbrev dktX0_loopholeOf_3 : List UInt8 := dkwX0_loopholeOf_3 ++ []
def dkwX0_loopholeOf_2 : List UInt8 := [42, 180, 0, 12, 180, 0, 149, 16, 55, 29, 96, 46, 2, 160, 0, 9, 4, 29, 120, 167, 0, 4, 3, 128]
abbrev dktX0_loopholeOf_2 : List UInt8 := dkwX0_loopholeOf_2 ++ dktX0_loopholeOf_3
def dkwX0_loopholeOf_1 : List UInt8 := [62, 29, 16, 26, 162, 0, 64, 42, 180, 0, 12, 29, 182, 0, 165, 153, 0, 6, 167, 0, 44, 42, 27, 28]
abbrev dktX0_loopholeOf_1 : List UInt8 := dkwX0_loopholeOf_1 ++ dktX0_loopholeOf_2
def dkwX0_loopholeOf_0 : List UInt8 := [42, 180, 0, 12, 182, 0, 246, 61, 42, 27, 28, 42, 182, 0, 158, 182, 1, 205, 154, 0, 5, 2, 172, 3]
abbrev dktX0_loopholeOf_0 : List UInt8 := dkwX0_loopholeOf_0 ++ dktX0_loopholeOf_1
theorem dksX0_loopholeOf_0 : cX0_loopholeOf.data.toList.drop 0 = dktX0_loopholeOf_0 := by decide +kernel
theorem dksX0_loopholeOf_1 : cX0_loopholeOf.data.toList.drop 24 = dktX0_loopholeOf_1 := dk_seg dksX0_loopholeOf_0 24 rfl rfl
theorem dksX0_loopholeOf_2 : cX0_loopholeOf.data.toList.drop 48 = dktX0_loopholeOf_2 := dk_seg dksX0_loopholeOf_1 24 rfl rfl
theorem dksX0_loopholeOf_3 : cX0_loopholeOf.data.toList.drop 72 = dktX0_loopholeOf_3 := dk_seg dksX0_loopholeOf_2 24 rfl rfl
theorem dX0_loopholeOf_0 : decode cX0_loopholeOf 0 = .ok (.aload_n 0, 1) := dk_42 (dk_at dksX0_loopholeOf_0 0 rfl rfl)
theorem dX0_loopholeOf_1 : decode cX0_loopholeOf 1 = .ok (.getfield 12, 3) := dk_180 0 12 (dk_at dksX0_loopholeOf_0 1 rfl rfl)
theorem dX0_loopholeOf_4 : decode cX0_loopholeOf 4 = .ok (.invokevirtual 246, 3) := dk_182 0 246 (dk_at dksX0_loopholeOf_0 4 rfl rfl)
theorem dX0_loopholeOf_7 : decode cX0_loopholeOf 7 = .ok (.istore_n 2, 1) := dk_61 (dk_at dksX0_loopholeOf_0 7 rfl rfl)
theorem dX0_loopholeOf_8 : decode cX0_loopholeOf 8 = .ok (.aload_n 0, 1) := dk_42 (dk_at dksX0_loopholeOf_0 8 rfl rfl)
theorem dX0_loopholeOf_9 : decode cX0_loopholeOf 9 = .ok (.iload_n 1, 1) := dk_27 (dk_at dksX0_loopholeOf_0 9 rfl rfl)
theorem dX0_loopholeOf_10 : decode cX0_loopholeOf 10 = .ok (.iload_n 2, 1) := dk_28 (dk_at dksX0_loopholeOf_0 10 rfl rfl)
theorem dX0_loopholeOf_11 : decode cX0_loopholeOf 11 = .ok (.aload_n 0, 1) := dk_42 (dk_at dksX0_loopholeOf_0 11 rfl rfl)
theorem dX0_loopholeOf_12 : decode cX0_loopholeOf 12 = .ok (.invokevirtual 158, 3) := dk_182 0 158 (dk_at dksX0_loopholeOf_0 12 rfl rfl)
theorem dX0_loopholeOf_15 : decode cX0_loopholeOf 15 = .ok (.invokevirtual 461, 3) := dk_182 1 205 (dk_at dksX0_loopholeOf_0 15 rfl rfl)
theorem dX0_loopholeOf_18 : decode cX0_loopholeOf 18 = .ok (.ifCond .ne 5, 3) := dk_154 0 5 (dk_at dksX0_loopholeOf_0 18 rfl rfl)
theorem dX0_loopholeOf_21 : decode cX0_loopholeOf 21 = .ok (.iconst (-1), 1) := dk_2 (dk_at dksX0_loopholeOf_0 21 rfl rfl)
theorem dX0_loopholeOf_22 : decode cX0_loopholeOf 22 = .ok (.ireturn, 1) := dk_172 (dk_at dksX0_loopholeOf_0 22 rfl rfl)
theorem dX0_loopholeOf_23 : decode cX0_loopholeOf 23 = .ok (.iconst 0, 1) := dk_3 (dk_at dksX0_loopholeOf_0 23 rfl rfl)
theorem dX0_loopholeOf_24 : decode cX0_loopholeOf 24 = .ok (.istore_n 3, 1) := dk_62 (dk_at dksX0_loopholeOf_1 0 rfl rfl)
theorem dX0_loopholeOf_25 : decode cX0_loopholeOf 25 = .ok (.iload_n 3, 1) := dk_29 (dk_at dksX0_loopholeOf_1 1 rfl rfl)
theorem dX0_loopholeOf_26 : decode cX0_loopholeOf 26 = .ok (.bipush 26, 2) := dk_16 26 (dk_at dksX0_loopholeOf_1 2 rfl rfl)
theorem dX0_loopholeOf_28 : decode cX0_loopholeOf 28 = .ok (.if_icmp .ge 64, 3) := dk_162 0 64 (dk_at dksX0_loopholeOf_1 4 rfl rfl)
theorem dX0_loopholeOf_31 : decode cX0_loopholeOf 31 = .ok (.aload_n 0, 1) := dk_42 (dk_at dksX0_loopholeOf_1 7 rfl rfl)
theorem dX0_loopholeOf_32 : decode cX0_loopholeOf 32 = .ok (.getfield 12, 3) := dk_180 0 12 (dk_at dksX0_loopholeOf_1 8 rfl rfl)
theorem dX0_loopholeOf_35 : decode cX0_loopholeOf 35 = .ok (.iload_n 3, 1) := dk_29 (dk_at dksX0_loopholeOf_1 11 rfl rfl)
theorem dX0_loopholeOf_36 : decode cX0_loopholeOf 36 = .ok (.invokevirtual 165, 3) := dk_182 0 165 (dk_at dksX0_loopholeOf_1 12 rfl rfl)
theorem dX0_loopholeOf_39 : decode cX0_loopholeOf 39 = .ok (.ifCond .eq 6, 3) := dk_153 0 6 (dk_at dksX0_loopholeOf_1 15 rfl rfl)
theorem dX0_loopholeOf_42 : decode cX0_loopholeOf 42 = .ok (.goto 44, 3) := dk_167 0 44 (dk_at dksX0_loopholeOf_1 18 rfl rfl)
theorem dX0_loopholeOf_45 : decode cX0_loopholeOf 45 = .ok (.aload_n 0, 1) := dk_42 (dk_at dksX0_loopholeOf_1 21 rfl rfl)
theorem dX0_loopholeOf_46 : decode cX0_loopholeOf 46 = .ok (.iload_n 1, 1) := dk_27 (dk_at dksX0_loopholeOf_1 22 rfl rfl)
theorem dX0_loopholeOf_47 : decode cX0_loopholeOf 47 = .ok (.iload_n 2, 1) := dk_28 (dk_at dksX0_loopholeOf_1 23 rfl rfl)
theorem dX0_loopholeOf_48 : decode cX0_loopholeOf 48 = .ok (.aload_n 0, 1) := dk_42 (dk_at dksX0_loopholeOf_2 0 rfl rfl)
theorem dX0_loopholeOf_49 : decode cX0_loopholeOf 49 = .ok (.getfield 12, 3) := dk_180 0 12 (dk_at dksX0_loopholeOf_2 1 rfl rfl)
theorem dX0_loopholeOf_52 : decode cX0_loopholeOf 52 = .ok (.getfield 149, 3) := dk_180 0 149 (dk_at dksX0_loopholeOf_2 4 rfl rfl)
theorem dX0_loopholeOf_55 : decode cX0_loopholeOf 55 = .ok (.bipush 55, 2) := dk_16 55 (dk_at dksX0_loopholeOf_2 7 rfl rfl)
theorem dX0_loopholeOf_57 : decode cX0_loopholeOf 57 = .ok (.iload_n 3, 1) := dk_29 (dk_at dksX0_loopholeOf_2 9 rfl rfl)
theorem dX0_loopholeOf_58 : decode cX0_loopholeOf 58 = .ok (.iadd, 1) := dk_96 (dk_at dksX0_loopholeOf_2 10 rfl rfl)
theorem dX0_loopholeOf_59 : decode cX0_loopholeOf 59 = .ok (.iaload, 1) := dk_46 (dk_at dksX0_loopholeOf_2 11 rfl rfl)
theorem dX0_loopholeOf_60 : decode cX0_loopholeOf 60 = .ok (.iconst (-1), 1) := dk_2 (dk_at dksX0_loopholeOf_2 12 rfl rfl)
theorem dX0_loopholeOf_61 : decode cX0_loopholeOf 61 = .ok (.if_icmp .ne 9, 3) := dk_160 0 9 (dk_at dksX0_loopholeOf_2 13 rfl rfl)
theorem dX0_loopholeOf_64 : decode cX0_loopholeOf 64 = .ok (.iconst 1, 1) := dk_4 (dk_at dksX0_loopholeOf_2 16 rfl rfl)
theorem dX0_loopholeOf_65 : decode cX0_loopholeOf 65 = .ok (.iload_n 3, 1) := dk_29 (dk_at dksX0_loopholeOf_2 17 rfl rfl)
theorem dX0_loopholeOf_66 : decode cX0_loopholeOf 66 = .ok (.ishl, 1) := dk_120 (dk_at dksX0_loopholeOf_2 18 rfl rfl)
theorem dX0_loopholeOf_67 : decode cX0_loopholeOf 67 = .ok (.goto 4, 3) := dk_167 0 4 (dk_at dksX0_loopholeOf_2 19 rfl rfl)
theorem dX0_loopholeOf_70 : decode cX0_loopholeOf 70 = .ok (.iconst 0, 1) := dk_3 (dk_at dksX0_loopholeOf_2 22 rfl rfl)
theorem dX0_loopholeOf_71 : decode cX0_loopholeOf 71 = .ok (.ior, 1) := dk_128 (dk_at dksX0_loopholeOf_2 23 rfl rfl)
theorem dX0_loopholeOf_72 : decode cX0_loopholeOf 72 = .ok (.aload_n 0, 1) := dk_42 (dk_at dksX0_loopholeOf_3 0 rfl rfl)
theorem dX0_loopholeOf_73 : decode cX0_loopholeOf 73 = .ok (.invokevirtual 158, 3) := dk_182 0 158 (dk_at dksX0_loopholeOf_3 1 rfl rfl)
theorem dX0_loopholeOf_76 : decode cX0_loopholeOf 76 = .ok (.iconst 1, 1) := dk_4 (dk_at dksX0_loopholeOf_3 4 rfl rfl)
theorem dX0_loopholeOf_77 : decode cX0_loopholeOf 77 = .ok (.iadd, 1) := dk_96 (dk_at dksX0_loopholeOf_3 5 rfl rfl)
theorem dX0_loopholeOf_78 : decode cX0_loopholeOf 78 = .ok (.invokevirtual 461, 3) := dk_182 1 205 (dk_at dksX0_loopholeOf_3 6 rfl rfl)
theorem dX0_loopholeOf_81 : decode cX0_loopholeOf 81 = .ok (.ifCond .ne 5, 3) := dk_154 0 5 (dk_at dksX0_loopholeOf_3 9 rfl rfl)
theorem dX0_loopholeOf_84 : decode cX0_loopholeOf 84 = .ok (.iload_n 3, 1) := dk_29 (dk_at dksX0_loopholeOf_3 12 rfl rfl)
theorem dX0_loopholeOf_85 : decode cX0_loopholeOf 85 = .ok (.ireturn, 1) := dk_172 (dk_at dksX0_loopholeOf_3 13 rfl rfl)
theorem dX0_loopholeOf_86 : decode cX0_loopholeOf 86 = .ok (.iinc 3 1, 3) := dk_132 3 1 (dk_at dksX0_loopholeOf_3 14 rfl rfl)
theorem dX0_loopholeOf_89 : decode cX0_loopholeOf 89 = .ok (.goto (-64), 3) := dk_167 255 192 (dk_at dksX0_loopholeOf_3 17 rfl rfl)
theorem dX0_loopholeOf_92 : decode cX0_loopholeOf 92 = .ok (.iconst (-1), 1) := dk_2 (dk_at dksX0_loopholeOf_3 20 rfl rfl)
theorem dX0_loopholeOf_93 : decode cX0_loopholeOf 93 = .ok (.ireturn, 1) := dk_172 (dk_at dksX0_loopholeOf_3 21 rfl rfl)
def dkwX0_image_0 : List UInt8 := [42, 180, 0, 16, 42, 180, 0, 12, 182, 0, 58, 42, 180, 0, 12, 180, 0, 149, 4, 46, 172]
abbrev dktX0_image_0 : List UInt8 := dkwX0_image_0 ++ []
theorem dksX0_image_0 : cX0_image.data.toList.drop 0 = dktX0_image_0 := by decide +kernel
theorem dX0_image_0 : decode cX0_image 0 = .ok (.aload_n 0, 1) := dk_42 (dk_at dksX0_image_0 0 rfl rfl)
theorem dX0_image_1 : decode cX0_image 1 = .ok (.getfield 16, 3) := dk_180 0 16 (dk_at dksX0_image_0 1 rfl rfl)
theorem dX0_image_4 : decode cX0_image 4 = .ok (.aload_n 0, 1) := dk_42 (dk_at dksX0_image_0 4 rfl rfl)
theorem dX0_image_5 : decode cX0_image 5 = .ok (.getfield 12, 3) := dk_180 0 12 (dk_at dksX0_image_0 5 rfl rfl)
theorem dX0_image_8 : decode cX0_image 8 = .ok (.invokevirtual 58, 3) := dk_182 0 58 (dk_at dksX0_image_0 8 rfl rfl)
theorem dX0_image_11 : decode cX0_image 11 = .ok (.aload_n 0, 1) := dk_42 (dk_at dksX0_image_0 11 rfl rfl)
theorem dX0_image_12 : decode cX0_image 12 = .ok (.getfield 12, 3) := dk_180 0 12 (dk_at dksX0_image_0 12 rfl rfl)
theorem dX0_image_15 : decode cX0_image 15 = .ok (.getfield 149, 3) := dk_180 0 149 (dk_at dksX0_image_0 15 rfl rfl)
theorem dX0_image_18 : decode cX0_image 18 = .ok (.iconst 1, 1) := dk_4 (dk_at dksX0_image_0 18 rfl rfl)
theorem dX0_image_19 : decode cX0_image 19 = .ok (.iaload, 1) := dk_46 (dk_at dksX0_image_0 19 rfl rfl)
theorem dX0_image_20 : decode cX0_image 20 = .ok (.ireturn, 1) := dk_172 (dk_at dksX0_image_0 20 rfl rfl)
def dkwX0_back_0 : List UInt8 := [42, 180, 0, 12, 42, 180, 0, 16, 182, 0, 58, 42, 180, 0, 12, 180, 0, 149, 4, 46, 172]
abbrev dktX0_back_0 : List UInt8 := dkwX0_back_0 ++ []
theorem dksX0_back_0 : cX0_back.data.toList.drop 0 = dktX0_back_0 := by decide +kernel
theorem dX0_back_0 : decode cX0_back 0 = .ok (.aload_n 0, 1) := dk_42 (dk_at dksX0_back_0 0 rfl rfl)
theorem dX0_back_1 : decode cX0_back 1 = .ok (.getfield 12, 3) := dk_180 0 12 (dk_at dksX0_back_0 1 rfl rfl)
theorem dX0_back_4 : decode cX0_back 4 = .ok (.aload_n 0, 1) := dk_42 (dk_at dksX0_back_0 4 rfl rfl)
theorem dX0_back_5 : decode cX0_back 5 = .ok (.getfield 16, 3) := dk_180 0 16 (dk_at dksX0_back_0 5 rfl rfl)
theorem dX0_back_8 : decode cX0_back 8 = .ok (.invokevirtual 58, 3) := dk_182 0 58 (dk_at dksX0_back_0 8 rfl rfl)
theorem dX0_back_11 : decode cX0_back 11 = .ok (.aload_n 0, 1) := dk_42 (dk_at dksX0_back_0 11 rfl rfl)
theorem dX0_back_12 : decode cX0_back 12 = .ok (.getfield 12, 3) := dk_180 0 12 (dk_at dksX0_back_0 12 rfl rfl)
theorem dX0_back_15 : decode cX0_back 15 = .ok (.getfield 149, 3) := dk_180 0 149 (dk_at dksX0_back_0 15 rfl rfl)
theorem dX0_back_18 : decode cX0_back 18 = .ok (.iconst 1, 1) := dk_4 (dk_at dksX0_back_0 18 rfl rfl)
theorem dX0_back_19 : decode cX0_back 19 = .ok (.iaload, 1) := dk_46 (dk_at dksX0_back_0 19 rfl rfl)
theorem dX0_back_20 : decode cX0_back 20 = .ok (.ireturn, 1) := dk_172 (dk_at dksX0_back_0 20 rfl rfl)
def dkwX0_about_6 : List UInt8 := [180, 0, 66, 16, 6, 46, 172, 42, 180, 0, 116, 172, 42, 182, 0, 158, 172, 16, 254, 172]
abbrev dktX0_about_6 : List UInt8 := dkwX0_about_6 ++ []
def dkwX0_about_5 : List UInt8 := [180, 0, 12, 180, 0, 149, 3, 46, 172, 42, 180, 0, 12, 180, 0, 66, 8, 46, 172, 42, 180, 0, 12]
abbrev dktX0_about_5 : List UInt8 := dkwX0_about_5 ++ dktX0_about_6
def dkwX0_about_4 : List UInt8 := [46, 172, 42, 180, 0, 12, 180, 0, 66, 6, 46, 172, 42, 180, 0, 12, 180, 0, 66, 7, 46, 172, 42]
abbrev dktX0_about_4 : List UInt8 := dkwX0_about_4 ++ dktX0_about_5
def dkwX0_about_3 : List UInt8 := [180, 0, 149, 4, 46, 172, 42, 180, 0, 12, 180, 0, 149, 5, 46, 172, 42, 180, 0, 12, 180, 0, 66, 5]
abbrev dktX0_about_3 : List UInt8 := dkwX0_about_3 ++ dktX0_about_4
def dkwX0_about_2 : List UInt8 := [42, 180, 0, 12, 180, 0, 66, 3, 46, 172, 42, 180, 0, 12, 180, 0, 66, 4, 46, 172, 42, 180, 0, 12]
abbrev dktX0_about_2 : List UInt8 := dkwX0_about_2 ++ dktX0_about_3
def dkwX0_about_1 : List UInt8 := [170, 0, 0, 0, 0, 0, 174, 0, 0, 0, 0, 0, 0, 0, 11, 0, 0, 0, 63, 0, 0, 0, 73, 0, 0, 0, 83, 0, 0, 0, 93, 0, 0, 0, 103, 0, 0, 0, 113, 0, 0, 0, 123, 0, 0, 0, 133, 0, 0, 0, 143, 0, 0, 0, 153, 0, 0, 0, 164, 0, 0, 0, 169]
abbrev dktX0_about_1 : List UInt8 := dkwX0_about_1 ++ dktX0_about_2
def dkwX0_about_0 : List UInt8 := [27]
abbrev dktX0_about_0 : List UInt8 := dkwX0_about_0 ++ dktX0_about_1
theorem dksX0_about_0 : cX0_about.data.toList.drop 0 = dktX0_about_0 := by decide +kernel
theorem dksX0_about_1 : cX0_about.data.toList.drop 1 = dktX0_about_1 := dk_seg dksX0_about_0 1 rfl rfl
theorem dksX0_about_2 : cX0_about.data.toList.drop 64 = dktX0_about_2 := dk_seg dksX0_about_1 63 rfl rfl
theorem dksX0_about_3 : cX0_about.data.toList.drop 88 = dktX0_about_3 := dk_seg dksX0_about_2 24 rfl rfl
theorem dksX0_about_4 : cX0_about.data.toList.drop 112 = dktX0_about_4 := dk_seg dksX0_about_3 24 rfl rfl
theorem dksX0_about_5 : cX0_about.data.toList.drop 135 = dktX0_about_5 := dk_seg dksX0_about_4 23 rfl rfl
theorem dksX0_about_6 : cX0_about.data.toList.drop 158 = dktX0_about_6 := dk_seg dksX0_about_5 23 rfl rfl
theorem dX0_about_0 : decode cX0_about 0 = .ok (.iload_n 1, 1) := dk_27 (dk_at dksX0_about_0 0 rfl rfl)
theorem dX0_about_1 : decode cX0_about 1 = .ok (.tableswitch 174 0 11 #[63, 73, 83, 93, 103, 113, 123, 133, 143, 153, 164, 169], 63) := by decide +kernel
theorem dX0_about_64 : decode cX0_about 64 = .ok (.aload_n 0, 1) := dk_42 (dk_at dksX0_about_2 0 rfl rfl)
theorem dX0_about_65 : decode cX0_about 65 = .ok (.getfield 12, 3) := dk_180 0 12 (dk_at dksX0_about_2 1 rfl rfl)
theorem dX0_about_68 : decode cX0_about 68 = .ok (.getfield 66, 3) := dk_180 0 66 (dk_at dksX0_about_2 4 rfl rfl)
theorem dX0_about_71 : decode cX0_about 71 = .ok (.iconst 0, 1) := dk_3 (dk_at dksX0_about_2 7 rfl rfl)
theorem dX0_about_72 : decode cX0_about 72 = .ok (.iaload, 1) := dk_46 (dk_at dksX0_about_2 8 rfl rfl)
theorem dX0_about_73 : decode cX0_about 73 = .ok (.ireturn, 1) := dk_172 (dk_at dksX0_about_2 9 rfl rfl)
theorem dX0_about_74 : decode cX0_about 74 = .ok (.aload_n 0, 1) := dk_42 (dk_at dksX0_about_2 10 rfl rfl)
theorem dX0_about_75 : decode cX0_about 75 = .ok (.getfield 12, 3) := dk_180 0 12 (dk_at dksX0_about_2 11 rfl rfl)
theorem dX0_about_78 : decode cX0_about 78 = .ok (.getfield 66, 3) := dk_180 0 66 (dk_at dksX0_about_2 14 rfl rfl)
theorem dX0_about_81 : decode cX0_about 81 = .ok (.iconst 1, 1) := dk_4 (dk_at dksX0_about_2 17 rfl rfl)
theorem dX0_about_82 : decode cX0_about 82 = .ok (.iaload, 1) := dk_46 (dk_at dksX0_about_2 18 rfl rfl)
theorem dX0_about_83 : decode cX0_about 83 = .ok (.ireturn, 1) := dk_172 (dk_at dksX0_about_2 19 rfl rfl)
theorem dX0_about_84 : decode cX0_about 84 = .ok (.aload_n 0, 1) := dk_42 (dk_at dksX0_about_2 20 rfl rfl)
theorem dX0_about_85 : decode cX0_about 85 = .ok (.getfield 12, 3) := dk_180 0 12 (dk_at dksX0_about_2 21 rfl rfl)
theorem dX0_about_88 : decode cX0_about 88 = .ok (.getfield 149, 3) := dk_180 0 149 (dk_at dksX0_about_3 0 rfl rfl)
theorem dX0_about_91 : decode cX0_about 91 = .ok (.iconst 1, 1) := dk_4 (dk_at dksX0_about_3 3 rfl rfl)
theorem dX0_about_92 : decode cX0_about 92 = .ok (.iaload, 1) := dk_46 (dk_at dksX0_about_3 4 rfl rfl)
theorem dX0_about_93 : decode cX0_about 93 = .ok (.ireturn, 1) := dk_172 (dk_at dksX0_about_3 5 rfl rfl)
theorem dX0_about_94 : decode cX0_about 94 = .ok (.aload_n 0, 1) := dk_42 (dk_at dksX0_about_3 6 rfl rfl)
theorem dX0_about_95 : decode cX0_about 95 = .ok (.getfield 12, 3) := dk_180 0 12 (dk_at dksX0_about_3 7 rfl rfl)
theorem dX0_about_98 : decode cX0_about 98 = .ok (.getfield 149, 3) := dk_180 0 149 (dk_at dksX0_about_3 10 rfl rfl)
theorem dX0_about_101 : decode cX0_about 101 = .ok (.iconst 2, 1) := dk_5 (dk_at dksX0_about_3 13 rfl rfl)
theorem dX0_about_102 : decode cX0_about 102 = .ok (.iaload, 1) := dk_46 (dk_at dksX0_about_3 14 rfl rfl)
theorem dX0_about_103 : decode cX0_about 103 = .ok (.ireturn, 1) := dk_172 (dk_at dksX0_about_3 15 rfl rfl)
theorem dX0_about_104 : decode cX0_about 104 = .ok (.aload_n 0, 1) := dk_42 (dk_at dksX0_about_3 16 rfl rfl)
theorem dX0_about_105 : decode cX0_about 105 = .ok (.getfield 12, 3) := dk_180 0 12 (dk_at dksX0_about_3 17 rfl rfl)
theorem dX0_about_108 : decode cX0_about 108 = .ok (.getfield 66, 3) := dk_180 0 66 (dk_at dksX0_about_3 20 rfl rfl)
theorem dX0_about_111 : decode cX0_about 111 = .ok (.iconst 2, 1) := dk_5 (dk_at dksX0_about_3 23 rfl rfl)
theorem dX0_about_112 : decode cX0_about 112 = .ok (.iaload, 1) := dk_46 (dk_at dksX0_about_4 0 rfl rfl)
theorem dX0_about_113 : decode cX0_about 113 = .ok (.ireturn, 1) := dk_172 (dk_at dksX0_about_4 1 rfl rfl)
theorem dX0_about_114 : decode cX0_about 114 = .ok (.aload_n 0, 1) := dk_42 (dk_at dksX0_about_4 2 rfl rfl)
theorem dX0_about_115 : decode cX0_about 115 = .ok (.getfield 12, 3) := dk_180 0 12 (dk_at dksX0_about_4 3 rfl rfl)
theorem dX0_about_118 : decode cX0_about 118 = .ok (.getfield 66, 3) := dk_180 0 66 (dk_at dksX0_about_4 6 rfl rfl)
theorem dX0_about_121 : decode cX0_about 121 = .ok (.iconst 3, 1) := dk_6 (dk_at dksX0_about_4 9 rfl rfl)
theorem dX0_about_122 : decode cX0_about 122 = .ok (.iaload, 1) := dk_46 (dk_at dksX0_about_4 10 rfl rfl)
theorem dX0_about_123 : decode cX0_about 123 = .ok (.ireturn, 1) := dk_172 (dk_at dksX0_about_4 11 rfl rfl)
theorem dX0_about_124 : decode cX0_about 124 = .ok (.aload_n 0, 1) := dk_42 (dk_at dksX0_about_4 12 rfl rfl)
theorem dX0_about_125 : decode cX0_about 125 = .ok (.getfield 12, 3) := dk_180 0 12 (dk_at dksX0_about_4 13 rfl rfl)
theorem dX0_about_128 : decode cX0_about 128 = .ok (.getfield 66, 3) := dk_180 0 66 (dk_at dksX0_about_4 16 rfl rfl)
theorem dX0_about_131 : decode cX0_about 131 = .ok (.iconst 4, 1) := dk_7 (dk_at dksX0_about_4 19 rfl rfl)
theorem dX0_about_132 : decode cX0_about 132 = .ok (.iaload, 1) := dk_46 (dk_at dksX0_about_4 20 rfl rfl)
theorem dX0_about_133 : decode cX0_about 133 = .ok (.ireturn, 1) := dk_172 (dk_at dksX0_about_4 21 rfl rfl)
theorem dX0_about_134 : decode cX0_about 134 = .ok (.aload_n 0, 1) := dk_42 (dk_at dksX0_about_4 22 rfl rfl)
theorem dX0_about_135 : decode cX0_about 135 = .ok (.getfield 12, 3) := dk_180 0 12 (dk_at dksX0_about_5 0 rfl rfl)
theorem dX0_about_138 : decode cX0_about 138 = .ok (.getfield 149, 3) := dk_180 0 149 (dk_at dksX0_about_5 3 rfl rfl)
theorem dX0_about_141 : decode cX0_about 141 = .ok (.iconst 0, 1) := dk_3 (dk_at dksX0_about_5 6 rfl rfl)
theorem dX0_about_142 : decode cX0_about 142 = .ok (.iaload, 1) := dk_46 (dk_at dksX0_about_5 7 rfl rfl)
theorem dX0_about_143 : decode cX0_about 143 = .ok (.ireturn, 1) := dk_172 (dk_at dksX0_about_5 8 rfl rfl)
theorem dX0_about_144 : decode cX0_about 144 = .ok (.aload_n 0, 1) := dk_42 (dk_at dksX0_about_5 9 rfl rfl)
theorem dX0_about_145 : decode cX0_about 145 = .ok (.getfield 12, 3) := dk_180 0 12 (dk_at dksX0_about_5 10 rfl rfl)
theorem dX0_about_148 : decode cX0_about 148 = .ok (.getfield 66, 3) := dk_180 0 66 (dk_at dksX0_about_5 13 rfl rfl)
theorem dX0_about_151 : decode cX0_about 151 = .ok (.iconst 5, 1) := dk_8 (dk_at dksX0_about_5 16 rfl rfl)
theorem dX0_about_152 : decode cX0_about 152 = .ok (.iaload, 1) := dk_46 (dk_at dksX0_about_5 17 rfl rfl)
theorem dX0_about_153 : decode cX0_about 153 = .ok (.ireturn, 1) := dk_172 (dk_at dksX0_about_5 18 rfl rfl)
theorem dX0_about_154 : decode cX0_about 154 = .ok (.aload_n 0, 1) := dk_42 (dk_at dksX0_about_5 19 rfl rfl)
theorem dX0_about_155 : decode cX0_about 155 = .ok (.getfield 12, 3) := dk_180 0 12 (dk_at dksX0_about_5 20 rfl rfl)
theorem dX0_about_158 : decode cX0_about 158 = .ok (.getfield 66, 3) := dk_180 0 66 (dk_at dksX0_about_6 0 rfl rfl)
theorem dX0_about_161 : decode cX0_about 161 = .ok (.bipush 6, 2) := dk_16 6 (dk_at dksX0_about_6 3 rfl rfl)
theorem dX0_about_163 : decode cX0_about 163 = .ok (.iaload, 1) := dk_46 (dk_at dksX0_about_6 5 rfl rfl)
theorem dX0_about_164 : decode cX0_about 164 = .ok (.ireturn, 1) := dk_172 (dk_at dksX0_about_6 6 rfl rfl)
theorem dX0_about_165 : decode cX0_about 165 = .ok (.aload_n 0, 1) := dk_42 (dk_at dksX0_about_6 7 rfl rfl)
theorem dX0_about_166 : decode cX0_about 166 = .ok (.getfield 116, 3) := dk_180 0 116 (dk_at dksX0_about_6 8 rfl rfl)
theorem dX0_about_169 : decode cX0_about 169 = .ok (.ireturn, 1) := dk_172 (dk_at dksX0_about_6 11 rfl rfl)
theorem dX0_about_170 : decode cX0_about 170 = .ok (.aload_n 0, 1) := dk_42 (dk_at dksX0_about_6 12 rfl rfl)
theorem dX0_about_171 : decode cX0_about 171 = .ok (.invokevirtual 158, 3) := dk_182 0 158 (dk_at dksX0_about_6 13 rfl rfl)
theorem dX0_about_174 : decode cX0_about 174 = .ok (.ireturn, 1) := dk_172 (dk_at dksX0_about_6 16 rfl rfl)
theorem dX0_about_175 : decode cX0_about 175 = .ok (.bipush (-2), 2) := dk_16 254 (dk_at dksX0_about_6 17 rfl rfl)
theorem dX0_about_177 : decode cX0_about 177 = .ok (.ireturn, 1) := dk_172 (dk_at dksX0_about_6 19 rfl rfl)
